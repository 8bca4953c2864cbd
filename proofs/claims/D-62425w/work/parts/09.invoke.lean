/-! ===== invocations ===== -/
def xPh (p : Program) (l : Launch) (e : Env) (R : Room) (s : State) (m : MethodId) (args : Array Value) (below : List Frame) (meth : Method) (c : Code) (T : State) (locs : List Loc) (cells slots : Nat) (g : JFrame) (y : MethodName) (al rest : List Value) : Prop :=
  ∃ (mk : MethodId) (vm₁ : Vm), s.methodNamed? y = some mk ∧ Stand p l e R s m args below meth c (T.setVm vm₁) locs cells slots ∧
    ∀ target, (∀ acts, Steps p.tables e below (doInvoke e ((T.setVm vm₁).setTop { g with stack := rest }) acts mk al.toArray).1 target) → Steps p.tables e below (T.setTop g) target
/-- an exception n is on its way at pc of X -/
def xTh (G : XG) (l : Launch) (d : Nat) (X : XM) (Q : XOut → List AE → Prop) (pc : Nat) (ls : List Value) (n : Nat) (hp : List AE) : Prop :=
  ∀ (he : List AE) (p : Program) (e : Env) (s : State) (m : MethodId) (args : Array Value) (below : List Frame) (meth : Method) (c : Code), xCx G l X he p s m meth c →
    ∀ (T : State) (locs : List Loc) (cls : Array Slot), xRep G hp T.heap → (∀ q : Nat, q < G.base → T.heap[q]? = s.heap[q]?) → (∀ q ∈ locs, G.base ≤ q.base) → (he.length ≤ hp.length ∧ hp.length ≤ xCB) → (hsz he ≤ hsz hp ∧ hsz hp ≤ xSB) → xLoc G cls ls →
      Stand p l e (xroom d he) s m args below meth c T locs (hp.length - he.length) (hsz hp - hsz he) → ∀ stk, ∃ t, Steps p.tables e below ((T.setTop (F0 m pc cls stk)).pushFrame (.throwing (xloc G n))) t ∧ xZ G he below s Q t
section XV
variable {p : Program} {l : Launch} {e : Env} {R : Room} {s : State} {m : MethodId} {args : Array Value} {below : List Frame} {meth : Method} {c : Code} {T : State} {locs : List Loc} {cells slots : Nat} {G : XG} {X Y : XM} {he : List AE}
abbrev xnoMH (y : MethodName) : Prop := y.cls ≠ "java/lang/invoke/MethodHandle" ∧ y.cls ≠ "java/lang/invoke/VarHandle"
def xlkV (X : XM) (idx : Nat) (Y : XM) (ci np : Nat) : Prop := Cond.methodLink (xR X.own) idx Y.y ∈ lw_tbl ∧ Cond.instanceMethod Y.y ∈ lw_tbl ∧ Cond.selects (xR ci) Y.y Y.y ∈ lw_tbl ∧ xcode Y ∈ lw_tbl ∧ Cond.initialized Y.y.cls ∈ lw_tbl ∧ Y.maxL ≤ 18 ∧ xnoMH Y.y ∧ (parseMethodDescriptor Y.y.desc).map (fun d => d.parameters.length) = some np
def xlkS (X : XM) (idx : Nat) (Y : XM) (np : Nat) : Prop := Cond.methodLink (xR X.own) idx Y.y ∈ lw_tbl ∧ Cond.static Y.y ∈ lw_tbl ∧ xcode Y ∈ lw_tbl ∧ Cond.initialized Y.y.cls ∈ lw_tbl ∧ Y.maxL ≤ 18 ∧ xnoMH Y.y ∧ (parseMethodDescriptor Y.y.desc).map (fun d => d.parameters.length) = some np
def xlkSN (X : XM) (idx : Nat) (Y : XM) (np : Nat) : Prop := Cond.methodLinkNest (xR X.own) idx Y.y "TradeLink" ∈ lw_tbl ∧ Cond.static Y.y ∈ lw_tbl ∧ xcode Y ∈ lw_tbl ∧ Cond.initialized Y.y.cls ∈ lw_tbl ∧ Y.maxL ≤ 18 ∧ xnoMH Y.y ∧ (parseMethodDescriptor Y.y.desc).map (fun d => d.parameters.length) = some np
def xlkI (X : XM) (idx : Nat) (Y : XM) (np : Nat) : Prop := Cond.methodLink (xR X.own) idx Y.y ∈ lw_tbl ∧ Cond.instanceMethod Y.y ∈ lw_tbl ∧ Cond.code Y.y Y.code Y.maxL none ∈ lw_tbl ∧ Y.hh = [] ∧ Y.ret = none ∧ Cond.initialized Y.y.cls ∈ lw_tbl ∧ Y.maxL ≤ 18 ∧ xnoMH Y.y ∧ (parseMethodDescriptor Y.y.desc).map (fun d => d.parameters.length) = some np ∧ Y.y.name = "<init>"
def xlkIN (X : XM) (idx : Nat) (Y : XM) (np : Nat) : Prop := Cond.methodLinkNest (xR X.own) idx Y.y "TradeLink" ∈ lw_tbl ∧ Cond.instanceMethod Y.y ∈ lw_tbl ∧ Cond.code Y.y Y.code Y.maxL none ∈ lw_tbl ∧ Y.hh = [] ∧ Y.ret = none ∧ Cond.initialized Y.y.cls ∈ lw_tbl ∧ Y.maxL ≤ 18 ∧ xnoMH Y.y ∧ (parseMethodDescriptor Y.y.desc).map (fun d => d.parameters.length) = some np ∧ Y.y.name = "<init>"
theorem xcode_gw (Y : XM) : xgw (xcode Y) = true := by
  unfold xcode
  split <;> rfl
theorem xph_V (X0 : Stand p l e R s m args below meth c T locs cells slots) (C : xCx G l X he p s m meth c) {idx ci np : Nat} (hk : xlkV X idx Y ci np) {b : Addr} {cellB : Cell} (hcell : T.heap[b]? = some cellB) (hobj : cellB.vm.isStatics = false) (hcls : s.vm.findClass (xR ci) = some cellB.cls)
    {g : JFrame} (hg : g.method = m) {al rest : List Value} (hlen : al.length = np) (hstack : g.stack = al.reverse ++ .ref b :: rest) (hdg : decode X.code g.pc = .ok (.invokevirtual idx, 3)) : xPh p l e R s m args below meth c T locs cells slots g Y.y (.ref b :: al) rest := by
  obtain ⟨k1, k2, k3, k4, k5, k6, k7, k8⟩ := hk
  have hw := C.wd args
  obtain ⟨mk, methM, hnamed, hmethM, hstM, habM⟩ := Cond.instanceMethod_spec (hw _ (xw_in k2 rfl))
  obtain ⟨mk', methM', cM, hn', hmethM', -, -, -, -, -, -, hsigM⟩ := xcode_spec (X := Y) (hw _ (xw_in k4 (xcode_gw Y)))
  cases hnamed.symm.trans hn'
  cases hmethM.symm.trans hmethM'
  obtain ⟨c2, r2, m2, q1, q2, q3, q4, kP, hkP, hkPi⟩ := Cond.selects_spec (hw _ (xw_in k3 rfl))
  cases hcls.symm.trans q1
  cases (State.methodFound?_of_named hnamed k7).symm.trans q2
  cases hnamed.symm.trans q3
  have hselP : selectMethod e.platform s.vm cellB.cls mk = .method mk := by rw [Launch.admits_selectMethod X0.admits]; exact q4
  have hl : al.length = methM.sig.parameters.length := by
    rw [hsigM] at k8
    rw [hlen]
    exact (Option.some.inj k8).symm
  obtain ⟨vm₁, X₁, hstep₁⟩ := X0.invokevirtual C.ex C.ow (hw _ (xw_in k1 rfl)) hnamed hmethM hstM hkP hkPi k7 (a := b) (cell := cellB) hcell
    (fun z h => by rw [h] at hobj; cases hobj) hselP hmethM habM hkP hkPi (g := g) hg (argsL := al) (rest := rest) hl hstack (by rw [C.cd]; exact hdg)
  exact ⟨mk, vm₁, hnamed, X₁, hstep₁⟩
theorem xph_S (X0 : Stand p l e R s m args below meth c T locs cells slots) (C : xCx G l X he p s m meth c) {idx np : Nat} (hk : xlkS X idx Y np)
    {g : JFrame} (hg : g.method = m) {al rest : List Value} (hlen : al.length = np) (hstack : g.stack = al.reverse ++ rest) (hdg : decode X.code g.pc = .ok (.invokestatic idx, 3)) : xPh p l e R s m args below meth c T locs cells slots g Y.y al rest := by
  obtain ⟨k1, k2, k4, k5, k6, k7, k8⟩ := hk
  have hw := C.wd args
  obtain ⟨mk, methM, cM, hnamed, hmethM, -, -, -, -, -, -, hsigM⟩ := xcode_spec (X := Y) (hw _ (xw_in k4 (xcode_gw Y)))
  have hstatic : methM.isStatic = true := Cond.static_spec hnamed hmethM (hw _ (xw_in k2 rfl))
  obtain ⟨kP, hkP, -⟩ := className_of_methodNamed hnamed
  have hinitP : kP.init = .initialized := Cond.initialized_spec (findClass_of_methodNamed hnamed) hkP (hw _ (xw_in k5 rfl))
  have hl : al.length = methM.sig.parameters.length := by
    rw [hsigM] at k8
    rw [hlen]
    exact (Option.some.inj k8).symm
  obtain ⟨vm₁, X₁, hstep₁⟩ := X0.invokestatic C.ex C.ow (hw _ (xw_in k1 rfl)) hnamed hmethM hstatic hkP hinitP k7 (g := g) hg (argsL := al) (rest := rest) hl hstack (by rw [C.cd]; exact hdg)
  exact ⟨mk, vm₁, hnamed, X₁, hstep₁⟩
theorem xph_SN (X0 : Stand p l e R s m args below meth c T locs cells slots) (C : xCx G l X he p s m meth c) {idx np : Nat} (hk : xlkSN X idx Y np)
    {g : JFrame} (hg : g.method = m) {al rest : List Value} (hlen : al.length = np) (hstack : g.stack = al.reverse ++ rest) (hdg : decode X.code g.pc = .ok (.invokestatic idx, 3)) : xPh p l e R s m args below meth c T locs cells slots g Y.y al rest := by
  obtain ⟨k1, k2, k4, k5, k6, k7, k8⟩ := hk
  have hw := C.wd args
  obtain ⟨mk, methM, cM, hnamed, hmethM, -, -, -, -, -, -, hsigM⟩ := xcode_spec (X := Y) (hw _ (xw_in k4 (xcode_gw Y)))
  have hstatic : methM.isStatic = true := Cond.static_spec hnamed hmethM (hw _ (xw_in k2 rfl))
  obtain ⟨kP, hkP, -⟩ := className_of_methodNamed hnamed
  have hinitP : kP.init = .initialized := Cond.initialized_spec (findClass_of_methodNamed hnamed) hkP (hw _ (xw_in k5 rfl))
  have hl : al.length = methM.sig.parameters.length := by
    rw [hsigM] at k8
    rw [hlen]
    exact (Option.some.inj k8).symm
  obtain ⟨vm₁, X₁, hstep₁⟩ := X0.invokestaticNest C.ex C.ow (hw _ (xw_in k1 rfl)) hnamed hmethM hstatic hkP hinitP k7 (g := g) hg (argsL := al) (rest := rest) hl hstack (by rw [C.cd]; exact hdg)
  exact ⟨mk, vm₁, hnamed, X₁, hstep₁⟩
theorem xph_I (X0 : Stand p l e R s m args below meth c T locs cells slots) (C : xCx G l X he p s m meth c) {idx np : Nat} (hk : xlkI X idx Y np)
    {g : JFrame} (hg : g.method = m) {b : Addr} {al rest : List Value} (hlen : al.length = np) (hstack : g.stack = al.reverse ++ .ref b :: rest) (hdg : decode X.code g.pc = .ok (.invokespecial idx, 3)) : xPh p l e R s m args below meth c T locs cells slots g Y.y (.ref b :: al) rest := by
  obtain ⟨k1, k2, k4, -, -, k5, k6, k7, k8, k9⟩ := hk
  have hw := C.wd args
  subst hg
  have hpl : e.platform.magicAccessors = ({} : Platform).magicAccessors := by rw [X0.admits.platform]
  have hl : ∀ sig, parseMethodDescriptor Y.y.desc = some sig → al.length = sig.parameters.length := fun sig hs => by
    rw [hs] at k8
    rw [hlen]
    exact (Option.some.inj k8).symm
  obtain ⟨mk, methM, cM, kP, vm₁, hnamed, hmethM, hcodeM, -, hlocalsM, -, hkP, -, hW₁, hstep₁⟩ := Steps.initColdArgs (e := e) X0.here C.ex X0.warmed hpl C.ow k9 k7 (hw _ (xw_in k1 rfl)) (hw _ (xw_in k2 rfl)) (hw _ (xw_in k4 rfl)) (f := g) rfl hl hstack (by rw [C.cd]; exact hdg)
  exact ⟨mk, vm₁, hnamed, X0.noted hW₁, hstep₁⟩
theorem xph_IN (X0 : Stand p l e R s m args below meth c T locs cells slots) (C : xCx G l X he p s m meth c) {idx np : Nat} (hk : xlkIN X idx Y np)
    {g : JFrame} (hg : g.method = m) {b : Addr} {al rest : List Value} (hlen : al.length = np) (hstack : g.stack = al.reverse ++ .ref b :: rest) (hdg : decode X.code g.pc = .ok (.invokespecial idx, 3)) : xPh p l e R s m args below meth c T locs cells slots g Y.y (.ref b :: al) rest := by
  obtain ⟨k1, k2, k4, -, -, k5, k6, k7, k8, k9⟩ := hk
  have hw := C.wd args
  subst hg
  have hpl : e.platform.magicAccessors = ({} : Platform).magicAccessors := by rw [X0.admits.platform]
  have hl : ∀ sig, parseMethodDescriptor Y.y.desc = some sig → al.length = sig.parameters.length := fun sig hs => by
    rw [hs] at k8
    rw [hlen]
    exact (Option.some.inj k8).symm
  obtain ⟨mk, methM, cM, kP, vm₁, hnamed, hmethM, hcodeM, -, hlocalsM, -, hkP, -, hW₁, hstep₁⟩ := Steps.initColdArgsNest (e := e) X0.here C.ex X0.warmed hpl C.ow k9 k7 (hw _ (xw_in k1 rfl)) (hw _ (xw_in k2 rfl)) (hw _ (xw_in k4 rfl)) (f := g) rfl hl hstack (by rw [C.cd]; exact hdg)
  exact ⟨mk, vm₁, hnamed, X0.noted hW₁, hstep₁⟩
end XV
/-- behind the invoking instruction: the callee's contract; it returns or throws -/
theorem xk_go {G : XG} {l : Launch} {d : Nat} {X Y : XM} {Q Qc : XOut → List AE → Prop} {he hp : List AE} {p : Program} {e : Env} {s T : State} {m : MethodId} {args : Array Value} {below : List Frame} {meth : Method} {c : Code} {locs : List Loc} {cls : Array Slot} {pc : Nat} {ig : Instr} {ls st al stk : List Value}
    (C : xCx G l X he p s m meth c) (ph : xPh p l e (xroom (d + 1) he) s m args below meth c T locs (hp.length - he.length) (hsz hp - hsz he) (F0 m pc cls stk) Y.y (al.map (xcv G)) (st.map (xcv G))) (hM : xCt G l d Y al hp Qc) (hdg : decode X.code pc = .ok (ig, 3)) (hst : (st.map fun v => v.category).sum ≤ 8) (hw1 : xcode Y ∈ lw_tbl) (hw2 : Cond.initialized Y.y.cls ∈ lw_tbl) (hmx : Y.maxL ≤ 18) (hls : ls.length = X.maxL)
    (h1 : xRep G hp T.heap) (h2 : ∀ q : Nat, q < G.base → T.heap[q]? = s.heap[q]?) (h3 : ∀ q ∈ locs, G.base ≤ q.base) (h4 : he.length ≤ hp.length ∧ hp.length ≤ xCB) (h5 : hsz he ≤ hsz hp ∧ hsz hp ≤ xSB) (h6 : xLoc G cls ls)
    (hret : ∀ v hp', Qc (.inl v) hp' → xRn G l (d + 1) X Q (pc + 3) ls (v.toList ++ st) hp') (hthr : ∀ n hp', Qc (.inr n) hp' → 16 ≤ n → xTh G l (d + 1) X Q pc ls n hp') :
    ∃ t, Steps p.tables e below (T.setTop (F0 m pc cls stk)) t ∧ xZ G he below s Q t := by
  obtain ⟨mk, vm₁, hnamed, X₁, hstep⟩ := ph
  have hsum : ((st.map (xcv G)).map fun v => v.category).sum = (st.map fun v => v.category).sum := by
    rw [List.map_map]
    congr 1
    apply List.map_congr_left
    intro v _
    exact xcv_cat G v
  obtain ⟨u, hp', T', L, g1, g2, g3, g4, g5, g6, g7, g8, g9⟩ := xk_call (d := d) (g := F0 m pc cls (st.map (xcv G))) (ig := ig) (al := al) X₁ C hM rfl (by show cls.size = _; rw [C.ml, ← hls]; exact h6.1) (by rw [C.cd]; exact hdg) (by show 2 * 0 + ((st.map (xcv G)).map fun v => v.category).sum ≤ 8; rw [hsum]; omega) (X₁.named hnamed) (xw_in hw1 (xcode_gw Y)) (xw_in hw2 rfl) hmx h1 h2 h4 h5
  have hgo : ∀ target, Steps p.tables e below (match u with
        | .inl v => T'.setTop { (F0 m pc cls (st.map (xcv G))) with pc := pc + 3, stack := (v.map (xcv G)).toList ++ (st.map (xcv G)) }
        | .inr n => (T'.setTop (F0 m pc cls (st.map (xcv G)))).pushFrame (.throwing (xloc G n))) target → Steps p.tables e below (T.setTop (F0 m pc cls stk)) target := by
    intro target ht
    refine hstep target (fun acts => ?_)
    rw [doInvoke_state]
    exact g8.trans ht
  cases u with
  | inl v =>
    obtain ⟨t, a1, a2⟩ := hret v hp' g1 he p e s m args below meth c C T'.heap (locs ++ L) cls g2 g5 (t_lL h3 g6) g3 g4 h6 T' rfl g7
    refine ⟨t, hgo t ?_, a2⟩
    have e1 : (v.map (xcv G)).toList ++ st.map (xcv G) = (v.toList ++ st).map (xcv G) := by cases v <;> simp
    show Steps p.tables e below (T'.setTop (F0 m (pc + 3) cls ((v.map (xcv G)).toList ++ st.map (xcv G)))) t
    rw [e1]
    exact a1
  | inr n =>
    obtain ⟨t, a1, a2⟩ := hthr n hp' g1 (g9 n rfl) he p e s m args below meth c C T' (locs ++ L) cls g2 g5 (t_lL h3 g6) g3 g4 h6 g7 (st.map (xcv G))
    exact ⟨t, hgo t a1, a2⟩
section XC
variable {G : XG} {l : Launch} {d : Nat} {X Y : XM} {Q Qc : XOut → List AE → Prop} {pc nx idx np : Nat} {ls st al stk : List Value} {hp : List AE}
theorem xRn.callV {n ci : Nat} {fs : List Value} (hd : decode X.code pc = .ok (.invokevirtual idx, 3)) (hk : xlkV X idx Y ci np) (hn : xat hp n = some (xO ci fs)) (hal : al.length = np) (hM : xCt G l d Y (.ref n :: al) hp Qc) (hstk : stk = al.reverse ++ .ref n :: st) (hst : (st.map fun v => v.category).sum ≤ 8) (hls : ls.length = X.maxL) (hx : pc + 3 = nx)
    (hret : ∀ v hp', Qc (.inl v) hp' → xRn G l (d + 1) X Q nx ls (v.toList ++ st) hp') (hthr : ∀ n hp', Qc (.inr n) hp' → 16 ≤ n → xTh G l (d + 1) X Q pc ls n hp') : xRn G l (d + 1) X Q pc ls stk hp := by
  subst hx
  subst hstk
  intro he p e s m args below meth c C H locs cls h1 h2 h3 h4 h5 h6 T hT X0
  subst hT
  obtain ⟨hn0, hc11, -, cell, q1, q2, q3, -⟩ := xk_field h1 hn
  have e1 : (al.reverse ++ .ref n :: st).map (xcv G) = (al.map (xcv G)).reverse ++ .ref (xloc G n) :: st.map (xcv G) := by rw [List.map_append, List.map_cons, xcv_loc G hn0, List.map_reverse]
  have e2 : (Value.ref (xloc G n) :: al.map (xcv G)) = (.ref n :: al : List Value).map (xcv G) := by rw [List.map_cons, xcv_loc G hn0]
  rw [e1]
  have ph := xph_V (g := F0 m pc cls ((al.map (xcv G)).reverse ++ .ref (xloc G n) :: st.map (xcv G))) X0 C hk q1 (by rw [q3]; rfl) (by rw [q2]; exact (C.gs.2.1.1 ci _ (xC_at hc11)).2.1) rfl (al := al.map (xcv G)) (rest := st.map (xcv G)) (by rw [List.length_map]; exact hal) rfl hd
  rw [e2] at ph
  exact xk_go C ph hM hd hst hk.2.2.2.1 hk.2.2.2.2.1 hk.2.2.2.2.2.1 hls h1 h2 h3 h4 h5 h6 hret hthr
/-- a virtual call on a constant of the enum -/
theorem xRn.callE {n : Nat} (hd : decode X.code pc = .ok (.invokevirtual idx, 3)) (hk : xlkV X idx Y 12 np) (hn : 1 ≤ n ∧ n ≤ 10) (hal : al.length = np) (hM : xCt G l d Y (.ref n :: al) hp Qc) (hstk : stk = al.reverse ++ .ref n :: st) (hst : (st.map fun v => v.category).sum ≤ 8) (hls : ls.length = X.maxL) (hx : pc + 3 = nx)
    (hret : ∀ v hp', Qc (.inl v) hp' → xRn G l (d + 1) X Q nx ls (v.toList ++ st) hp') (hthr : ∀ n hp', Qc (.inr n) hp' → 16 ≤ n → xTh G l (d + 1) X Q pc ls n hp') : xRn G l (d + 1) X Q pc ls stk hp := by
  subst hx
  subst hstk
  intro he p e s m args below meth c C H locs cls h1 h2 h3 h4 h5 h6 T hT X0
  subst hT
  have hn0 : n ≠ 0 := by omega
  obtain ⟨cell, q1, q2, q3⟩ := va_recvE C.gs.2.2.1 (show n - 1 < xEn.length by show n - 1 < 10; omega) (xS_of C h1 h2 h3 h4)
  have hloc : xloc G n = G.ad (n - 1) := by unfold xloc; rw [if_pos (by omega)]
  rw [← hloc] at q1
  have e1 : (al.reverse ++ .ref n :: st).map (xcv G) = (al.map (xcv G)).reverse ++ .ref (xloc G n) :: st.map (xcv G) := by rw [List.map_append, List.map_cons, xcv_loc G hn0, List.map_reverse]
  have e2 : (Value.ref (xloc G n) :: al.map (xcv G)) = (.ref n :: al : List Value).map (xcv G) := by rw [List.map_cons, xcv_loc G hn0]
  rw [e1]
  have ph := xph_V (g := F0 m pc cls ((al.map (xcv G)).reverse ++ .ref (xloc G n) :: st.map (xcv G))) X0 C hk q1 q2 q3 rfl (al := al.map (xcv G)) (rest := st.map (xcv G)) (by rw [List.length_map]; exact hal) rfl hd
  rw [e2] at ph
  exact xk_go C ph hM hd hst hk.2.2.2.1 hk.2.2.2.2.1 hk.2.2.2.2.2.1 hls h1 h2 h3 h4 h5 h6 hret hthr
theorem xRn.callS (hd : decode X.code pc = .ok (.invokestatic idx, 3)) (hk : xlkS X idx Y np) (hal : al.length = np) (hM : xCt G l d Y al hp Qc) (hstk : stk = al.reverse ++ st) (hst : (st.map fun v => v.category).sum ≤ 8) (hls : ls.length = X.maxL) (hx : pc + 3 = nx)
    (hret : ∀ v hp', Qc (.inl v) hp' → xRn G l (d + 1) X Q nx ls (v.toList ++ st) hp') (hthr : ∀ n hp', Qc (.inr n) hp' → 16 ≤ n → xTh G l (d + 1) X Q pc ls n hp') : xRn G l (d + 1) X Q pc ls stk hp := by
  subst hx
  subst hstk
  intro he p e s m args below meth c C H locs cls h1 h2 h3 h4 h5 h6 T hT X0
  subst hT
  rw [List.map_append, List.map_reverse]
  have ph := xph_S (g := F0 m pc cls ((al.map (xcv G)).reverse ++ st.map (xcv G))) X0 C hk rfl (al := al.map (xcv G)) (rest := st.map (xcv G)) (by rw [List.length_map]; exact hal) rfl hd
  exact xk_go C ph hM hd hst hk.2.2.1 hk.2.2.2.1 hk.2.2.2.2.1 hls h1 h2 h3 h4 h5 h6 hret hthr
theorem xRn.callSN (hd : decode X.code pc = .ok (.invokestatic idx, 3)) (hk : xlkSN X idx Y np) (hal : al.length = np) (hM : xCt G l d Y al hp Qc) (hstk : stk = al.reverse ++ st) (hst : (st.map fun v => v.category).sum ≤ 8) (hls : ls.length = X.maxL) (hx : pc + 3 = nx)
    (hret : ∀ v hp', Qc (.inl v) hp' → xRn G l (d + 1) X Q nx ls (v.toList ++ st) hp') (hthr : ∀ n hp', Qc (.inr n) hp' → 16 ≤ n → xTh G l (d + 1) X Q pc ls n hp') : xRn G l (d + 1) X Q pc ls stk hp := by
  subst hx
  subst hstk
  intro he p e s m args below meth c C H locs cls h1 h2 h3 h4 h5 h6 T hT X0
  subst hT
  rw [List.map_append, List.map_reverse]
  have ph := xph_SN (g := F0 m pc cls ((al.map (xcv G)).reverse ++ st.map (xcv G))) X0 C hk rfl (al := al.map (xcv G)) (rest := st.map (xcv G)) (by rw [List.length_map]; exact hal) rfl hd
  exact xk_go C ph hM hd hst hk.2.2.1 hk.2.2.2.1 hk.2.2.2.2.1 hls h1 h2 h3 h4 h5 h6 hret hthr
theorem xlk_code {Y : XM} (h1 : Cond.code Y.y Y.code Y.maxL none ∈ lw_tbl) (h2 : Y.hh = []) (h3 : Y.ret = none) : xcode Y ∈ lw_tbl := by
  unfold xcode
  rw [h2, h3]
  exact h1
theorem xRn.callI {n : Nat} (hd : decode X.code pc = .ok (.invokespecial idx, 3)) (hk : xlkI X idx Y np) (hn : n ≠ 0) (hal : al.length = np) (hM : xCt G l d Y (.ref n :: al) hp Qc) (hstk : stk = al.reverse ++ .ref n :: st) (hst : (st.map fun v => v.category).sum ≤ 8) (hls : ls.length = X.maxL) (hx : pc + 3 = nx)
    (hret : ∀ v hp', Qc (.inl v) hp' → xRn G l (d + 1) X Q nx ls (v.toList ++ st) hp') (hthr : ∀ n hp', Qc (.inr n) hp' → 16 ≤ n → xTh G l (d + 1) X Q pc ls n hp') : xRn G l (d + 1) X Q pc ls stk hp := by
  subst hx
  subst hstk
  intro he p e s m args below meth c C H locs cls h1 h2 h3 h4 h5 h6 T hT X0
  subst hT
  have e1 : (al.reverse ++ .ref n :: st).map (xcv G) = (al.map (xcv G)).reverse ++ .ref (xloc G n) :: st.map (xcv G) := by rw [List.map_append, List.map_cons, xcv_loc G hn, List.map_reverse]
  have e2 : (Value.ref (xloc G n) :: al.map (xcv G)) = (.ref n :: al : List Value).map (xcv G) := by rw [List.map_cons, xcv_loc G hn]
  rw [e1]
  have ph := xph_I (g := F0 m pc cls ((al.map (xcv G)).reverse ++ .ref (xloc G n) :: st.map (xcv G))) X0 C hk rfl (b := xloc G n) (al := al.map (xcv G)) (rest := st.map (xcv G)) (by rw [List.length_map]; exact hal) rfl hd
  rw [e2] at ph
  exact xk_go C ph hM hd hst (xlk_code hk.2.2.1 hk.2.2.2.1 hk.2.2.2.2.1) hk.2.2.2.2.2.1 hk.2.2.2.2.2.2.1 hls h1 h2 h3 h4 h5 h6 hret hthr
theorem xRn.callIN {n : Nat} (hd : decode X.code pc = .ok (.invokespecial idx, 3)) (hk : xlkIN X idx Y np) (hn : n ≠ 0) (hal : al.length = np) (hM : xCt G l d Y (.ref n :: al) hp Qc) (hstk : stk = al.reverse ++ .ref n :: st) (hst : (st.map fun v => v.category).sum ≤ 8) (hls : ls.length = X.maxL) (hx : pc + 3 = nx)
    (hret : ∀ v hp', Qc (.inl v) hp' → xRn G l (d + 1) X Q nx ls (v.toList ++ st) hp') (hthr : ∀ n hp', Qc (.inr n) hp' → 16 ≤ n → xTh G l (d + 1) X Q pc ls n hp') : xRn G l (d + 1) X Q pc ls stk hp := by
  subst hx
  subst hstk
  intro he p e s m args below meth c C H locs cls h1 h2 h3 h4 h5 h6 T hT X0
  subst hT
  have e1 : (al.reverse ++ .ref n :: st).map (xcv G) = (al.map (xcv G)).reverse ++ .ref (xloc G n) :: st.map (xcv G) := by rw [List.map_append, List.map_cons, xcv_loc G hn, List.map_reverse]
  have e2 : (Value.ref (xloc G n) :: al.map (xcv G)) = (.ref n :: al : List Value).map (xcv G) := by rw [List.map_cons, xcv_loc G hn]
  rw [e1]
  have ph := xph_IN (g := F0 m pc cls ((al.map (xcv G)).reverse ++ .ref (xloc G n) :: st.map (xcv G))) X0 C hk rfl (b := xloc G n) (al := al.map (xcv G)) (rest := st.map (xcv G)) (by rw [List.length_map]; exact hal) rfl hd
  rw [e2] at ph
  exact xk_go C ph hM hd hst (xlk_code hk.2.2.1 hk.2.2.2.1 hk.2.2.2.2.1) hk.2.2.2.2.2.1 hk.2.2.2.2.2.2.1 hls h1 h2 h3 h4 h5 h6 hret hthr
end XC
