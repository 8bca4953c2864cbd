/-! ===== exceptions ===== -/
/-- a walk's point taken as a fresh invocation's: whatever was done before belongs to its start -/
theorem xk_rebase {p : Program} {l : Launch} {e : Env} {R R' : Room} {s : State} {m : MethodId} {args : Array Value} {below : List Frame} {meth : Method} {c : Code} {T : State} {locs : List Loc} {cells slots : Nat} (X : Stand p l e R s m args below meth c T locs cells slots) (hf : R'.frames ≤ R.frames) (hl : R'.locals ≤ R.locals) (hc : cells + R'.cells ≤ R.cells) (hs : slots + R'.slots ≤ R.slots) :
    Stand p l e R' (T.setFrames (.invoking m args :: below)) m args below meth c T [] 0 0 := by
  obtain ⟨g₀, hfr⟩ := X.frames_eq
  have hcur : T.cur < T.threads.size := State.cur_lt_of_frames hfr
  have hF : (T.setFrames (.invoking m args :: below)).frames = .invoking m args :: below := State.frames_setFrames _ hcur
  have hroom : (T.setFrames (.invoking m args :: below)).hasRoom e.platform R' = true := by
    have h₀ := X.room
    obtain ⟨r1, r2, r3, r4⟩ := State.hasRoom_stack h₀
    have r5 := State.hasRoom_real h₀
    have h := h₀
    simp only [State.hasRoom, Bool.and_eq_true, decide_eq_true_eq] at h
    rw [State.localsInUse_invoking X.frames X.method X.code] at r3 r4 r5
    rw [X.frames, List.length_cons] at r1 r2
    have hU : (T.setFrames (.invoking m args :: below)).localsInUse = stackWeight below + vmFrameWords + (c.maxLocals + 11) := State.localsInUse_invoking hF X.method' X.code
    have hh := X.heapSize
    have hu := X.used
    simp only [State.hasRoom, Bool.and_eq_true, decide_eq_true_eq, hF, hU, List.length_cons, State.stackLimits_setFrames, State.stackBytes_setFrames, X.limits, X.bytes]
    refine ⟨⟨⟨⟨by omega, by omega, by omega, by omega, by omega, h.1.1.1.2.2.2.2.2⟩, ?_⟩, ?_⟩, X.book⟩
    · have := h.1.1.2
      show T.heap.size + R'.cells ≤ e.platform.maxCells
      omega
    · have := h.1.2
      show T.slotsUsed + R'.slots ≤ e.platform.maxSlots
      omega
  have hhears : (T.setFrames (.invoking m args :: below)).hears m below = true := by
    have h := X.hears
    have hm : ∀ z : MethodId, T.vm.method? z = s.vm.method? z := fun z => X.warmed.alike.method? z
    have hcode : ∀ z : MethodId, (T.setFrames (.invoking m args :: below)).code? z = s.code? z := fun z => by
      rw [State.code?_eq, State.code?_eq]
      show (T.vm.method? z).bind _ = _
      rw [hm]
    unfold State.hears at h ⊢
    split at h
    · rename_i g r
      rw [hcode]
      exact h
    · rfl
    · rfl
    · show (T.vm.method? m).any _ = true
      rw [hm]
      exact h
  refine ⟨X.admits, X.cas, X.clock, hF, hroom, hhears, X.method', X.code, X.here, X.tail, State.WarmedH.refl _, by rw [State.stackLimits_setFrames], by rw [State.stackBytes_setFrames], ?_⟩
  obtain ⟨t, ht, -⟩ := State.frames_cons hF
  have h := (State.sameButNew.refl (T.setFrames (.invoking m args :: below)) ht).setFrames T.frames (by simpa [State.setFrames] using hcur)
  obtain ⟨t', ht', -⟩ := State.frames_cons hfr
  rw [State.setFrames_setFrames, State.setFrames_self ht'] at h
  exact h
/-- the chain of superclasses between an exception of this program and Throwable -/
def xnames : List String := ["java/lang/RuntimeException", "java/lang/Exception"]
/-- no handler of X covers pc -/
def xout (X : XM) (pc : Nat) : Bool := X.hh.all (fun h => !(decide (h.1 ≤ pc) && decide (pc < h.2.1)))
theorem xout_ok {G : XG} {l : Launch} {X : XM} {he : List AE} {p : Program} {s : State} {m : MethodId} {meth : Method} {c : Code} (C : xCx G l X he p s m meth c) {pc : Nat} (h : xout X pc = true) : ∀ x ∈ c.exceptionTable.toList, covers x pc = false := by
  intro x hx
  have h1 : (x.startPc, x.endPc, x.handlerPc, x.catchType) ∈ X.hh := by
    rw [← C.hd]
    exact List.mem_map.mpr ⟨x, hx, rfl⟩
  have h2 := List.all_eq_true.mp h _ h1
  cases hc : covers x pc with
  | false => rfl
  | true =>
    rw [show (decide (x.startPc ≤ pc) && decide (pc < x.endPc)) = true from hc] at h2
    cases h2
/-- throw new X(): the four instructions from 'new' on -/
theorem xRn.throw {G : XG} {l : Launch} {d : Nat} {X : XM} {Q : XOut → List AE → Prop} {pc pc1 pc2 pc3 idx ic ci : Nat} {ls : List Value} {hp : List AE} (hd0 : decode X.code pc = .ok (.new idx, 3)) (hd1 : decode X.code pc1 = .ok (.dup, 1)) (hd2 : decode X.code pc2 = .ok (.invokespecial ic, 3)) (hd3 : decode X.code pc3 = .ok (.athrow, 1)) (e1 : pc + 3 = pc1) (e2 : pc1 + 1 = pc2) (e3 : pc2 + 3 = pc3)
    (hr : (X.own, idx, ci) ∈ xCr) (hci : 7 ≤ ci ∧ ci < 11) (hat : ∀ a ∈ Bundle.ownAtoms0 (xR X.own) ic (xR ci) xnames, (a ∈ lw_tbl ∧ xgw a = true) ∨ a ∈ xTw) (hfit : Bundle.fit (xR ci) = true) (ho : xout X pc3 = true) (hdd : 6 ≤ d) (hls : ls.length = X.maxL) (hb1 : hp.length + 1 ≤ xCB) (hb2 : hsz hp + 6 ≤ xSB)
    (hq : Q (.inr (16 + hp.length)) (hp ++ [xO ci []])) : xRn G l d X Q pc ls [] hp := by
  subst e1 e2 e3
  intro he p e s m args below meth c C H locs cls h1 h2 h3 h4 h5 h6 T hT X0
  subst hT
  have hxs : xS ci = 6 := by unfold xS; rw [if_neg (by omega)]
  have hxn : xN ci = 0 := by
    have : ci = 7 ∨ ci = 8 ∨ ci = 9 ∨ ci = 10 := by omega
    rcases this with rfl | rfl | rfl | rfl <;> rfl
  -- the point as a fresh invocation's
  have Y := xk_rebase (R' := { frames := d, cells := 1, slots := 6, locals := 37 * d }) X0 (Nat.le_refl _) (Nat.le_refl _) (by show _ + 1 ≤ xCB - he.length; omega) (by show _ + 6 ≤ xSB - hsz he; omega)
  have hGT : xGs G (T.setFrames (.invoking m args :: below)) := C.gs.moved (U := T.setFrames (.invoking m args :: below)) X0.warmed (by show G.base ≤ T.heap.size; rw [h1.1]; omega) h2 C.rp.ns
  have hC' : xCx G l X hp p (T.setFrames (.invoking m args :: below)) m meth c := ⟨C.ex, C.cd, C.ml, C.rt, C.lk, by show T.vm.findClass _ = _; rw [X0.warmed.alike.findClass]; exact C.ow, C.nm, C.hd, hGT, h1, C.tr⟩
  have hw := hGT.word args
  have hKn := hGT.2.1.1 ci _ (xC_at hci.2)
  have key : W p l e { frames := d, cells := 1, slots := 6, locals := 37 * d } (T.setFrames (.invoking m args :: below)) m args below meth c T.heap [] 0 0 (fun U => U.status = .running ∧ Ended U below (.threw T.heap.size) ∧ (T.setFrames (.invoking m args :: below)).WarmedH U.vm ∧ (T.setFrames (.invoking m args :: below)).sameButNew ({ U with vm := (T.setFrames (.invoking m args :: below)).vm } : State) [] 1 6 ∧ ∃ ce : Cell, U.heap[T.heap.size]? = some ce ∧ ce.cls = G.dC ci ∧ ce.vm = .none) (F0 m pc cls []) := by
    refine W.newcK hC'.ex hC'.cd hC'.ow (hw _ (xCr_w _ hr)) (by have := hw _ (xinst_w hci.2); rw [hxs] at this; exact this) (hw _ (xini_w (o := ci) (by omega))) rfl hd0 (by show 0 + 1 ≤ 1; omega) (by show 0 + 6 ≤ 6; omega) hKn.2.1 rfl fun H1 kC hkC g1 g2 g3 => ?_
    refine lv_dup hC'.ex hC'.cd hd1 rfl ?_
    intro T1 hT1 X1
    have htr : e.platform.stackTraces = false := by rw [X1.admits.platform]; exact C.tr
    obtain ⟨U, a1, a2, a3, a4, a5, ce, a6, a7⟩ := X1.ctorThrow0 hC'.ex htr (own := xR X.own) (cls := xR ci) (names := xnames) (ic := ic) hC'.ow hfit (by decide +kernel) (fun a ha => by
        rcases hat a ha with ⟨q1, q2⟩ | q
        · exact hw _ (xw_in q1 q2)
        · exact xTw_warm (A := #[]) (State.WarmedH.refl _) (fun a cell hc hs => hc) hGT.2.2.2.2.2.1 a q) (fun x hx => by cases hx) hKn.2.1 hkC (by rw [hT1]; exact g1) (Nat.le_refl _) (g := F0 m (pc + 3 + 1) cls [.ref T.heap.size, .ref T.heap.size]) rfl (by show cls.size = _; rw [C.ml, ← hls]; exact h6.1) rfl rfl (rest := []) rfl (by rw [hC'.cd]; exact hd2) (by rw [hC'.cd]; exact hd3) (xout_ok hC' ho) (by show 2 + 3 < d; omega) (by show 2 * 0 + (1 + 0) + (13 * (2 + 1) + 41) ≤ 37 * d; omega) C.lk
    exact ⟨U, a1, a2, a3, a4, a5, ce, a6, Option.some.inj (a7.cls.symm.trans hKn.2.1), a7.vm⟩
  obtain ⟨U, b1, b2, b3, b4, b5, ce, b6, b7, b8⟩ := key T rfl Y
  have hold : ∀ q : Nat, q < T.heap.size → U.heap[q]? = T.heap[q]? := by
    intro q hq
    obtain ⟨-, -, -, -, -, k6⟩ := b5
    obtain ⟨c', k1, k2, k3, k4⟩ := k6 q T.heap[q] (Array.getElem?_eq_getElem (show q < T.heap.size from hq))
    have hcc : c' = T.heap[q] := by
      rw [k2]
      have : c'.slots = T.heap[q].slots := by
        apply Array.ext_getElem?
        intro i
        exact k4 i (by simp)
      rw [this]
    rw [Array.getElem?_eq_getElem hq, ← hcc]
    exact k1
  have hsize : U.heap.size = T.heap.size + 1 := by
    have k3 : U.heap.size ≤ T.heap.size + 1 := b5.2.2.1
    have := (Array.getElem?_eq_some_iff.mp b6).1
    omega
  have hrep : xRep G (hp ++ [xO ci []]) U.heap := h1.push hsize hold ⟨by omega, by rw [hxn]; rfl, by rw [hxn]; exact ⟨ce, b6, b7, b8, fun k hk => absurd hk (by omega)⟩⟩
  have hz : hsz (hp ++ [xO ci []]) = hsz hp + 6 := by rw [hsz_app]; show hsz hp + (xS ci + 0) = _; rw [hxs]
  have hlen : (hp ++ [xO ci []]).length = hp.length + 1 := by simp
  have hloc : xloc G (16 + hp.length) = T.heap.size := by rw [xloc_hp G (by omega), h1.1, show 16 + hp.length - 16 = hp.length by omega]
  refine ⟨U, b1, .threw T.heap.size, b2, b3, .inr (16 + hp.length), hp ++ [xO ci []], ⟨by rw [hloc], by omega⟩, hq, hrep, ⟨by omega, by omega⟩, ⟨by omega, by omega⟩, State.WarmedH.trans X0.warmed b4, fun q hq => (hold q (by rw [h1.1]; omega)).trans (h2 q hq), locs, ?_, h3⟩
  have ha := X0.same.setFrames (.invoking m args :: below) X0.cur
  have hb := ha.trans (b5.setVm s.vm)
  rw [List.append_nil, show hp.length - he.length + 1 = (hp ++ [xO ci []]).length - he.length by omega, show hsz hp - hsz he + 6 = hsz (hp ++ [xO ci []]) - hsz he by omega] at hb
  exact hb
/-- out of the method -/
theorem xTh.out {G : XG} {l : Launch} {d : Nat} {X : XM} {Q : XOut → List AE → Prop} {pc n : Nat} {ls : List Value} {hp : List AE} (ho : xout X pc = true) (hn : 16 ≤ n) (hq : Q (.inr n) hp) : xTh G l d X Q pc ls n hp := by
  intro he p e s m args below meth c C T locs cls h1 h2 h3 h4 h5 h6 X0 stk
  obtain ⟨b1, b2, b3, b4, b5⟩ := X0.leaveThrown (xloc G n) (g := F0 m pc cls stk) rfl rfl rfl (xout_ok C ho) C.lk
  exact ⟨_, b1, .threw (xloc G n), b2, b3, .inr n, hp, ⟨rfl, hn⟩, hq, h1, h4, h5, b4, h2, locs, b5, h3⟩
/-- a handler whose class is named by an entry that may not have been resolved yet -/
theorem xk_goCold {e : Env} {s : State} {f : JFrame} {a : Addr} {Q : Handler → Pre} {E : CtlPost} {d : Bool} {acts : List Action} {x : ExceptionTableEntry} {t : List ExceptionTableEntry} {cC : ClassId} {vm' : Vm} {cell : Cell} (hx : covers x f.pc = true) (h0 : x.catchType ≠ 0)
    (hg : (Jvm.resolveClass f.method.cls x.catchType).Gives e.toSetting s.vm (.ok cC) vm') (hsz : vm'.classes.size ≤ s.vm.classes.size) (hcell : s.heap[a]? = some cell) (hobj : ∀ k, cell.vm ≠ .statics k)
    (hk : ∃ k, vm'.classes[cell.cls]? = some k) (hc : ∃ k, vm'.classes[cC]? = some k) :
    wp (findHandler.go f a (x :: t)) Q E e d acts s ↔
      if vm'.assignable cell.cls cC = true then Q (.found x.handlerPc) d acts (s.setVm vm') else wp (findHandler.go f a t) Q E e d acts (s.setVm vm') := by
  simp only [covers] at hx
  have hop : (VmOp.resolveClass f.method.cls x.catchType).answer e s.vm = .ok cC ∧ (VmOp.resolveClass f.method.cls x.catchType).tables e s.vm = vm' := hg.op rfl
  have hcell' : (s.setVm vm').heap[a]? = some cell := hcell
  cases hfit : vm'.assignable cell.cls cC <;>
    simp [findHandler.go, hx, h0, hop, VmOp.lands_eq hop.2 hsz, hcell, hcell', hobj, hk, hc, hfit, VmOp.dirties, VmOp.acts]
theorem xk_catchStep {e : Env} {s s' : State} {a : Addr} {f : JFrame} {r : List Frame} {pc : Nat} (hfind : ∀ (Q : Handler → Pre) (E : CtlPost) (d : Bool) (acts : List Action), wp (findHandler f a) Q E e d acts s ↔ Q (.found pc) d acts s') :
    (stepThrowing e s a (.java f :: r)).Is (s'.setFrames (.java { f with pc := pc, stack := [.ref a] } :: r)) [] := by
  simp only [stepThrowing, searchFrame, vmDo]
  generalize hr : Sem.go _ e false [] s = res
  obtain ⟨as, rfl, ha⟩ := Sem.eq_ok_of hr (a := Handler.found pc) (s' := s') (acts' := []) (by simp [hfind _ _ _ _])
  exact ⟨rfl, ha⟩
theorem xk_caught {tb : Tables} {e : Env} {T target : State} {g : JFrame} {c : Code} {below : List Frame} {a : Addr} {pc : Nat} {vm' : Vm} (h : At T g.method c below)
    (hfind : ∀ (Q : Handler → Pre) (E : CtlPost) (d : Bool) (acts : List Action), wp (findHandler g a) Q E e d acts ((T.setTop g).pushFrame (.throwing a)) ↔ Q (.found pc) d acts (((T.setTop g).pushFrame (.throwing a)).setVm vm'))
    (hrest : Steps tb e below ((T.setVm vm').setTop { g with pc := pc, stack := [.ref a] }) target) : Steps tb e below ((T.setTop g).pushFrame (.throwing a)) target := by
  obtain ⟨hgo, hw⟩ := h.throwing a
  refine Steps.head hgo hw ?_
  rw [stepThread_throwing (frames_entered h.top _), (xk_catchStep (s := (T.setTop g).pushFrame (.throwing a)) hfind).1]
  obtain ⟨g₀, hg⟩ := Option.isSome_iff_exists.mp h.top
  obtain ⟨r, hr⟩ := State.topJava?_eq_some.mp hg
  have hr' : (T.setVm vm').frames = .java g₀ :: r := hr
  have e1 : (((T.setTop g).pushFrame (.throwing a)).setVm vm').setFrames (.java { g with pc := pc, stack := [.ref a] } :: T.frames.tail) = (T.setVm vm').setTop { g with pc := pc, stack := [.ref a] } := by
    rw [State.pushFrame, State.setTop_of_frames _ hr, State.setTop_of_frames _ hr', State.setFrames_setFrames, hr]
    show ((T.setVm vm').setFrames _).setFrames _ = _
    rw [State.setFrames_setFrames]
    rfl
  rw [e1]
  exact hrest
theorem xk_link {G : XG} {l : Launch} {X : XM} {he : List AE} {p : Program} {e : Env} {R : Room} {s T : State} {m : MethodId} {args : Array Value} {below : List Frame} {meth : Method} {c : Code} {locs : List Loc} {cells slots : Nat} (C : xCx G l X he p s m meth c) (X0 : Stand p l e R s m args below meth c T locs cells slots) {ct ci : Nat} (hr : (X.own, ct, ci) ∈ xCr) (hci : ci < 11) {vm0 : Vm} (hW0 : s.WarmedH vm0) :
    ∃ vm1, (Jvm.resolveClass m.cls ct).Gives e.toSetting vm0 (.ok (G.dC ci)) vm1 ∧ s.WarmedH vm1 ∧ vm1.classes.size ≤ vm0.classes.size ∧ (∃ k, vm1.classes[G.dC ci]? = some k) := by
  have hpl : e.platform.magicAccessors = ({} : Platform).magicAccessors := by rw [X0.admits.platform]
  obtain ⟨cc, hfcc, hcl⟩ := Cond.classLink_spec C.ow (C.wd args _ (xCr_w _ hr)) e.platform hpl
  obtain ⟨hfc, kC, hkC, -⟩ := (C.gs.2.1.1 ci _ (xC_at hci)).2
  cases hfc.symm.trans hfcc
  obtain ⟨h1, h2, h3⟩ := State.classEntry (e := e) hW0 hcl
  obtain ⟨k1, hk1, -⟩ := h2.alike.2.2 _ _ hkC
  exact ⟨_, h1, h2, by rw [Vm.size_noted]; exact Nat.le_refl _, k1, hk1⟩
theorem xTh.catch1 {G : XG} {l : Launch} {d : Nat} {X : XM} {Q : XOut → List AE → Prop} {pc n a0 b0 hpc ct ci : Nat} {rest : List (Nat × Nat × Nat × Nat)} {ls fs : List Value} {hp : List AE} (hh : X.hh = (a0, b0, hpc, ct) :: rest) (hcov : a0 ≤ pc ∧ pc < b0) (hct : ct ≠ 0) (hr : (X.own, ct, ci) ∈ xCr) (hci : ci < 11) (hcast : Cond.castable (xR ci) (xR ci) ∈ lw_tbl) (hn : xat hp n = some (xO ci fs))
    (k : xRn G l d X Q hpc ls [.ref n] hp) : xTh G l d X Q pc ls n hp := by
  intro he p e s m args below meth c C T locs cls h1 h2 h3 h4 h5 h6 X0 stk
  obtain ⟨hn0, hc11, hlen, cell, q1, q2, q3, -⟩ := xk_field h1 hn
  have hd := C.hd
  rw [hh] at hd
  obtain ⟨x, t, hxt, hx, -⟩ : ∃ x t, c.exceptionTable.toList = x :: t ∧ (x.startPc, x.endPc, x.handlerPc, x.catchType) = (a0, b0, hpc, ct) ∧ True := by
    cases hl : c.exceptionTable.toList with
    | nil => rw [hl] at hd; cases hd
    | cons x t =>
      rw [hl, List.map_cons] at hd
      injection hd with h1 h2
      exact ⟨x, t, rfl, h1, trivial⟩
  injection hx with x1 hx
  injection hx with x2 hx
  injection hx with x3 x4
  subst x1 x2 x3 x4
  obtain ⟨vm1, g1, g2, g3, g4⟩ := xk_link C X0 hr hci X0.warmed
  obtain ⟨c3, c4, hc3, hc4, hasg⟩ := Cond.castable_spec (C.wd args _ (xw_in hcast rfl))
  obtain ⟨hfc, kC, hkC, -⟩ := (C.gs.2.1.1 ci _ (xC_at hci)).2
  cases hfc.symm.trans hc3
  cases hfc.symm.trans hc4
  have hasg' : vm1.assignable cell.cls (G.dC ci) = true := by rw [q2, g2.alike.assignable]; exact hasg
  obtain ⟨t2, a1, a2⟩ := k he p e s m args below meth c C T.heap locs cls h1 h2 h3 h4 h5 h6 (T.setVm vm1) rfl (X0.noted g2)
  refine ⟨t2, xk_caught (g := F0 m pc cls stk) (pc := x.handlerPc) (vm' := vm1) (c := c) X0.here (fun Q2 E2 d2 acts2 => ?_) ?_, a2⟩
  · rw [W.findHandler_eq (meth := meth) (code := c) (by show T.vm.method? m = _; exact X0.method') X0.code, hxt, xk_goCold (cell := cell) (by simp [covers, hcov]) hct (by show (Jvm.resolveClass m.cls _).Gives _ T.vm _ _; exact g1) (by show _ ≤ T.vm.classes.size; exact g3) (by show T.heap[_]? = _; exact q1) (fun k hk => by rw [q3] at hk; cases hk) (by rw [q2]; exact g4) g4, if_pos hasg']
  · rw [List.map_cons, List.map_nil, xcv_loc G hn0] at a1
    exact a1
/-- the first entry's class is another one: the second takes it -/
theorem xTh.catch2 {G : XG} {l : Launch} {d : Nat} {X : XM} {Q : XOut → List AE → Prop} {pc n a0 b0 hpc0 ct0 a1 b1 hpc ct cj ci : Nat} {rest : List (Nat × Nat × Nat × Nat)} {ls fs : List Value} {hp : List AE} (hh : X.hh = (a0, b0, hpc0, ct0) :: (a1, b1, hpc, ct) :: rest) (hcov0 : a0 ≤ pc ∧ pc < b0) (hcov : a1 ≤ pc ∧ pc < b1) (hct0 : ct0 ≠ 0) (hct : ct ≠ 0) (hr0 : (X.own, ct0, cj) ∈ xCr) (hr : (X.own, ct, ci) ∈ xCr) (hcj : 7 ≤ cj ∧ cj < 11) (hci : 7 ≤ ci ∧ ci < 11) (hne : ci ≠ cj) (hcast : Cond.castable (xR ci) (xR ci) ∈ lw_tbl) (hn : xat hp n = some (xO ci fs))
    (k : xRn G l d X Q hpc ls [.ref n] hp) : xTh G l d X Q pc ls n hp := by
  intro he p e s m args below meth c C T locs cls h1 h2 h3 h4 h5 h6 X0 stk
  obtain ⟨hn0, hc11, hlen, cell, q1, q2, q3, -⟩ := xk_field h1 hn
  have hd := C.hd
  rw [hh] at hd
  obtain ⟨y, x, t, hxt, hy, hx⟩ : ∃ y x t, c.exceptionTable.toList = y :: x :: t ∧ (y.startPc, y.endPc, y.handlerPc, y.catchType) = (a0, b0, hpc0, ct0) ∧ (x.startPc, x.endPc, x.handlerPc, x.catchType) = (a1, b1, hpc, ct) := by
    cases hl : c.exceptionTable.toList with
    | nil => rw [hl] at hd; cases hd
    | cons y t =>
      rw [hl, List.map_cons] at hd
      injection hd with h1 h2
      cases t with
      | nil => cases h2
      | cons x t =>
        rw [List.map_cons] at h2
        injection h2 with h3 h4
        exact ⟨y, x, t, rfl, h1, h3⟩
  injection hx with x1 hx
  injection hx with x2 hx
  injection hx with x3 x4
  injection hy with y1 hy
  injection hy with y2 hy
  injection hy with y3 y4
  subst x1 x2 x3 x4 y1 y2 y3 y4
  obtain ⟨vm0, f1, f2, f3, f4⟩ := xk_link C X0 hr0 hcj.2 X0.warmed
  obtain ⟨vm1, g1, g2, g3, g4⟩ := xk_link C X0 hr hci.2 f2
  obtain ⟨c3, c4, hc3, hc4, hasg⟩ := Cond.castable_spec (C.wd args _ (xw_in hcast rfl))
  obtain ⟨hfc, kC, hkC, -⟩ := (C.gs.2.1.1 ci _ (xC_at hci.2)).2
  obtain ⟨hfj, -⟩ := (C.gs.2.1.1 cj _ (xC_at hcj.2)).2
  cases hfc.symm.trans hc3
  cases hfc.symm.trans hc4
  obtain ⟨cA, cB, j1, j2, j3⟩ := C.gs.2.2.2.2.2.2.1 ci cj hci.1 hci.2 hcj.1 hcj.2 hne
  cases hfc.symm.trans j1
  cases hfj.symm.trans j2
  have hasg' : vm1.assignable cell.cls (G.dC ci) = true := by rw [q2, g2.alike.assignable]; exact hasg
  have hnas : ¬ vm0.assignable cell.cls (G.dC cj) = true := by rw [q2, f2.alike.assignable, j3]; decide
  obtain ⟨k0, hk0, -⟩ := f2.alike.2.2 _ _ hkC
  obtain ⟨t2, a1, a2⟩ := k he p e s m args below meth c C T.heap locs cls h1 h2 h3 h4 h5 h6 (T.setVm vm1) rfl (X0.noted g2)
  refine ⟨t2, xk_caught (g := F0 m pc cls stk) (pc := x.handlerPc) (vm' := vm1) (c := c) X0.here (fun Q2 E2 d2 acts2 => ?_) ?_, a2⟩
  · rw [W.findHandler_eq (meth := meth) (code := c) (by show T.vm.method? m = _; exact X0.method') X0.code, hxt, xk_goCold (cell := cell) (by simp [covers, hcov0]) hct0 (by show (Jvm.resolveClass m.cls _).Gives _ T.vm _ _; exact f1) (by show _ ≤ T.vm.classes.size; exact f3) (by show T.heap[_]? = _; exact q1) (fun k hk => by rw [q3] at hk; cases hk) (by rw [q2]; exact ⟨k0, hk0⟩) f4, if_neg hnas,
      xk_goCold (cell := cell) (by simp [covers, hcov]) hct (by show (Jvm.resolveClass m.cls _).Gives _ vm0 _ _; exact g1) (by show _ ≤ vm0.classes.size; exact g3) (by show T.heap[_]? = _; exact q1) (fun k hk => by rw [q3] at hk; cases hk) (by rw [q2]; exact g4) g4, if_pos hasg']
    exact Iff.rfl
  · rw [List.map_cons, List.map_nil, xcv_loc G hn0] at a1
    exact a1
