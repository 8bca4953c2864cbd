/-! ===== contracts and calls ===== -/
def xcode (X : XM) : Cond := match X.hh with
  | [] => .code X.y X.code X.maxL X.ret
  | h :: t => .codeWith X.y X.code X.maxL X.ret (h :: t)
theorem xcode_spec {X : XM} {args : Array Value} {s : State} (h : (xcode X).before args s = true) : ∃ m meth c, s.methodNamed? X.y = some m ∧ s.vm.method? m = some meth ∧ meth.code = some c ∧ c.code = X.code ∧ c.maxLocals = X.maxL ∧
    c.exceptionTable.toList.map (fun h => (h.startPc, h.endPc, h.handlerPc, h.catchType)) = X.hh ∧ meth.sig.returnType = X.ret ∧ meth.locks = false ∧ parseMethodDescriptor X.y.desc = some meth.sig := by
  unfold xcode at h
  split at h
  · rename_i hh
    obtain ⟨m, hm⟩ := Cond.code_named h
    obtain ⟨meth, c, h1, h2, h3, h4, h5, h6, h7, h8⟩ := Cond.code_spec hm h
    refine ⟨m, meth, c, hm, h1, h2, h3, h4, ?_, h5, h6, h8⟩
    rw [hh]
    have : c.exceptionTable = #[] := by simpa using h7
    rw [this]
    rfl
  · rename_i a b hh
    obtain ⟨m, meth, c, h1, h2, h3, h4, h5, h6, h7, h8, h9⟩ := Cond.codeWith_spec h
    exact ⟨m, meth, c, h1, h2, h3, h4, h5, by rw [hh]; exact h6, h7, h8, h9⟩
/-- how a method ends, seen from its caller -/
def xE (G : XG) (he : List AE) (s : State) (Q : XOut → List AE → Prop) (o : Outcome) (t : State) : Prop :=
  ∃ (u : XOut) (hp : List AE), xOr G u o ∧ Q u hp ∧ xRep G hp t.heap ∧ (he.length ≤ hp.length ∧ hp.length ≤ xCB) ∧ (hsz he ≤ hsz hp ∧ hsz hp ≤ xSB) ∧ s.WarmedH t.vm ∧ (∀ q : Nat, q < G.base → t.heap[q]? = s.heap[q]?) ∧
    ∃ L : List Loc, s.sameButNew ({ t with vm := s.vm } : State) L (hp.length - he.length) (hsz hp - hsz he) ∧ ∀ q ∈ L, G.base ≤ q.base
/-- THE CONTRACT of X at depth d: called with these arguments on this heap it ends with Q -/
def xCt (G : XG) (l : Launch) (d : Nat) (X : XM) (al : List Value) (hp : List AE) (Q : XOut → List AE → Prop) : Prop :=
  l.stackTraces = false → hp.length ≤ xCB → hsz hp ≤ xSB → MetFree l X.y (headSpec [xcode X] (xroom d hp)) (fun a s => a = (al.map (xcv G)).toArray ∧ xGs G s ∧ xRep G hp s.heap) (fun _ _ _ _ _ => True) (fun _ s o t => xE G hp s Q o t)
theorem xLoc_entry (G : XG) (al : List Value) (n : Nat) (h1 : ∀ v ∈ al, v.category = 1) (hn : al.length ≤ n) : xLoc G (((al.map (xcv G)).map Slot.val ++ List.replicate (n - (al.map (xcv G)).length) Slot.unset).toArray) (al ++ List.replicate (n - al.length) .null) := by
  rw [List.length_map]
  have key : ∀ i : Nat, (((al.map (xcv G)).map Slot.val ++ List.replicate (n - al.length) Slot.unset).toArray)[i]? = (if i < al.length then (al[i]?).map (fun v => Slot.val (xcv G v)) else if i < n then some Slot.unset else none) := by
    intro i
    rw [List.getElem?_toArray]
    by_cases hi : i < al.length
    · rw [if_pos hi, List.getElem?_append_left (by simpa using hi)]
      simp
      rfl
    · rw [if_neg hi, List.getElem?_append_right (by simpa using hi)]
      simp only [List.length_map]
      by_cases h2 : i < n
      · rw [if_pos h2, List.getElem?_replicate, if_pos (by omega)]
      · rw [if_neg h2, List.getElem?_replicate, if_neg (by omega)]
  refine ⟨by simp, ⟨fun i v hv hc => ?_, fun i hv => ?_⟩, fun i v hv hne => ?_⟩
  · rw [key] at hv
    exfalso
    by_cases hi : i < al.length
    · rw [if_pos hi, List.getElem?_eq_getElem hi] at hv
      simp only [Option.map_some, Option.some.injEq, Slot.val.injEq] at hv
      have h3 := h1 _ (List.getElem_mem hi)
      rw [← hv, xcv_cat, h3] at hc
      omega
    · rw [if_neg hi] at hv
      split at hv <;> simp at hv
  · rw [key] at hv
    exfalso
    by_cases hi : i < al.length
    · rw [if_pos hi, List.getElem?_eq_getElem hi] at hv
      simp at hv
    · rw [if_neg hi] at hv
      split at hv <;> simp at hv
  · by_cases hi : i < al.length
    · rw [List.getElem?_append_left hi] at hv
      rw [key, if_pos hi, hv]
      exact ⟨rfl, h1 _ (List.mem_of_getElem? hv)⟩
    · rw [List.getElem?_append_right (by omega), List.getElem?_replicate] at hv
      split at hv
      · cases hv
        exact absurd rfl hne
      · cases hv
/-- a contract out of a walk -/
theorem xCt.intro {G : XG} {l : Launch} {d : Nat} {X : XM} {al ls : List Value} {hp : List AE} {Q : XOut → List AE → Prop} (hy : plainName X.y.cls = true) (hcl : X.y.cls = xR X.own) (h1 : ∀ v ∈ al, v.category = 1) (hn : al.length ≤ X.maxL) (hls : al ++ List.replicate (X.maxL - al.length) .null = ls) (k : xRn G l d X Q 0 ls [] hp) : xCt G l d X al hp Q := by
  subst hls
  intro htr hb1 hb2
  refine MetFree.of_bodyS (code := X.code) (maxLocals := X.maxL) (ret := X.ret) hy ?_ ?_
  · intro args s m h hnm
    obtain ⟨m9, meth, c, g1, g2, g3, g4, g5, g6, g7, g8, g9⟩ := xcode_spec (X := X) (atoms_spec (ws := [xcode X]) h _ List.mem_cons_self)
    cases hnm.symm.trans g1
    exact ⟨meth, c, g2, g3, g4, g5, g7, g8⟩
  · intro p e s m args below meth c s₁ B hml hP _
    obtain ⟨rfl, hG, hR⟩ := hP
    have hh0 : s₁.heap = s.heap := by rw [B.state]; rfl
    have X₀ := Stand.of_body B
    obtain ⟨m9, meth', c', g1, g2, g3, g4, g5, g6, g7, g8, g9⟩ := xcode_spec (X := X) (atoms_spec (ws := [xcode X]) B.pre _ List.mem_cons_self)
    have hown : s.vm.findClass (xR X.own) = some m.cls := by rw [← hcl]; exact findClass_of_methodNamed B.named
    cases (B.named.symm.trans g1)
    cases (B.method.symm.trans g2)
    cases (X₀.code.symm.trans g3)
    have C : xCx G l X hp p s m meth c := ⟨B.exec, B.bytes, hml, B.returns, B.notSynchronized, hown, (name_of_methodNamed B.named B.method).1, g6, hG, hR, htr⟩
    have hw := k hp p e s m ((al.map (xcv G)).toArray) below meth c C s.heap [] _ hR (fun _ _ => rfl) (fun q hq => by cases hq) ⟨Nat.le_refl _, hb1⟩ ⟨Nat.le_refl _, hb2⟩ (xLoc_entry G al X.maxL h1 hn)
    rw [Nat.sub_self, Nat.sub_self] at hw
    obtain ⟨t, a1, o, b1, b2, b3⟩ := hw s₁ hh0 X₀
    refine ⟨t, o, ?_, b1, b2, b3⟩
    have e1 : entryFrame m ((al.map (xcv G)).toArray) X.maxL = F0 m 0 (((al.map (xcv G)).map Slot.val ++ List.replicate (X.maxL - (al.map (xcv G)).length) Slot.unset).toArray) [] := entry_eq m _ (fun v hv => by
      obtain ⟨w, hw, rfl⟩ := List.mem_map.mp hv
      rw [xcv_cat]
      exact h1 w hw) _
    rw [e1]
    exact a1
/-- a callee by its contract, from the caller's point: it comes back, or throws -/
theorem xk_call {G : XG} {l : Launch} {d : Nat} {X Y : XM} {he hp : List AE} {p : Program} {e : Env} {s U : State} {m mk : MethodId} {args : Array Value} {below : List Frame} {meth : Method} {c : Code} {locs : List Loc} {al : List Value} {Qc : XOut → List AE → Prop} {g : JFrame} {ig : Instr}
    (X1 : Stand p l e (xroom (d + 1) he) s m args below meth c U locs (hp.length - he.length) (hsz hp - hsz he)) (C : xCx G l X he p s m meth c) (hM : xCt G l d Y al hp Qc) (hg : g.method = m) (hsize : g.locals.size = c.maxLocals) (hdg : decode c.code g.pc = .ok (ig, 3))
    (hW : 2 * g.monitorRoom + (g.stack.map fun v => v.category).sum ≤ 8) (hn : U.methodNamed? Y.y = some mk) (hw1 : xcode Y ∈ xW) (hw2 : Cond.initialized Y.y.cls ∈ xW) (hmx : Y.maxL ≤ 18) (h1 : xRep G hp U.heap) (h2 : ∀ q : Nat, q < G.base → U.heap[q]? = s.heap[q]?) (h4 : he.length ≤ hp.length ∧ hp.length ≤ xCB) (h5 : hsz he ≤ hsz hp ∧ hsz hp ≤ xSB) :
    ∃ (u : XOut) (hp' : List AE) (T' : State) (L : List Loc), Qc u hp' ∧ xRep G hp' T'.heap ∧ (he.length ≤ hp'.length ∧ hp'.length ≤ xCB) ∧ (hsz he ≤ hsz hp' ∧ hsz hp' ≤ xSB) ∧ (∀ q : Nat, q < G.base → T'.heap[q]? = s.heap[q]?) ∧ (∀ q ∈ L, G.base ≤ q.base) ∧
      Stand p l e (xroom (d + 1) he) s m args below meth c T' (locs ++ L) (hp'.length - he.length) (hsz hp' - hsz he) ∧
      Steps p.tables e below (doInvoke e (U.setTop g) [] mk ((al.map (xcv G)).toArray)).1 (match u with
        | .inl v => T'.setTop { g with pc := g.pc + 3, stack := (v.map (xcv G)).toList ++ g.stack }
        | .inr n => (T'.setTop g).pushFrame (.throwing (xloc G n))) ∧ (∀ n, u = .inr n → 16 ≤ n) := by
  have hGU : xGs G U := C.gs.moved X1.warmed (by rw [h1.1]; omega) h2 C.rp.ns
  have hwU := hGU.word ((al.map (xcv G)).toArray)
  obtain ⟨m9, methY, cY, q1, hmY, hcY, -, hlY, -⟩ := xcode_spec (X := Y) (hwU _ hw1)
  cases hn.symm.trans q1
  obtain ⟨kY, hkY, -⟩ := className_of_methodNamed hn
  have hinitY : kY.init = .initialized := Cond.initialized_spec (findClass_of_methodNamed hn) hkY (hwU _ hw2)
  have h : At U g.method c below := by rw [hg]; exact X1.here
  have hM' := hM C.tr h4.2 h5.2
  have happ : (headSpec [xcode Y] (xroom d hp)).appliesLoose Y.y e.platform (U.calling g mk ((al.map (xcv G)).toArray)) = true :=
    Spec.appliesLoose_calling (g := g) h hdg hn hkY hinitY
      (X1.room_calling (g := g) (R' := xroom d hp) hsize hmY hcY (show d + 1 ≤ d + 1 by omega) (by rw [hlY]; show _ + (Y.maxL + 11) + 37 * d ≤ 37 * (d + 1); omega) (by show _ + (xCB - hp.length) ≤ xCB - he.length; omega) (by show _ + (xSB - hsz hp) ≤ xSB - hsz he; omega))
      (atoms_intro (fun w hw => by
        rw [List.mem_singleton] at hw
        subst hw
        exact hwU _ hw1))
  obtain ⟨mid, hmid⟩ := h.above
  have hfr : (U.setTop g).frames = (.java g :: mid) ++ below := by rw [State.frames_setTop' g h.top, hmid]; rfl
  have hPc : xGs G (U.calling g mk ((al.map (xcv G)).toArray)) := hGU.moved (U := U.calling g mk ((al.map (xcv G)).toArray)) (State.WarmedH.refl U) (by show G.base ≤ U.heap.size; rw [h1.1]; omega) (fun _ _ => rfl) h1.ns
  obtain ⟨o, s₂, hsteps, -, hend, hq⟩ := Steps.callFree hM' p X1.admits X1.cas X1.clock (acts := []) hfr happ ⟨rfl, hPc, h1⟩ trivial
  rw [State.frames_setTop' g h.top] at hend
  have hq' : xE G hp (U.calling g mk ((al.map (xcv G)).toArray)) Qc o s₂ := hq
  obtain ⟨u, hp', hor, hQ, hrep, hl4, hl5, hW₂, hold, L, ⟨e2, q2, q3, q4, q5, q6⟩, hL⟩ := hq'
  have e3 : s₂ = ({ (U.calling g mk ((al.map (xcv G)).toArray)).setFrames s₂.frames with heap := s₂.heap, slotsUsed := s₂.slotsUsed } : State).setVm s₂.vm := by
    have : s₂ = ({ s₂ with vm := (U.calling g mk ((al.map (xcv G)).toArray)).vm } : State).setVm s₂.vm := rfl
    rw [e2] at this
    exact this
  have hW' : U.WarmedH s₂.vm := hW₂
  obtain ⟨g₀, hg0⟩ := Option.isSome_iff_exists.mp h.top
  obtain ⟨r, hr⟩ := State.topJava?_eq_some.mp hg0
  have hsame : U.sameButNew ({ U with heap := s₂.heap, slotsUsed := s₂.slotsUsed } : State) L (hp'.length - hp.length) (hsz hp' - hsz hp) := by
    refine ⟨?_, q2, q3, q4, q5, q6⟩
    obtain ⟨t, ht, -⟩ := State.frames_cons hr
    show ({ U with heap := s₂.heap, slotsUsed := s₂.slotsUsed } : State) = { U.setFrames U.frames with heap := s₂.heap, slotsUsed := s₂.slotsUsed }
    rw [State.setFrames_self ht]
  have hr' : (({ U with heap := s₂.heap, slotsUsed := s₂.slotsUsed } : State).setVm s₂.vm).frames = .java g₀ :: r := hr
  have hStand : Stand p l e (xroom (d + 1) he) s m args below meth c (({ U with heap := s₂.heap, slotsUsed := s₂.slotsUsed } : State).setVm s₂.vm) (locs ++ L) (hp'.length - he.length) (hsz hp' - hsz he) := by
    have := X1.same.trans (hsame.setVm s.vm)
    rw [show hp.length - he.length + (hp'.length - hp.length) = hp'.length - he.length by omega, show hsz hp - hsz he + (hsz hp' - hsz hp) = hsz hp' - hsz he by omega] at this
    exact ⟨X1.admits, X1.cas, X1.clock, X1.frames, X1.room, X1.hears, X1.method, X1.code, (X1.here.setHeapUsed s₂.heap s₂.slotsUsed).setVm hW'.alike, X1.tail, State.WarmedH.trans X1.warmed hW', X1.limits, X1.bytes, this⟩
  refine ⟨u, hp', ({ U with heap := s₂.heap, slotsUsed := s₂.slotsUsed } : State).setVm s₂.vm, L, hQ, hrep, ⟨by omega, hl4.2⟩, ⟨by omega, hl5.2⟩, fun q hq => (hold q hq).trans (h2 q hq), hL, hStand, ?_, ?_⟩
  · cases u with
    | inl v =>
      have ho : o = .returned (v.map (xcv G)) := hor
      subst ho
      obtain ⟨c₂, i₂, len₂, hc₂, hd₂, hf₂⟩ := hend
      have hcc : c₂ = c := by
        have h1 : s₂.code? g.method = U.code? g.method := by
          rw [State.code?_eq, State.code?_eq, hW'.alike.method?]
        exact Option.some.inj (hc₂.symm.trans (h1.trans h.code))
      subst hcc
      have hlen : len₂ = 3 := by rw [hdg] at hd₂; cases hd₂; rfl
      subst hlen
      have hs₂ : s₂ = (({ U with heap := s₂.heap, slotsUsed := s₂.slotsUsed } : State).setVm s₂.vm).setTop { g with pc := g.pc + 3, stack := (v.map (xcv G)).toList ++ g.stack } := by
        refine e3.trans ?_
        rw [hf₂, State.calling_eq h.top, State.setFrames_setFrames, State.setTop_of_frames _ hr', hr]
        rfl
      show Steps p.tables e below _ ((({ U with heap := s₂.heap, slotsUsed := s₂.slotsUsed } : State).setVm s₂.vm).setTop { g with pc := g.pc + 3, stack := (v.map (xcv G)).toList ++ g.stack })
      rw [← hs₂]
      exact hsteps
    | inr n =>
      have ho : o = .threw (xloc G n) := hor.1
      subst ho
      have hf₂ : s₂.frames = .throwing (xloc G n) :: .java g :: U.frames.tail := hend
      have hs₂ : s₂ = ((({ U with heap := s₂.heap, slotsUsed := s₂.slotsUsed } : State).setVm s₂.vm).setTop g).pushFrame (.throwing (xloc G n)) := by
        refine e3.trans ?_
        rw [hf₂, State.calling_eq h.top, State.setFrames_setFrames, State.pushFrame, State.frames_setTop _ hr', State.setTop_of_frames _ hr', State.setFrames_setFrames, hr]
        rfl
      show Steps p.tables e below _ (((({ U with heap := s₂.heap, slotsUsed := s₂.slotsUsed } : State).setVm s₂.vm).setTop g).pushFrame (.throwing (xloc G n)))
      rw [← hs₂]
      exact hsteps
  · intro n hn
    subst hn
    exact hor.2
