/-! ===== Enum.ordinal(), inherited ===== -/
def xm_ordinal : XM := (13, ⟨"java/lang/Enum", "ordinal", "()I"⟩, prog_10_method_2_code, 1, some .int, [])
def xlkU (X : XM) (idx : Nat) : Prop := Cond.methodLink (xR X.own) idx ⟨"TradeLink$Type", "ordinal", "()I"⟩ ∈ lw_tbl ∧ Cond.sameMethod "TradeLink$Type" "java/lang/Enum" "ordinal" "()I" ∈ lw_tbl ∧ Cond.selects "TradeLink$Type" ⟨"TradeLink$Type", "ordinal", "()I"⟩ xm_ordinal.y ∈ lw_tbl ∧ Cond.instanceMethod xm_ordinal.y ∈ lw_tbl ∧ xcode xm_ordinal ∈ lw_tbl ∧ Cond.initialized "java/lang/Enum" ∈ lw_tbl
theorem xph_U {p : Program} {l : Launch} {e : Env} {R : Room} {s : State} {m : MethodId} {args : Array Value} {below : List Frame} {meth : Method} {c : Code} {T : State} {locs : List Loc} {cells slots : Nat} {G : XG} {X : XM} {he : List AE} (X0 : Stand p l e R s m args below meth c T locs cells slots) (C : xCx G l X he p s m meth c) {idx : Nat} (hk : xlkU X idx) {b : Addr} {cellB : Cell} (hcell : T.heap[b]? = some cellB) (hobj : cellB.vm.isStatics = false) (hcls : s.vm.findClass "TradeLink$Type" = some cellB.cls)
    {g : JFrame} (hg : g.method = m) {rest : List Value} (hstack : g.stack = .ref b :: rest) (hdg : decode X.code g.pc = .ok (.invokevirtual idx, 3)) : xPh p l e R s m args below meth c T locs cells slots g xm_ordinal.y [.ref b] rest := by
  obtain ⟨k1, k2, k3, k4, k5, k6⟩ := hk
  have hw := C.wd args
  have hsame := hw _ (xw_in k2 rfl)
  obtain ⟨mk, methM, hnamed, hmethM, hstM, habM⟩ := Cond.instanceMethod_spec (hw _ (xw_in k4 rfl))
  obtain ⟨mk', methM', cM, hn', hmethM', -, -, -, -, -, -, hsigM⟩ := xcode_spec (X := xm_ordinal) (hw _ (xw_in k5 (xcode_gw _)))
  cases hnamed.symm.trans hn'
  cases hmethM.symm.trans hmethM'
  obtain ⟨cn, ck, r1, hcn, hck, hni, hf, hn1⟩ := Cond.sameMethod_found hsame
  cases hnamed.symm.trans hn1
  obtain ⟨c2, r2, m2, q1, q2, q3, q4, kP, hkP, hkPi⟩ := Cond.selects_spec (hw _ (xw_in k3 rfl))
  cases hcls.symm.trans q1
  cases hf.symm.trans q2
  cases hnamed.symm.trans q3
  have hselP : selectMethod e.platform s.vm cellB.cls mk = .method mk := by rw [Launch.admits_selectMethod X0.admits]; exact q4
  have hl : ([] : List Value).length = methM.sig.parameters.length := by
    have h9 : (parseMethodDescriptor xm_ordinal.y.desc).map (fun d => d.parameters.length) = some 0 := by decide +kernel
    rw [hsigM] at h9
    exact (Option.some.inj h9).symm
  obtain ⟨vm₁, X₁, hstep₁⟩ := X0.invokevirtualUp C.ex C.ow (hw _ (xw_in k1 rfl)) hsame (by decide) hnamed hmethM hstM (a := b) (cell := cellB) hcell
    (fun z h => by rw [h] at hobj; cases hobj) hselP hmethM habM hkP hkPi (g := g) hg (argsL := []) (rest := rest) hl hstack (by rw [C.cd]; exact hdg)
  exact ⟨mk, vm₁, hnamed, X₁, hstep₁⟩
theorem xRn.callU {G : XG} {l : Launch} {d : Nat} {X : XM} {Q Qc : XOut → List AE → Prop} {pc nx idx n : Nat} {ls st : List Value} {hp : List AE} (hd : decode X.code pc = .ok (.invokevirtual idx, 3)) (hk : xlkU X idx) (hn : 1 ≤ n ∧ n ≤ 10) (hM : xCt G l d xm_ordinal [.ref n] hp Qc) (hst : (st.map fun v => v.category).sum ≤ 8) (hls : ls.length = X.maxL) (hx : pc + 3 = nx)
    (hret : ∀ v hp', Qc (.inl v) hp' → xRn G l (d + 1) X Q nx ls (v.toList ++ st) hp') (hthr : ∀ n hp', Qc (.inr n) hp' → 16 ≤ n → xTh G l (d + 1) X Q pc ls n hp') : xRn G l (d + 1) X Q pc ls (.ref n :: st) hp := by
  subst hx
  intro he p e s m args below meth c C H locs cls h1 h2 h3 h4 h5 h6 T hT X0
  subst hT
  have hn0 : n ≠ 0 := by omega
  obtain ⟨cell, q1, q2, q3⟩ := va_recvE C.gs.2.2.1 (show n - 1 < xEn.length by show n - 1 < 10; omega) (xS_of C h1 h2 h3 h4)
  have hloc : xloc G n = G.ad (n - 1) := by unfold xloc; rw [if_pos (by omega)]
  rw [← hloc] at q1
  have e2 : ([Value.ref (xloc G n)] : List Value) = ([.ref n] : List Value).map (xcv G) := by rw [List.map_cons, List.map_nil, xcv_loc G hn0]
  rw [List.map_cons, xcv_loc G hn0]
  have ph := xph_U (g := F0 m pc cls (.ref (xloc G n) :: st.map (xcv G))) X0 C hk q1 q2 q3 rfl (rest := st.map (xcv G)) rfl hd
  rw [e2] at ph
  exact xk_go C ph hM hd hst hk.2.2.2.2.1 hk.2.2.2.2.2 (by decide) hls h1 h2 h3 h4 h5 h6 hret hthr
