/-! THE CLAIM OUT OF ONE WALK OF THE LAW'S BODY. Your part is whole_start (and what it stands on); all else here is the same for every law, but numbers. -/
def R_law : String := "TradeLinkLaw"
def lw_P (b : Addr) (xs : List Int32) (args : Array Value) (s : State) : Prop := args = #[.ref b] ∧ s.IntsAt b xs ∧ xs.length ≤ 3584 ∧ (Jvm.Cond.and given_1 narrow_1).before args s = true
def lw_Q (_ : Array Value) (s : State) (o : Outcome) (t : State) : Prop := o = .returned (some (.int 1)) ∧ Framed s o t [] 601024 7293034
def lw_Z (below : List Frame) (a : Array Value) (s : State) : State → Prop := fun t => ∃ o, t.status = .running ∧ Ended t below o ∧ lw_Q a s o t
/-- what holds at the law's entry: the machine, the code, the tables' words (any of lw_tbl by 'hts w (by decide +kernel)'), the script of L ints xs at the cell b, what the Statement gives of the start (any of its parts by flat_of_before) -/
def lw_At (p : Program) (s : State) (m : MethodId) (meth : Method) (c : Code) (b L : Nat) (xs : Nat → Int32) : Prop :=
  p.tables.exec = Jvm.exec ∧ c.code = code ∧ meth.sig.returnType = ret ∧ c.maxLocals = 7 ∧ s.vm.findClass R_law = some m.cls ∧ (∀ w ∈ lw_tbl, w.before #[Value.ref b] s = true) ∧ va_X b L xs s s.heap ∧ b < s.heap.size ∧ meth.locks = false ∧ (Jvm.Cond.and given_1 narrow_1).before #[Value.ref b] s = true
theorem xk_e1 : ∀ i < xEn.length, Cond.laysStatic "TradeLink$Type" (xEn.getD i "") "LTradeLink$Type;" ∈ lw_tbl := by decide +kernel
theorem xk_e2 : ∀ i < xEn.length, Cond.exactly (.static "TradeLink$Type" (xEn.getD i "") "LTradeLink$Type;") "TradeLink$Type" ∈ flatC (Jvm.Cond.and given_1 narrow_1) := by decide +kernel
theorem xk_e3 : ∀ q ∈ xEf, ∀ i < xEn.length, Cond.eq (.field (.static "TradeLink$Type" (xEn.getD i "") "LTradeLink$Type;") q.1 q.2.1 q.2.2.1) (.int (q.2.2.2.getD i 0)) ∈ flatC (Jvm.Cond.and given_1 narrow_1) := by decide +kernel
theorem xk_e4 : ∀ i < xEn.length, ∀ j < xEn.length, i ≠ j → Cond.not (.eq (.static "TradeLink$Type" (xEn.getD i "") "LTradeLink$Type;") (.static "TradeLink$Type" (xEn.getD j "") "LTradeLink$Type;")) ∈ flatC (Jvm.Cond.and given_1 narrow_1) ∨ Cond.not (.eq (.static "TradeLink$Type" (xEn.getD j "") "LTradeLink$Type;") (.static "TradeLink$Type" (xEn.getD i "") "LTradeLink$Type;")) ∈ flatC (Jvm.Cond.and given_1 narrow_1) := by decide +kernel
theorem xk_e5 : ∀ w ∈ xTw, w ∈ lw_tbl ∨ w ∈ flatC (Jvm.Cond.and given_1 narrow_1) := by decide +kernel
theorem xk_e6 : ∀ i j : Nat, 7 ≤ i → i < 11 → 7 ≤ j → j < 11 → i ≠ j → Cond.not (.castable (xR i) (xR j)) ∈ flatC (Jvm.Cond.and given_1 narrow_1) := by
  have key : ∀ i ∈ [7, 8, 9, 10], ∀ j ∈ [7, 8, 9, 10], i ≠ j → Cond.not (.castable (xR i) (xR j)) ∈ flatC (Jvm.Cond.and given_1 narrow_1) := by decide +kernel
  have hm : ∀ i : Nat, 7 ≤ i → i < 11 → i ∈ [7, 8, 9, 10] := fun i h1 h2 => by
    have : i = 7 ∨ i = 8 ∨ i = 9 ∨ i = 10 := by omega
    simpa using this
  exact fun i j h1 h2 h3 h4 h5 => key i (hm i h1 h2) j (hm j h3 h4) h5
set_option maxHeartbeats 4000000 in
/-- the law, from its entry -/
theorem whole_start {p : Program} {e : Env} {s : State} {m : MethodId} {below : List Frame} {meth : Method} {c : Code} (l : Launch) (htr : l.stackTraces = false) {b L : Nat} {xs : Nat → Int32} (hL : L ≤ 3584) (C0 : lw_At p s m meth c b L xs) (hnm : meth.name = x.name) (hhd : c.exceptionTable.toList.map (fun h => (h.startPc, h.endPc, h.handlerPc, h.catchType)) = []) : W p l e room_1 s m #[Value.ref b] below meth c s.heap [] 0 0 (lw_Z below #[Value.ref b] s) (entryFrame m ([Value.ref b] : List Value).toArray 7) := by
  obtain ⟨hx, hb, hr, hml, hown, hts, hX, hbl, hlocks, hgv⟩ := C0
  have hg := flat_of_before _ hgv
  obtain ⟨dC, dI, hKc⟩ := xk_known hts
  obtain ⟨cI, hI1, hI2⟩ := xk_arr (hts (.arrayClass .int) (by decide +kernel))
  obtain ⟨cB, hB1, hB2⟩ := xk_arr (hts (.arrayClass .byte) (by decide +kernel))
  obtain ⟨cZ, hZ1, hZ2⟩ := xk_arr (hts (.arrayClass .boolean) (by decide +kernel))
  obtain ⟨cJ, hJ1, hJ2⟩ := xk_arr (hts (.arrayClass .long) (by decide +kernel))
  obtain ⟨cF, hF1, hF2⟩ := xk_over (hts (.arrayOver (.object "TradeLink$Frame")) (by decide +kernel))
  obtain ⟨cO, hO1, hO2⟩ := xk_over (hts (.arrayOver (.object "TradeLink$Order")) (by decide +kernel))
  obtain ⟨ad, hE⟩ := va_Enof (args := #[Value.ref b]) (s := s) (E := "TradeLink$Type") (d := "LTradeLink$Type;") (nm := xEn) (F := xEf) (A := fun q => s.heap.size ≤ q)
    (fun i hi => hts _ (xk_e1 i hi)) (hts (.initialized "TradeLink$Type") (by decide +kernel)) (fun i hi => hg _ (xk_e2 i hi)) (fun q hq i hi => hg _ (xk_e3 q hq i hi)) (fun i j hi hj hne => (xk_e4 i hi j hj hne).imp (hg _) (hg _)) (fun a h => Nat.not_le.mpr h)
  let G : XG := (dC, dI, fun k => if k = 0 then cI else if k = 1 then cB else if k = 2 then cZ else if k = 3 then cJ else if k = 4 then cF else cO, s.heap.size, ad, b, L, xs)
  have hGs : xGs G s := by
    refine ⟨fun w hw => ?_, ⟨hKc, fun k q hq => ?_⟩, hE, hX, hbl, fun w hw => ?_, fun i j h1 h2 h3 h4 h5 => ?_, Nat.le_refl _⟩
    · obtain ⟨h1, h2⟩ := List.mem_filter.mp hw
      exact xgw_warm h2 (State.WarmedH.refl s) (hts w h1)
    · have hk : k < 6 := (List.getElem?_eq_some_iff.mp hq).1
      have : k = 0 ∨ k = 1 ∨ k = 2 ∨ k = 3 ∨ k = 4 ∨ k = 5 := by omega
      rcases this with rfl | rfl | rfl | rfl | rfl | rfl <;> cases hq
      · exact ⟨hI1, hI2⟩
      · exact ⟨hB1, hB2⟩
      · exact ⟨hZ1, hZ2⟩
      · exact ⟨hJ1, hJ2⟩
      · exact ⟨hF1, hF2⟩
      · exact ⟨hO1, hO2⟩
    · refine xTw_heap (A := #[Value.ref b]) rfl (fun a cell hc _ => hc) (fun w hw => ?_) w hw
      rcases xk_e5 w hw with h | h
      · exact hts w h
      · exact hg w h
    · exact va_Nc.of (hg _ (xk_e6 i j h1 h2 h3 h4 h5))
  have hRep : xRep G [] s.heap := ⟨rfl, fun i e h => by simp at h⟩
  have hC : xCx G l xm_law [] p s m meth c := ⟨hx, hb, hml, hr, hlocks, hown, hnm, hhd, hGs, hRep, htr⟩
  have hloc : xLoc G _ ([.ref 11] ++ List.replicate (7 - 1) Value.null) := xLoc_entry G [.ref 11] 7 (fun v hv => by rw [List.mem_singleton] at hv; subst hv; rfl) (by decide)
  have hw := law_ok G l hL [] p e s m #[Value.ref b] below meth c hC s.heap [] _ hRep (fun _ _ => rfl) (fun q hq => by cases hq) ⟨Nat.le_refl _, by decide⟩ ⟨Nat.le_refl _, by decide⟩ hloc
  intro T hT X0
  obtain ⟨t, a1, o, a2, a3, u, hp, a4, a5, a6, a7, a8, a9, a10, Lc, a11, a12⟩ := hw T hT (xk_room X0 (by decide) (by decide) (by decide) (by decide))
  subst a5
  have ho : o = .returned (some (.int 1)) := a4
  refine ⟨t, ?_, o, a2, a3, ho, ⟨_, ho⟩, a9, xk_forget a11 a12 (show hp.length - 0 ≤ 601024 from a7.2) (show hsz hp - 0 ≤ 7293034 from a8.2)⟩
  have e1 : entryFrame m ([Value.ref b] : List Value).toArray 7 = F0 m 0 ((([Value.ref b] : List Value).map Slot.val ++ List.replicate (7 - ([Value.ref b] : List Value).length) Slot.unset).toArray) [] := entry_eq m _ (fun v hv => by rw [List.mem_singleton] at hv; subst hv; rfl) _
  rw [e1]
  exact a1
-- ===== YOUR PART ENDS =====
set_option maxHeartbeats 4000000 in
theorem lw_walk (l : Launch) (htr : l.stackTraces = false) (b : Addr) (xs : List Int32) : MetFree l x (headSpec (Jvm.Cond.code x code maxLocals ret :: tables_1) room_1) (lw_P b xs) (fun _ _ _ _ _ => True) lw_Q := by
  refine MetFree.of_bodyS (code := code) (maxLocals := maxLocals) (ret := ret) (by decide) ?_ ?_
  · intro args s m h hn
    obtain ⟨meth, c, h1, h2, h3, h4, h5, h6, -, -⟩ := Cond.code_spec hn (atoms_spec (ws := Jvm.Cond.code x code maxLocals ret :: tables_1) h _ List.mem_cons_self)
    exact ⟨meth, c, h1, h2, h3, h4, h5, h6⟩
  · intro p e s m args below meth c s₁ B hml0 hP _
    obtain ⟨rfl, hx, hbd, hgv⟩ := hP
    obtain ⟨scr, harrAt, hlist, hof, hsmall⟩ := hx
    obtain ⟨hcb, hkn, -, -⟩ := State.arrayAt?_spec harrAt
    have hown : s.vm.findClass R_law = some m.cls := findClass_of_methodNamed B.named
    have hts0 : ∀ c ∈ (Jvm.Cond.code x code maxLocals ret :: tables_1), c.before #[Value.ref b] s = true := atoms_spec (ws := Jvm.Cond.code x code maxLocals ret :: tables_1) B.pre
    have hts : ∀ w ∈ lw_tbl, w.before #[Value.ref b] s = true := k2_hts_sels lw_privs (fun w hw => hts0 w (List.mem_cons_of_mem _ hw)) lw_privs_ok
    have hml : c.maxLocals = 7 := B.maxLocals_eq (hts0 _ List.mem_cons_self)
    have X₀ : Stand p l e room_1 s m #[Value.ref b] below meth c s₁ [] 0 0 := Stand.of_body B
    have hh0 : s₁.heap = s.heap := by rw [B.state]; rfl
    have hsz : scr.slots.size = xs.length := by rw [← Array.length_toList, hlist, List.length_map]
    have hval : ∀ j : Nat, j < xs.length → scr.slots[j]? = some (.int (xs.getD j 0)) := fun j hj => by
      rw [← Array.getElem?_toList, hlist]
      simp [hj]
    have hbl : b < s.heap.size := (Array.getElem?_eq_some_iff.mp hcb).1
    have hX : va_X b xs.length (fun j => xs.getD j 0) s s.heap := ⟨scr, hcb, hof, hkn, hsz, hval⟩
    have K : W p l e room_1 s m #[Value.ref b] below meth c s₁.heap [] 0 0 (lw_Z below #[Value.ref b] s) (entryFrame m ([Value.ref b] : List Value).toArray 7) := by
      rw [hh0]
      exact whole_start l htr hbd ⟨B.exec, B.bytes, B.returns, hml, hown, hts, hX, hbl, B.notSynchronized, hgv⟩ (name_of_methodNamed B.named B.method).1 (by
        have h9 := B.noHandlers (hts0 _ List.mem_cons_self)
        have : c.exceptionTable = #[] := by simpa using h9
        rw [this]
        rfl)
    obtain ⟨t, a1, o, b1, b2, b3⟩ := K s₁ rfl X₀
    exact ⟨t, o, a1, b1, b2, b3⟩
theorem lw_pre_spec {args : Array Value} {s : State} (h : (Jvm.Cond.and given_1 narrow_1).before args s = true) (hr : rest_1_c.before args s = true) : ∃ (b : Addr) (xs : List Int32), lw_P b xs args s := by
  have hs := flat_of_before _ h
  have hq := flat_of_before _ hr
  have hc : (Cond.count 1).before args s = true := hs _ (by decide +kernel)
  have harr : (Cond.arrayOf (.arg 0) .int).before args s = true := hs _ (by decide +kernel)
  have hle : (Cond.le (.length (.arg 0)) (.int 3584)).before args s = true := hs _ (by decide +kernel)
  have hlen : (Cond.isInt (.length (.arg 0))).before args s = true := hq _ (by decide +kernel)
  have hall : (Cond.all (.arg 0) (.isInt (.elem (.arg 0) (.index 0)))).before args s = true := hq _ (by decide +kernel)
  obtain ⟨b, xs, hb, hx⟩ := State.ints_of_pre rfl harr hlen hall
  have hsm : xs.length < 2 ^ 31 := hx.choose_spec.2.2.2
  have hev : (Term.length (.arg 0)).eval args s none [] s = some (.int xs.length.toInt32) := hx.length_eval hb
  have hv := Cond.le_ints hev (show (Term.int 3584).eval args s none [] s = some (.int 3584) from rfl)
  have hd : xs.length.toInt32 ≤ 3584 := by
    simpa [Cond.before, Cond.holds, hv] using hle
  have hN : xs.length ≤ 3584 := (Int32.ofNat_le_ofNat hsm (by decide)).mp (show Int32.ofNat xs.length ≤ Int32.ofNat 3584 from hd)
  exact ⟨b, xs, Cond.one_arg hc (show args[0]? = some (.ref b) from hb), hx, hN, h⟩
theorem lw_comes (l : Launch) (htr : l.stackTraces = false) : Comes l x (Jvm.Cond.code x code maxLocals ret :: tables_1) room_1 (fun tb e args s => Calls_1 tb e args s ∧ rest_1 tb e args s ∧ Pre_1 tb e args s)
    (fun _ _ args s o t => lw_Q args s o t) := by
  intro p e ha hc hk s m args below hf hfit hheap happ hpre
  obtain ⟨b, xs, hP⟩ := lw_pre_spec hpre.2.2 hpre.2.1
  obtain ⟨k, o, h1, h2, h3, hQ⟩ := lw_walk l htr b xs p e ha hc hk s m args below hf ((Spec.applies_iff_loose hf).mp happ).1 hP trivial
  exact ⟨k, o, h1, h2, h3, hQ⟩
theorem lw_frame {s t : State} {o : Outcome} {args : Array Value} (h : Framed s o t [] 601024 7293034) :
    Framed s o t (fieldLocs frame_1_writes args s ++ arrayLocs frame_1_arrays args s ++ staticLocs frame_1_statics s) 601024 7293034 := h
theorem lw_limb (L : Cond) (hL : ∀ (args : Array Value) (s t : State), L.after args s (.returned (some (.int 1))) t = true) :
    ArmFor flags0 classFile x code maxLocals ret World_1 tables_1 room_1 Calls_1 rest_1 Pre_1
      (fun tb e a s o t => postC L tb e a s o t ∧ Framed s o t (fieldLocs frame_1_writes a s ++ arrayLocs frame_1_arrays a s ++ staticLocs frame_1_statics s) 601024 7293034) := by
  intro l hfl _ _ p e ha hc hk s m args below hf hfit hheap happ hpre
  obtain ⟨k, o, h1, h2, h3, rfl, hF⟩ := lw_comes l (by unfold Launch.stackTraces; rw [hfl]; decide +kernel) p e ha hc hk s m args below hf hfit hheap happ hpre
  exact ⟨k, _, h1, h2, h3, hL args s _, lw_frame hF⟩
theorem i_vc : Claimed_1_1 ∧ Claimed_1_2 := ⟨lw_limb limb_1_1 (fun args s t => by simp [limb_1_1, Cond.after, Cond.holds, Cond.value]), lw_limb limb_1_2 (fun args s t => Cond.after_iff.mpr (by
  first | (rw [show limb_1_2 = Cond.eq .result (.int 1) from rfl, Cond.eq_ints (x := 1) (y := 1) rfl rfl]; simp; done) | (simp [limb_1_2, Cond.value, Term.eval]; done)))⟩
