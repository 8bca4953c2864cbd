/-! ===== fill ===== -/
def flo (x : RP) (m : Nat) : RP := (x.1, x.2.1, x.2.2.1, x.2.2.2.1 + m, x.2.2.2.2)
def flA (A : AS) (k m : Nat) : AS := (cR A.1, frR A.1 [] (rpo (A.1 2) (flo (A.2.2.2.1.getD k oz) m)), A.2.2.1 ++ [rpo (A.1 2) (flo (A.2.2.2.1.getD k oz) m)], A.2.2.2.1.set k (flo (A.2.2.2.1.getD k oz) m), A.2.2.2.2)
theorem flo_ok {x : RP} {m : Nat} (h : okO x) (hm : m ≤ x.2.2.1 - x.2.2.2.1) : okO (flo x m) := by
  obtain ⟨a, b, c, d, e, f⟩ := h
  exact ⟨a, b, c, d, by show x.2.2.2.1 + m ≤ x.2.2.1; omega, f⟩
theorem flo_ook {od : List RP} {us : List Nat} {k m : Nat} (h : ook od us) (hk : k < od.length) (hm : m ≤ (od.getD k oz).2.2.1 - (od.getD k oz).2.2.2.1) : ook (od.set k (flo (od.getD k oz) m)) us := by
  have id1 : ∀ j, j < od.length → ((od.set k (flo (od.getD k oz) m)).getD j oz).1 = (od.getD j oz).1 := by
    intro j hj
    by_cases e : j = k
    · rw [e, getD_set_self hk]
      rfl
    · rw [getD_set_ne e]
  refine ⟨fun j hj => ?_, fun i j hi hj e => ?_⟩
  · rw [List.length_set] at hj
    by_cases e : j = k
    · rw [e, getD_set_self hk]
      exact ⟨flo_ok (h.1 k hk).1 hm, (h.1 k hk).2⟩
    · rw [getD_set_ne e]
      exact h.1 j hj
  · rw [List.length_set] at hi hj
    rw [id1 i hi, id1 j hj] at e
    exact h.2 i j hi hj e
theorem inv_fl {N : Nat} {A : AS} {k m : Nat} (h : inv (1 + 3 * N) N A) (hk : k < A.2.2.2.1.length) (hm : m ≤ (A.2.2.2.1.getD k oz).2.2.1 - (A.2.2.2.1.getD k oz).2.2.2.1) : inv (1 + 3 * (N + 1)) (N + 1) (flA A k m) := by
  obtain ⟨a, b, c, d, e, f, g, i⟩ := h
  have hc2 : cR A.1 2 = A.1 2 + 1 := by
    unfold cR
    split
    · exact up_at _ _ _
    · exact up_at _ _ _
  refine ⟨(invc_cR a).w (by omega) (by omega), ?_, ?_, flo_ook d hk hm, e, ?_, ?_, ?_⟩
  · show rok (A.2.2.1 ++ [rpo (A.1 2) (flo (A.2.2.2.1.getD k oz) m)]) (cR A.1 2)
    rw [hc2]
    exact rok_app b rfl a.2.2.2.1 (rpo_ok (flo_ok (d.1 k hk).1 hm))
  · show (A.2.2.1 ++ [_]).length ≤ N + 1
    rw [List.length_append, List.length_singleton]
    omega
  · show A.2.2.2.2.length ≤ N + 1
    omega
  · show (A.2.2.2.1.set k _).length ≤ 40
    rw [List.length_set]
    exact g
  · show (frR A.1 [] _).length < 20000
    unfold frR
    split
    · show 0 + 1 < 20000
      decide
    · show 0 < 20000
      decide
section FI
variable {N : Nat} {S : XS} {r : List AE} {C : XS → List AE → Prop} {K : Int32 → XS → List AE → Prop} {KT : Nat → XS → List AE → Prop} {Q : Int32 → XS → List AE → Prop} {A : AS} {q : Nat} {p p2 : Int32}
/-- the order with this id that may still be filled -/
def opn (od : List RP) (p : Int32) (k : Nat) : Prop := hasId od p k ∧ stt (od.getD k oz) < 2
def mny (x : RP) (p2 : Int32) (m : Nat) : Prop := p2 = nI m ∧ 1 ≤ m ∧ m ≤ x.2.2.1 - x.2.2.2.1
theorem mny_no {x : RP} (hx : okO x) (h : ∀ m, ¬ mny x p2 m) : p2 < 1 ∨ (¬ p2 < 1 ∧ ¬ p2 ≤ nI (x.2.2.1 - x.2.2.2.1)) := by
  by_cases c : p2 < 1
  · exact Or.inl c
  · refine Or.inr ⟨c, fun d => ?_⟩
    have c0 : ¬ p2 < 0 := by
      intro z
      rw [lt0_ti] at z
      rw [Int32.lt_iff_toInt_lt, show (1 : Int32).toInt = 1 by decide] at c
      omega
    obtain ⟨j, hj, rfl⟩ := nI_of c0
    have := hx.2.2.2.1
    rw [nI_leI hj (by omega)] at d
    rw [li_1, nI_ltI hj (by omega)] at c
    exact h j ⟨rfl, by omega, d⟩
theorem mny_yes {x : RP} {m : Nat} (hx : okO x) (h : mny x p2 m) : ¬ p2 < 1 ∧ p2 ≤ nI (x.2.2.1 - x.2.2.2.1) ∧ m < 1000000 := by
  obtain ⟨rfl, h1, h2⟩ := h
  have := hx.2.2.2.1
  rw [li_1, nI_ltI (by omega) (by omega), nI_leI (by omega) (by omega)]
  omega
theorem rT_fill (hT : TA A q S r) (ho : ook A.2.2.2.1 A.2.2.2.2) (h01 : A.1 0 ≤ 1) (hc : A.1 2 < 1000000) (hq : q + 1 ≤ 5000) (h10 : (∀ k, ¬ opn A.2.2.2.1 p k) → KT 10 S (r ++ [xO 10 []])) (h7 : ∀ k, opn A.2.2.2.1 p k → (∀ m, ¬ mny (A.2.2.2.1.getD k oz) p2 m) → KT 7 S (r ++ [xO 7 []])) (h : ∀ k m, opn A.2.2.2.1 p k → mny (A.2.2.2.1.getD k oz) p2 m → ∀ S' r', TA (flA A k m) (q + 1) S' r' → kT S S' → K (nI ((A.2.2.2.1.getD k oz).2.2.2.1 + m)) S' r') : w_T_fill S r p p2 K KT := by
  have hb : bud r := TT_bud hT (by omega)
  obtain ⟨t1, t2, t3, ⟨oa, hD⟩, t5⟩ := hT
  refine rT_find hD (fun hn => ⟨fun _ => ⟨hb, h10 (fun k hk => hn k hk.1)⟩, fun z => absurd rfl z⟩) (fun k hk => ?_)
  have hcell := (hD.2.2.1 k hk.1).2
  have h40 := (rl_ge hcell).1
  have hx := (ho.1 k hk.1).1
  have hq1 := hx.2.2.2.1
  have hq2 := hx.2.2.2.2.1
  refine ⟨fun z => absurd z (by omega), fun _ => ⟨_, _, _, _, _, hcell, rO_open hx ?_⟩⟩
  by_cases hop : stt (A.2.2.2.1.getD k oz) < 2
  · rw [if_pos hop]
    refine ⟨fun _ => ?_, fun z => absurd z (by decide)⟩
    rw [nI_sub hq2]
    by_cases hm : ∃ m, mny (A.2.2.2.1.getD k oz) p2 m
    · obtain ⟨m, hm⟩ := hm
      obtain ⟨y1, y2, y3⟩ := mny_yes hx hm
      refine ⟨fun z => absurd z y1, fun _ => ⟨fun _ => ?_, fun z => absurd y2 z⟩⟩
      rw [hm.1, nI_add]
      obtain ⟨u1, u2⟩ := TT_oset (y := flo (A.2.2.2.1.getD k oz) m) t1 t2 t3 hD t5 hk.1
      have u3 := TT_fr0 u1
      refine rT_tell (x := flo (A.2.2.2.1.getD k oz) m) u3 u2 (flo_ok hx hm.2.2) h01 hc hq (by decide) (fun S' r' v1 v2 v3 => ⟨_, _, _, _, _, v3 _ _ u2 rfl, ?_⟩)
      exact h k m ⟨hk, hop⟩ hm S' r' v1 ((kT_sF (by decide)).trans v2)
    · have bad : w_T_fill_43 K KT S r := ⟨hb, h7 k ⟨hk, hop⟩ (fun m w => hm ⟨m, w⟩)⟩
      rcases mny_no hx (fun m w => hm ⟨m, w⟩) with w | ⟨w1, w2⟩
      · exact ⟨fun _ => bad, fun z => absurd w z⟩
      · exact ⟨fun z => absurd z w1, fun _ => ⟨fun z => absurd z w2, fun _ => bad⟩⟩
  · rw [if_neg hop]
    refine ⟨fun z => absurd rfl z, fun _ => ⟨hb, h10 (fun j hj => ?_)⟩⟩
    rw [hasId_eq ho hj.1 hk] at hj
    exact hop hj.2
theorem MD_flo {od : List RP} {S : XS} {k m : Nat} (h : MD od S) (hk : k < od.length) : MD (od.set k (flo (od.getD k oz) m)) (sA S 20 (upd (gA S 20) k (nI ((od.getD k oz).2.2.2.1 + m)))) := by
  obtain ⟨d1, d2, d3⟩ := h
  refine ⟨by rw [List.length_set]; exact d1, by rw [List.length_set]; exact d2, fun j hj => ?_⟩
  rw [List.length_set] at hj
  obtain ⟨a1, a2, a3, a4, a5⟩ := d3 j hj
  by_cases e : j = k
  · subst e
    rw [getD_set_self hj]
    refine ⟨a1, a2, a3, ?_, a5⟩
    rw [gA_sA, if_pos rfl, upd_at]
    rfl
  · rw [getD_set_ne e]
    refine ⟨a1, a2, a3, ?_, a5⟩
    rw [gA_sA, if_pos rfl, upd_ne _ _ e]
    exact a4
theorem rM_fill (hM : MA A S) (ho : ook A.2.2.2.1 A.2.2.2.2) (h01 : A.1 0 ≤ 1) (hc : A.1 2 < 1600) (hr : rok A.2.2.1 (A.1 2)) (h10 : (∀ k, ¬ opn A.2.2.2.1 p k) → K 0 (sF (sF S 800 0) 800 1) r) (h7 : ∀ k, opn A.2.2.2.1 p k → (∀ m, ¬ mny (A.2.2.2.1.getD k oz) p2 m) → K 0 (sF (sF S 800 0) 800 2) r) (h : ∀ k m, opn A.2.2.2.1 p k → mny (A.2.2.2.1.getD k oz) p2 m → ∀ S', MA (flA A k m) S' → kQ S S' → gF S' 800 = 0 → K (nI ((A.2.2.2.1.getD k oz).2.2.2.1 + m)) S' r) : w_M_fill S r p p2 K := by
  have hM0 := MA_800 (v := 0) hM
  refine rM_openOrder hM0.2.2.2.1 ho (fun hn => ⟨fun z => absurd z (by decide), fun _ => h10 (fun k hk => hn k hk.1 hk.2)⟩) (fun k hk hop => ?_)
  have hx := (ho.1 k hk.1).1
  have hq1 := hx.2.2.2.1
  have hq2 := hx.2.2.2.2.1
  have hD := hM0.2.2.2.1
  have hl := hD.2.1
  have hkl := hk.1
  obtain ⟨a1, a2, a3, a4, a5⟩ := hD.2.2 k hk.1
  have hv : vp_in (nI k) 40 := vp_in_nI (by omega) (by decide)
  refine ⟨fun _ => ?_, fun z => absurd (nI_pos' (by omega)) z⟩
  rw [nI_clamp (by omega), a3, a4, nI_sub hq2]
  by_cases hm : ∃ m, mny (A.2.2.2.1.getD k oz) p2 m
  · obtain ⟨m, hm⟩ := hm
    obtain ⟨y1, y2, y3⟩ := mny_yes hx hm
    refine ⟨fun z => absurd z y1, fun _ => ⟨hv, hv, fun _ => ⟨hv, hv, ?_⟩, fun z => absurd y2 z⟩⟩
    rw [hm.1, nI_add]
    have hM1 := MM_fr0 hM0
    have e20 : gA (sF S 800 0) 20 = gA (sF (sF S 800 0) 815 0) 20 := rfl
    rw [e20]
    have hD1 := MD_flo (m := m) hM1.2.2.2.1 hkl
    have hM2 : MM A.1 [] A.2.2.1 (A.2.2.2.1.set k (flo (A.2.2.2.1.getD k oz) m)) A.2.2.2.2 (sA (sF (sF S 800 0) 815 0) 20 (upd (gA (sF (sF S 800 0) 815 0) 20) k (nI ((A.2.2.2.1.getD k oz).2.2.2.1 + m)))) := ⟨hM1.1.same (fun _ _ => rfl), hM1.2.1.same rfl rfl rfl, hM1.2.2.1.same rfl rfl, hD1, hM1.2.2.2.2.same rfl rfl⟩
    have kq : kQ S (sA (sF (sF S 800 0) 815 0) 20 (upd (gA (sF (sF S 800 0) 815 0) 20) k (nI ((A.2.2.2.1.getD k oz).2.2.2.1 + m)))) := ((ke_sF (by decide)).trans (ke_sF (by decide))).trans (ke_sA (by decide))
    have z8 : gF (sA (sF (sF S 800 0) 815 0) 20 (upd (gA (sF (sF S 800 0) 815 0) 20) k (nI ((A.2.2.2.1.getD k oz).2.2.2.1 + m)))) 800 = 0 := rfl
    generalize sA (sF (sF S 800 0) 815 0) 20 (upd (gA (sF (sF S 800 0) 815 0) 20) k (nI ((A.2.2.2.1.getD k oz).2.2.2.1 + m))) = S1 at *
    have eg : (A.2.2.2.1.set k (flo (A.2.2.2.1.getD k oz) m)).getD k oz = flo (A.2.2.2.1.getD k oz) m := getD_set_self hkl
    refine rM_tell (k := k) hM2 (by rw [List.length_set]; exact hkl) (by rw [eg]; exact flo_ok hx hm.2.2) h01 hc hr (by decide) (fun S' v1 v2 => ⟨hv, ?_⟩)
    rw [eg] at v1
    have e4 := (v1.2.2.2.1.2.2 k (by rw [List.length_set]; exact hkl)).2.2.2.1
    rw [eg] at e4
    rw [e4]
    exact h k m ⟨hk, hop⟩ hm S' v1 (ke.trans kq v2.q) ((v2.1 800 (by decide)).trans z8)
  · have bad : w_M_fill_43 K (sF S 800 0) r := h7 k ⟨hk, hop⟩ (fun m w => hm ⟨m, w⟩)
    rcases mny_no hx (fun m w => hm ⟨m, w⟩) with w | ⟨w1, w2⟩
    · exact ⟨fun _ => bad, fun z => absurd w z⟩
    · exact ⟨fun z => absurd z w1, fun _ => ⟨hv, hv, fun z => absurd z w2, fun _ => bad⟩⟩
theorem opn_eq {od : List RP} {us : List Nat} {j k : Nat} (ho : ook od us) (h1 : opn od p j) (h2 : opn od p k) : j = k := hasId_eq ho h1.1 h2.1
theorem mny_eq {x : RP} {m n : Nat} (hx : okO x) (h1 : mny x p2 m) (h2 : mny x p2 n) : m = n := by
  have a := (mny_yes hx h1).2.2
  have b := (mny_yes hx h2).2.2
  have e := h1.1.symm.trans h2.1
  rw [nI_eq (by omega) (by omega)] at e
  exact e
theorem rJ_fill (hJ : J N S r) (hN : N ≤ 512) (hC : ∀ S' r', J (N + 1) S' r' → C S' r') (hQ : ∀ k S1 r1, w_M_fill S1 r1 p p2 (fun b S2 r2 => chk K C k b S2 r2) → Q k S1 r1) : w_L_fill S r p p2 Q := by
  have hJ' := hJ
  obtain ⟨A, ib, q, h1, h2, h3, h4, h5, h6⟩ := hJ
  have i0 : A.1 0 ≤ 1 := h1.1.1
  have i2 : A.1 2 ≤ 1 + 3 * N := h1.1.2.2.2.2.1
  have ho := h1.2.2.2.1
  have hr := h1.2.1
  refine rT_fill h2 ho i0 (by omega) (by omega) (fun hn => Or.inl ⟨rfl, hQ _ _ _ ?_⟩) (fun k hk hm => Or.inr ⟨rfl, hQ _ _ _ ?_⟩) (fun k m hk hm S1 r1 t1 t2 => hQ _ _ _ ?_)
  · exact rM_fill h3 ho i0 (by omega) hr (fun _ => chk_err rfl (by decide) (hC _ _ (hJ'.err (by decide)))) (fun k hk => absurd hk (hn k)) (fun k m hk => absurd hk (hn k))
  · exact rM_fill h3 ho i0 (by omega) hr (fun hn => absurd hk (hn k)) (fun _ _ _ => chk_err rfl (by decide) (hC _ _ (hJ'.err (by decide)))) (fun k' m hk' hm' => by rw [opn_eq ho hk' hk] at hm'; exact absurd hm' (hm m))
  · generalize hv : vp_updL (gO S1) (0 : Int32).toNatClampNeg ((nI ((A.2.2.2.1.getD k oz).2.2.2.1 + m)).toInt64) = gv
    have x1 : kX S (sO S1 gv) := t2.x.trans kX_sO
    refine rM_fill (h3.x x1) ho i0 (by omega) hr (fun hn => absurd hk (hn k)) (fun k' hk' hm' => by rw [opn_eq ho hk' hk] at hm'; exact absurd hm (hm' m)) (fun k' m' hk' hm' S2 m2 q2 z2 => ?_)
    have ek := opn_eq ho hk' hk
    subst ek
    have em := mny_eq (ho.1 k' hk.1.1).1 hm' hm
    subst em
    refine chk_ok z2 ?_ (hC _ _ ⟨flA A k' m', ib, q + 1, inv_fl h1 hk.1.1 hm.2.2, TA.y (TA.o t1) q2.y, m2, TI.y (TI.o (h4.t t2)) q2.y, q2.i (h5.x x1), by omega⟩)
    rw [q2.2.2.2.2, ← hv]
    exact gO_set _ _
end FI
