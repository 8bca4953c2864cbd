/-! ===== session, order ===== -/
def sesv (A : AS) : Nat → Nat
  | 0 => A.1 1
  | 1 => A.1 2
  | 2 => A.1 3
  | 3 => A.1 0
  | 4 => A.1 4
  | 5 => A.2.2.2.1.length
  | _ => A.1 8
theorem nI_ti {p : Int32} {j : Nat} (hj : j < 2 ^ 31) (h : p.toInt = (j : Int)) : p = nI j := Int32.toInt_inj.mp (by rw [nI_toInt hj]; exact h)
theorem lt0_ti {p : Int32} : p < 0 ↔ p.toInt < 0 := by
  rw [Int32.lt_iff_toInt_lt]
  exact Iff.rfl
theorem le7 {p : Int32} {m : Nat} (hm : m < 2 ^ 31) (h : ¬ (p < 0 ∨ nI m < p)) : ∃ j, j ≤ m ∧ p = nI j := by
  have h1 : ¬ p < 0 := fun w => h (Or.inl w)
  obtain ⟨j, hj, rfl⟩ := nI_of h1
  refine ⟨j, ?_, rfl⟩
  refine Classical.byContradiction (fun w => h (Or.inr ?_))
  rw [nI_ltI hm hj]
  omega
section RD2
variable {N : Nat} {S : XS} {r : List AE} {C : XS → List AE → Prop} {Q : Int32 → XS → List AE → Prop} {p p1 p2 : Int32} {A : AS} {q : Nat} {K : Int32 → XS → List AE → Prop} {KT : Nat → XS → List AE → Prop}
theorem rT_session (hT : TA A q S r) (h01 : A.1 0 ≤ 1) (hb : bud r) (h0 : (p < 0 ∨ nI 6 < p) → KT 9 S (r ++ [xO 9 []])) (h1 : ∀ j ≤ 6, p = nI j → K (nI (sesv A j)) S r) : w_T_session S r p K KT := by
  obtain ⟨⟨a0, a1, a2, a3, a4, a5, a6, a7, a8⟩, -, -, ⟨oa, o1, -⟩, -⟩ := hT
  refine ⟨fun w => ⟨hb, h0 ?_⟩, fun e => ?_, fun e => ?_, fun e => ?_, fun e => ⟨fun z => ?_, fun z => ?_⟩, fun e => ?_, fun e => ?_, fun e => ?_⟩
  · rcases w with w | w
    · exact Or.inl (lt0_ti.mpr w)
    · refine Or.inr ?_
      rw [Int32.lt_iff_toInt_lt, nI_toInt (by decide)]
      exact w
  · rw [a1]; exact h1 0 (by decide) (nI_ti (by decide) e)
  · rw [a2]; exact h1 1 (by decide) (nI_ti (by decide) e)
  · rw [a3]; exact h1 2 (by decide) (nI_ti (by decide) e)
  · rw [a0, li_0, nI_eq (by omega) (by omega)] at z
    have := h1 3 (by decide) (nI_ti (by decide) e)
    rw [show sesv A 3 = 0 from z] at this
    exact this
  · rw [a0, li_0, nI_eq (by omega) (by omega)] at z
    have := h1 3 (by decide) (nI_ti (by decide) e)
    rw [show sesv A 3 = 1 by show A.1 0 = 1; omega] at this
    exact this
  · rw [a4]; exact h1 4 (by decide) (nI_ti (by decide) e)
  · rw [o1]; exact h1 5 (by decide) (nI_ti (by decide) e)
  · rw [a8]; exact h1 6 (by decide) (nI_ti (by decide) e)
theorem rM_session (hM : MA A S) (h01 : A.1 0 ≤ 1) (h0 : (p < 0 ∨ nI 6 < p) → K 0 (sF (sF S 800 0) 800 1) r) (h1 : ∀ j ≤ 6, p = nI j → K (nI (sesv A j)) (sF S 800 0) r) : w_M_session S r p K := by
  obtain ⟨⟨a0, a1, a2, a3, a4, a5, a6, a7, a8⟩, -, -, ⟨o1, -⟩, -⟩ := hM
  by_cases w : p < 0 ∨ nI 6 < p
  · exact wi_no w ⟨fun z => absurd rfl z, fun _ => h0 w⟩
  · obtain ⟨j, hj, e⟩ := le7 (by decide) w
    have g := h1 j hj e
    refine wi_yes (fun z => w (Or.inl z)) (fun z => w (Or.inr z)) ⟨fun _ => ?_, fun z => absurd z (by decide)⟩
    rw [e]
    have hj' : j = 0 ∨ j = 1 ∨ j = 2 ∨ j = 3 ∨ j = 4 ∨ j = 5 ∨ j = 6 := by omega
    rcases hj' with rfl | rfl | rfl | rfl | rfl | rfl | rfl
    · rw [a1]; exact ⟨fun z => absurd z (by decide), fun _ => ⟨fun z => absurd rfl z, fun _ => g⟩⟩
    · rw [a2]; exact ⟨fun z => absurd z (by decide), fun _ => ⟨fun _ => ⟨fun z => absurd rfl z, fun _ => g⟩, fun z => absurd z (by decide)⟩⟩
    · rw [a3]; exact ⟨fun z => absurd z (by decide), fun _ => ⟨fun _ => ⟨fun _ => ⟨fun z => absurd rfl z, fun _ => g⟩, fun z => absurd z (by decide)⟩, fun z => absurd z (by decide)⟩⟩
    · refine ⟨fun z => absurd z (by decide), fun _ => ⟨fun _ => ⟨fun _ => ⟨fun _ => ⟨fun z => ?_, fun z => ?_⟩, fun z => absurd z (by decide)⟩, fun z => absurd z (by decide)⟩, fun z => absurd z (by decide)⟩⟩
      · rw [a0, li_0, nI_eq (by omega) (by omega)] at z
        rw [show sesv A 3 = 0 from z] at g
        exact g
      · rw [a0, li_0, nI_eq (by omega) (by omega)] at z
        rw [show sesv A 3 = 1 by show A.1 0 = 1; omega] at g
        exact g
    · rw [a4]; exact ⟨fun _ => ⟨fun z => absurd rfl z, fun _ => g⟩, fun z => absurd (by decide) z⟩
    · rw [o1]; exact ⟨fun _ => ⟨fun _ => ⟨fun z => absurd rfl z, fun _ => g⟩, fun z => absurd z (by decide)⟩, fun z => absurd (by decide) z⟩
    · rw [a8]; exact ⟨fun _ => ⟨fun _ => ⟨fun _ => g, fun z => absurd z (by decide)⟩, fun z => absurd z (by decide)⟩, fun z => absurd (by decide) z⟩
theorem rJ_session (hJ : J N S r) (hN : N ≤ 512) (hC : ∀ S' r', J (N + 1) S' r' → C S' r') (hQ : ∀ k S1 r1, w_M_session S1 r1 p (fun b S2 r2 => chk K C k b S2 r2) → Q k S1 r1) : w_L_session S r p Q := by
  have hJ' := hJ
  have hb := hJ.bud hN
  obtain ⟨A, ib, q, h1, h2, h3, h4, h5, h6⟩ := hJ
  have h01 : A.1 0 ≤ 1 := h1.1.1
  refine rT_session h2 h01 hb (fun w => ⟨rfl, hQ _ _ _ ?_⟩) (fun j hj e => hQ _ _ _ ?_)
  · exact rM_session h3 h01 (fun _ => chk_err rfl (by decide) (hC _ _ (hJ'.err (by decide)))) (fun j hj e => by
      exfalso
      rw [e] at w
      rcases w with w | w
      · exact nI_pos (by omega) w
      · rw [nI_ltI (by omega) (by omega)] at w
        omega)
  · refine rM_session (h3.x kX_sO) h01 (fun w => ?_) (fun j' hj' e' => ?_)
    · exfalso
      rw [e] at w
      rcases w with w | w
      · exact nI_pos (by omega) w
      · rw [nI_ltI (by omega) (by omega)] at w
        omega
    · rw [e, nI_eq (by omega) (by omega)] at e'
      subst e'
      exact chk_ok rfl (gO_set S _) (hC _ _ hJ'.o.rd0)
def ordv (x : RP) : Nat → Nat
  | 0 => x.2.1
  | 1 => x.2.2.1
  | 2 => x.2.2.2.1
  | _ => stt x
theorem rT_order {od : List RP} (hD : TD od S r) (ho : ∀ k < od.length, okO (od.getD k oz)) (hb : bud r) (h0 : (∀ k, ¬ hasId od p k) → KT 10 S (r ++ [xO 10 []])) (h9 : ∀ k, hasId od p k → (p2 < 0 ∨ nI 3 < p2) → KT 9 S (r ++ [xO 9 []])) (h1 : ∀ k j, hasId od p k → j ≤ 3 → p2 = nI j → K (nI (ordv (od.getD k oz) j)) S r) : w_T_order S r p p2 K KT := by
  obtain ⟨oa, hD⟩ := hD
  refine rT_find hD (fun hn => ⟨fun z => absurd rfl z, fun _ => ⟨hb, h0 hn⟩⟩) (fun k hk => ?_)
  have hc := (hD.2.2.1 k hk.1).2
  have h40 := (rl_ge hc).1
  refine ⟨fun _ => ⟨fun w => ⟨hb, h9 k hk ?_⟩, fun e => ⟨_, _, _, _, _, hc, h1 k 0 hk (by decide) (nI_ti (by decide) e)⟩, fun e => ⟨_, _, _, _, _, hc, h1 k 1 hk (by decide) (nI_ti (by decide) e)⟩, fun e => ⟨_, _, _, _, _, hc, h1 k 2 hk (by decide) (nI_ti (by decide) e)⟩, fun e => ⟨_, _, _, _, _, hc, rO_state (ho k hk.1) (h1 k 3 hk (by decide) (nI_ti (by decide) e))⟩⟩, fun z => absurd z (by omega)⟩
  rcases w with w | w
  · exact Or.inl (lt0_ti.mpr w)
  · refine Or.inr ?_
    rw [Int32.lt_iff_toInt_lt, nI_toInt (by decide)]
    exact w
theorem rM_ord10 {od : List RP} (hD : MD od S) (ho : ∀ k < od.length, okO (od.getD k oz)) (h0 : (∀ k, ¬ hasId od p k) → K 0 (sF S 800 1) r) (h9 : ∀ k, hasId od p k → (p2 < 0 ∨ nI 3 < p2) → K 0 (sF S 800 2) r) (h1 : ∀ k j, hasId od p k → j ≤ 3 → p2 = nI j → K (nI (ordv (od.getD k oz) j)) S r) : ∀ (g k : Nat) (v : Int32), k ≤ od.length → k + g = od.length + 1 → ((v = -1 ∧ ∀ j < k, ¬ hasId od p j) ∨ ∃ j, j < k ∧ v = nI j ∧ hasId od p j) → w_M_order_10 K g S r p p2 v (nI k)
  | 0, k, v, hk0, hk, hj => absurd hk (by omega)
  | g + 1, k, v, hk0, hk, hj => by
    have d2 := hD.2.1
    refine ⟨fun e => ?_, fun e => ?_⟩
    · rw [hD.1, nI_leI (by omega) (by omega)] at e
      rcases hj with ⟨rfl, hm⟩ | ⟨j, j1, rfl, j2⟩
      · exact ⟨fun z => absurd z (by decide), fun _ => h0 (fun j hh => hm j (by have := hh.1; omega) hh)⟩
      · have hjl := j2.1
        obtain ⟨a1, a2, a3, a4, a5⟩ := hD.2.2 j hjl
        have hv : vp_in (nI j) 40 := vp_in_nI (by omega) (by decide)
        refine ⟨fun _ => ?_, fun z => absurd (nI_pos' (by omega)) z⟩
        by_cases w : p2 < 0 ∨ nI 3 < p2
        · exact wi_no w ⟨fun z => absurd rfl z, fun _ => h9 j j2 w⟩
        · obtain ⟨i, hi, rfl⟩ := le7 (by decide) w
          have g := h1 j i j2 hi rfl
          refine wi_yes (fun z => w (Or.inl z)) (fun z => w (Or.inr z)) ⟨fun _ => ?_, fun z => absurd z (by decide)⟩
          rw [nI_clamp (by omega), a2, a3, a4]
          have hi' : i = 0 ∨ i = 1 ∨ i = 2 ∨ i = 3 := by omega
          rcases hi' with rfl | rfl | rfl | rfl
          · exact ⟨fun z => absurd rfl z, fun _ => ⟨hv, g⟩⟩
          · exact ⟨fun _ => ⟨fun z => absurd rfl z, fun _ => ⟨hv, g⟩⟩, fun z => absurd z (by decide)⟩
          · exact ⟨fun _ => ⟨fun _ => ⟨fun z => absurd rfl z, fun _ => ⟨hv, g⟩⟩, fun z => absurd z (by decide)⟩, fun z => absurd z (by decide)⟩
          · exact ⟨fun _ => ⟨fun _ => ⟨fun _ => rM_state hD hjl (ho j hjl) g, fun z => absurd z (by decide)⟩, fun z => absurd z (by decide)⟩, fun z => absurd z (by decide)⟩
    · rw [hD.1, nI_leI (by omega) (by omega)] at e
      have go : ∀ v', ((v' = -1 ∧ ∀ j < k + 1, ¬ hasId od p j) ∨ ∃ j, j < k + 1 ∧ v' = nI j ∧ hasId od p j) → w_M_order_10 K g S r p p2 v' (nI k + 1) := by
        intro v' hv'
        rw [nI_1]
        exact rM_ord10 hD ho h0 h9 h1 g (k + 1) v' (by omega) (by omega) hv'
      obtain ⟨a1, -⟩ := hD.2.2 k (by omega)
      rw [nI_clamp (by omega), a1]
      refine ⟨vp_in_nI (by omega) (by decide), fun f => go v ?_, fun f => go (nI k) (Or.inr ⟨k, by omega, rfl, by omega, f⟩)⟩
      rcases hj with ⟨a, hm⟩ | ⟨j, j1, j2⟩
      · refine Or.inl ⟨a, fun j hj2 => ?_⟩
        by_cases e3 : j = k
        · rw [e3]; exact fun q => f q.2
        · exact hm j (by omega)
      · exact Or.inr ⟨j, by omega, j2⟩
theorem rM_order {od : List RP} (hD : MD od S) (ho : ∀ k < od.length, okO (od.getD k oz)) (h0 : (∀ k, ¬ hasId od p k) → K 0 (sF (sF S 800 0) 800 1) r) (h9 : ∀ k, hasId od p k → (p2 < 0 ∨ nI 3 < p2) → K 0 (sF (sF S 800 0) 800 2) r) (h1 : ∀ k j, hasId od p k → j ≤ 3 → p2 = nI j → K (nI (ordv (od.getD k oz) j)) (sF S 800 0) r) : w_M_order S r p p2 K :=
  ⟨od.length + 1, rM_ord10 (S := sF S 800 0) (hD.same rfl rfl rfl rfl rfl rfl) ho h0 h9 h1 (od.length + 1) 0 (-1) (Nat.zero_le _) (by omega) (Or.inl ⟨rfl, fun j hj => absurd hj (by omega)⟩)⟩
theorem big3 {j : Nat} (hj : j ≤ 3) (w : nI j < 0 ∨ nI 3 < nI j) : False := by
  rcases w with w | w
  · exact nI_pos (by omega) w
  · rw [nI_ltI (by omega) (by omega)] at w
    omega
theorem rJ_order (hJ : J N S r) (hN : N ≤ 512) (hC : ∀ S' r', J (N + 1) S' r' → C S' r') (hQ : ∀ k S1 r1, w_M_order S1 r1 p p2 (fun b S2 r2 => chk K C k b S2 r2) → Q k S1 r1) : w_L_order S r p p2 Q := by
  have hJ' := hJ
  have hb := hJ.bud hN
  obtain ⟨A, ib, q, h1, h2, h3, h4, h5, h6⟩ := hJ
  have hoo := h1.2.2.2.1
  have ho : ∀ k < A.2.2.2.1.length, okO (A.2.2.2.1.getD k oz) := fun k hk => (hoo.1 k hk).1
  refine rT_order h2.2.2.2.1 ho hb (fun hn => Or.inl ⟨rfl, hQ _ _ _ ?_⟩) (fun k hk w => Or.inr ⟨rfl, hQ _ _ _ ?_⟩) (fun k j hk hj e => hQ _ _ _ ?_)
  · exact rM_order h3.2.2.2.1 ho (fun _ => chk_err rfl (by decide) (hC _ _ (hJ'.err (by decide)))) (fun k hk => absurd hk (hn k)) (fun k j hk => absurd hk (hn k))
  · exact rM_order h3.2.2.2.1 ho (fun hn => absurd hk (hn k)) (fun _ _ _ => chk_err rfl (by decide) (hC _ _ (hJ'.err (by decide)))) (fun k j hk hj e => by rw [e] at w; exact (big3 hj w).elim)
  · refine rM_order (h3.x kX_sO).2.2.2.1 ho (fun hn => absurd hk (hn k)) (fun _ _ w => by rw [e] at w; exact (big3 hj w).elim) (fun k' j' hk' hj' e' => ?_)
    rw [e, nI_eq (by omega) (by omega)] at e'
    subst e'
    rw [hasId_eq hoo hk' hk]
    exact chk_ok rfl (gO_set S _) (hC _ _ hJ'.o.rd0)
end RD2
