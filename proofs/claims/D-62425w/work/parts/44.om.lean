/-! ===== messages of orders ===== -/
def OMr (t a b v : Nat) (od : List RP) (us : List Nat) (od' : List RP) (us' : List Nat) (x : Nat × Nat × Nat × Nat) : Prop :=
  ((a = 0 ∨ a ∈ us ∨ (t = 68 ∧ (b < 1 ∨ 2 < b ∨ v = 0 ∨ od.length = 40)) ∨ (t ≠ 68 ∧ ∀ k, hasId od (nI b) k → stt (od.getD k oz) < 2 → t = 71 ∧ v ≤ (od.getD k oz).2.2.2.1)) ∧ od' = od ∧ us' = us ∧ x = (a, 56, 0, 0)) ∨
  ((a ≠ 0 ∧ a ∉ us ∧ t = 68 ∧ 1 ≤ b ∧ b ≤ 2 ∧ v ≠ 0 ∧ od.length ≠ 40) ∧ od' = od ++ [(a, b, v, 0, 0)] ∧ us' = us ++ [a] ∧ x = (rpo 0 (a, b, v, 0, 0)).2) ∨
  (∃ k, (a ≠ 0 ∧ a ∉ us ∧ t ≠ 68 ∧ hasId od (nI b) k ∧ stt (od.getD k oz) < 2 ∧ (t = 71 → (od.getD k oz).2.2.2.1 < v)) ∧ ∃ y : RP, y = (a, (od.getD k oz).2.1, (if t = 71 then v else (od.getD k oz).2.2.1), (od.getD k oz).2.2.2.1, (if t = 71 then (od.getD k oz).2.2.2.2 else 1)) ∧ od' = od.set k y ∧ us' = us ++ [a] ∧ x = (rpo 0 y).2)
theorem OMr_total (t a b v : Nat) (od : List RP) (us : List Nat) : ∃ od' us' x, OMr t a b v od us od' us' x := by
  by_cases h1 : a = 0 ∨ a ∈ us ∨ (t = 68 ∧ (b < 1 ∨ 2 < b ∨ v = 0 ∨ od.length = 40)) ∨ (t ≠ 68 ∧ ∀ k, hasId od (nI b) k → stt (od.getD k oz) < 2 → t = 71 ∧ v ≤ (od.getD k oz).2.2.2.1)
  · exact ⟨_, _, _, Or.inl ⟨h1, rfl, rfl, rfl⟩⟩
  · have h2 : a ≠ 0 := fun e => h1 (Or.inl e)
    have h3 : a ∉ us := fun e => h1 (Or.inr (Or.inl e))
    by_cases h4 : t = 68
    · have h5 : ¬ (b < 1 ∨ 2 < b ∨ v = 0 ∨ od.length = 40) := fun e => h1 (Or.inr (Or.inr (Or.inl ⟨h4, e⟩)))
      exact ⟨_, _, _, Or.inr (Or.inl ⟨⟨h2, h3, h4, by omega, by omega, by omega, by omega⟩, rfl, rfl, rfl⟩)⟩
    · have h5 : ¬ ∀ k, hasId od (nI b) k → stt (od.getD k oz) < 2 → t = 71 ∧ v ≤ (od.getD k oz).2.2.2.1 := fun e => h1 (Or.inr (Or.inr (Or.inr ⟨h4, e⟩)))
      obtain ⟨k, h6⟩ := Classical.not_forall.mp h5
      have h7 : hasId od (nI b) k := Classical.byContradiction (fun e => h6 (fun q => absurd q e))
      have h8 : stt (od.getD k oz) < 2 := Classical.byContradiction (fun e => h6 (fun _ q => absurd q e))
      have h9 : ¬ (t = 71 ∧ v ≤ (od.getD k oz).2.2.2.1) := fun e => h6 (fun _ _ => e)
      exact ⟨_, _, _, Or.inr (Or.inr ⟨k, ⟨h2, h3, h4, h7, h8, fun e => by omega⟩, _, rfl, rfl, rfl, rfl⟩)⟩
theorem getD_set_self {od : List RP} {k : Nat} {y : RP} (h : k < od.length) : (od.set k y).getD k oz = y := by
  rw [List.getD_eq_getElem?_getD, List.getElem?_set_self h]
  rfl
theorem getD_set_ne {od : List RP} {k j : Nat} {y : RP} (h : j ≠ k) : (od.set k y).getD j oz = od.getD j oz := by
  rw [List.getD_eq_getElem?_getD, List.getD_eq_getElem?_getD, List.getElem?_set_ne (Ne.symm h)]
/-- orders stay right -/
theorem OMr_ok {t a b v : Nat} {od od' : List RP} {us us' : List Nat} {x : Nat × Nat × Nat × Nat} (h : OMr t a b v od us od' us' x) (ho : ook od us) (hu : uok us) (hul : us.length < 519) (hl : od.length ≤ 40) (ha : a < 1000000) (hv : v < 1000000) : ook od' us' ∧ uok us' ∧ us'.length ≤ us.length + 1 ∧ od'.length ≤ 40 ∧ (x.1 < 1000000 ∧ x.2.1 < 128 ∧ x.2.2.1 < 1000000 ∧ x.2.2.2 < 1000000) := by
  have huk : uok (us ++ [a]) := by
    refine ⟨by rw [List.length_append]; show _ + 1 < _; omega, fun y hy => ?_⟩
    rcases List.mem_append.mp hy with hy | hy
    · exact hu.2 y hy
    · rw [List.mem_singleton.mp hy]; exact ha
  have hul2 : (us ++ [a]).length ≤ us.length + 1 := by rw [List.length_append]; exact Nat.le_refl _
  have hne : ∀ k, k < od.length → a ∉ us → (od.getD k oz).1 ≠ a := fun k hk hn e => hn (e ▸ (ho.1 k hk).2)
  rcases h with ⟨-, rfl, rfl, rfl⟩ | ⟨⟨h1, h2, h3, h4, h5, h6, h7⟩, rfl, rfl, rfl⟩ | ⟨k, ⟨h1, h2, h3, h4, h5, h6⟩, y, hy, rfl, rfl, rfl⟩
  · exact ⟨ho, hu, by omega, hl, ha, (by decide : (56 : Nat) < 128), (by decide : (0 : Nat) < 1000000), (by decide : (0 : Nat) < 1000000)⟩
  · have hok : okO (a, b, v, 0, 0) := ⟨by show 1 ≤ a; omega, ha, h5, hv, Nat.zero_le _, Nat.zero_le _⟩
    refine ⟨⟨fun k hk => ?_, fun j k hj hk e => ?_⟩, huk, hul2, by rw [List.length_append]; show _ + 1 ≤ _; omega, rpo_ok hok⟩
    · rw [List.length_append] at hk
      have hk2 : k < od.length + 1 := hk
      by_cases e : k = od.length
      · rw [e, rp_r]
        exact ⟨hok, List.mem_append.mpr (Or.inr (List.mem_singleton.mpr rfl))⟩
      · rw [rp_l (by omega)]
        obtain ⟨q1, q2⟩ := ho.1 k (by omega)
        exact ⟨q1, List.mem_append.mpr (Or.inl q2)⟩
    · rw [List.length_append] at hj hk
      have hk2 : k < od.length + 1 := hk
      have hj2 : j < od.length + 1 := hj
      by_cases e1 : j = od.length
      · by_cases e2 : k = od.length
        · omega
        · rw [e1, rp_r, rp_l (by omega)] at e
          exact absurd e.symm (hne k (by omega) h2)
      · by_cases e2 : k = od.length
        · rw [e2, rp_r, rp_l (by omega)] at e
          exact absurd e (hne j (by omega) h2)
        · rw [rp_l (by omega), rp_l (by omega)] at e
          exact ho.2 j k (by omega) (by omega) e
  · obtain ⟨q1, q2⟩ := ho.1 k h4.1
    have hst : (od.getD k oz).2.2.2.2 = 0 ∧ (od.getD k oz).2.2.2.1 < (od.getD k oz).2.2.1 := by
      by_cases c1 : (od.getD k oz).2.2.2.2 = 0
      · by_cases c2 : (od.getD k oz).2.2.1 ≤ (od.getD k oz).2.2.2.1
        · rw [stt2 c1 c2] at h5; omega
        · omega
      · rw [stt4 c1] at h5; omega
    have hok : okO y := by
      obtain ⟨a1, a2, a3, a4, a5, a6⟩ := q1
      subst hy
      refine ⟨by show 1 ≤ a; omega, ha, a3, ?_, ?_, ?_⟩
      · show (if t = 71 then v else _) < _
        split <;> omega
      · show (od.getD k oz).2.2.2.1 ≤ (if t = 71 then v else (od.getD k oz).2.2.1)
        split
        · rename_i e; have := h6 e; omega
        · exact a5
      · show (if t = 71 then _ else 1) ≤ 1
        split <;> omega
    have hy1 : y.1 = a := by rw [hy]
    refine ⟨⟨fun j hj => ?_, fun i j hi hj e => ?_⟩, huk, hul2, by rw [List.length_set]; exact hl, rpo_ok hok⟩
    · rw [List.length_set] at hj
      by_cases e : j = k
      · rw [e, getD_set_self h4.1, hy1]
        exact ⟨hok, List.mem_append.mpr (Or.inr (List.mem_singleton.mpr rfl))⟩
      · rw [getD_set_ne e]
        obtain ⟨w1, w2⟩ := ho.1 j hj
        exact ⟨w1, List.mem_append.mpr (Or.inl w2)⟩
    · rw [List.length_set] at hi hj
      by_cases e1 : i = k
      · by_cases e2 : j = k
        · omega
        · rw [e1, getD_set_self h4.1, getD_set_ne e2, hy1] at e
          exact absurd e.symm (hne j hj h2)
      · by_cases e2 : j = k
        · rw [e2, getD_set_self h4.1, getD_set_ne e1, hy1] at e
          exact absurd e (hne i hi h2)
        · rw [getD_set_ne e1, getD_set_ne e2] at e
          exact ho.2 i j hi hj e
section OMT
variable {K : XS → List AE → Prop} {S : XS} {r : List AE} {c : Nat → Nat} {fr : List (List Nat)} {rp od od' : List RP} {us us' : List Nat} {q a b v t : Nat} {x : Nat × Nat × Nat × Nat}
theorem TFr.more {q q' : Nat} (h : TFr fr q S r) (hq : q ≤ q') : TFr fr q' S r := by
  obtain ⟨h0, h1, na, fa, a1, a2, a3, a4, a5, a6, a7⟩ := h
  exact ⟨h0, h1, na, fa, a1, a2, a3, a4, a5, by omega, by omega⟩
theorem TT.more {q q' : Nat} (h : TT c fr rp od us q S r) (hq : q ≤ q') : TT c fr rp od us q' S r := ⟨h.1, h.2.1.more hq, h.2.2⟩
theorem rT_refuse (hT : TT c fr rp od us q S r) (h3 : gF S 303 = nI a) (ha : a < 1000000) (h01 : c 0 ≤ 1) (hc : c 2 < 1000000) (hq : q + 1 ≤ 5000) (hfr : fr.length < 999999) (h : ∀ S' r', TT (cR c) (frR c fr (c 2, a, 56, 0, 0)) (rp ++ [(c 2, a, 56, 0, 0)]) od us (q + 1) S' r' → kT S S' → K S' r') : w_T_refuse S r K := by
  unfold w_T_refuse
  rw [h3]
  exact rT_report (id := a) (st := 56) (fi := 0) (le := 0) hT h01 hc hq hfr ⟨ha, by decide, by decide, by decide⟩ (fun S' r' b1 b2 _ => h S' r' b1 b2)
theorem rT_use (hT : TT c fr rp od us q S r) (hu : us.length < 520) {K : XS → List AE → Prop} (h : ∀ S', TT c fr rp od (us ++ [a]) q S' r → kT S S' → (gF S' 16 = gF S 16 ∧ gB S' 6 = gB S 6) → K S' r) : w_T_use S r (nI a) K := by
  obtain ⟨hS, hF, hR, hD, hU⟩ := hT
  unfold w_T_use
  rw [hU.1, nI_clamp (by omega), nI_1]
  refine ⟨vp_in_nI hu (by decide), h _ ⟨hS, hF.same rfl rfl, hR.same rfl rfl, hD.same rfl rfl, ?_, fun k hk => ?_⟩ ((kT_sA7 _ _).trans (kT_sF (by decide))) ⟨rfl, rfl⟩⟩
  · rw [gF_sF, if_pos rfl, List.length_append]
    rfl
  · rw [List.length_append] at hk
    have hk2 : k < us.length + 1 := hk
    show upd (gA S 7) us.length (nI a) k = _
    by_cases e : k = us.length
    · rw [e, upd_at, gd_r (Nat.le_refl _), Nat.sub_self]
      rfl
    · rw [upd_ne _ _ e, gd_l (by omega)]
      exact hU.2 k (by omega)
theorem rT_place (hT : TT c fr rp od us q S r) (hO : OMr 68 a b v od us od' us' x) (h3 : gF S 303 = nI a) (h4 : gF S 304 = nI b) (h5 : gF S 305 = nI v) (ha : a < 1000000) (hb : b < 1000000) (hv : v < 1000000) (hu : uok us) (h01 : c 0 ≤ 1) (hc : c 2 < 1000000) (hq : q + 2 ≤ 5000) (hfr : fr.length < 999999) (h : ∀ S' r', TT (cR c) (frR c fr (c 2, x)) (rp ++ [(c 2, x)]) od' us' (q + 2) S' r' → kT S S' → K S' r') : w_T_place S r K := by
  have hrf : (od' = od ∧ us' = us ∧ x = (a, 56, 0, 0)) → w_T_place_50 K S r := by
    rintro ⟨rfl, rfl, rfl⟩
    exact rT_refuse hT h3 ha h01 hc (by omega) hfr (fun S' r' b1 b2 => h S' r' (b1.more (by omega)) b2)
  have hul := hu.1
  obtain ⟨hS, hF, hR, ⟨oa, d1, d2, d3, d4⟩, hU⟩ := hT
  have hT : TT c fr rp od us q S r := ⟨hS, hF, hR, ⟨oa, d1, d2, d3, d4⟩, hU⟩
  unfold w_T_place
  rw [h3]
  refine ⟨fun e => hrf ?_, fun e => rT_isUsed hU hu ha ?_⟩
  · rw [li_0, nI_eq (by omega) (by omega)] at e
    rcases hO with ⟨-, w⟩ | ⟨⟨w, -⟩, -⟩ | ⟨k, ⟨w, -⟩, -⟩
    · exact w
    · exact absurd e w
    · exact absurd e w
  · rw [li_0, nI_eq (by omega) (by omega)] at e
    rw [h3, h4, h5, d1]
    refine ⟨fun f => hrf ?_, fun f => ⟨fun g => hrf ?_, fun g => ⟨fun i => hrf ?_, fun i => ⟨fun j => hrf ?_, fun j => ⟨fun l => ?_, fun l => hrf ?_⟩⟩⟩⟩⟩
    · have hm : a ∈ us := Classical.byContradiction (fun w => f (if_neg w))
      rcases hO with ⟨-, w⟩ | ⟨⟨-, w, -⟩, -⟩ | ⟨k, ⟨-, w, -⟩, -⟩
      · exact w
      · exact absurd hm w
      · exact absurd hm w
    · rw [li_1, nI_ltI (by omega) (by omega)] at g
      rcases hO with ⟨-, w⟩ | ⟨⟨-, -, -, w, -⟩, -⟩ | ⟨k, ⟨-, -, w, -⟩, -⟩
      · exact w
      · omega
      · exact absurd rfl w
    · rw [li_2, nI_ltI (by omega) (by omega)] at i
      rcases hO with ⟨-, w⟩ | ⟨⟨-, -, -, -, w, -⟩, -⟩ | ⟨k, ⟨-, -, w, -⟩, -⟩
      · exact w
      · omega
      · exact absurd rfl w
    · rw [li_0, nI_eq (by omega) (by omega)] at j
      rcases hO with ⟨-, w⟩ | ⟨⟨-, -, -, -, -, w, -⟩, -⟩ | ⟨k, ⟨-, -, w, -⟩, -⟩
      · exact w
      · omega
      · exact absurd rfl w
    · rw [li_40, nI_eq (by omega) (by omega)] at l
      rw [li_0, nI_eq (by omega) (by omega)] at j
      rw [li_2, nI_ltI (by omega) (by omega)] at i
      rw [li_1, nI_ltI (by omega) (by omega)] at g
      have hm : a ∉ us := fun w => by rw [if_pos w] at f; exact absurd f (by decide)
      have h2 : od' = od ++ [(a, b, v, 0, 0)] ∧ us' = us ++ [a] ∧ x = (rpo 0 (a, b, v, 0, 0)).2 := by
        rcases hO with ⟨w, -⟩ | ⟨-, w⟩ | ⟨k, ⟨-, -, w, -⟩, -⟩
        · rcases w with w | w | ⟨-, w⟩ | ⟨w, -⟩
          · exact absurd w e
          · exact absurd w hm
          · omega
          · exact absurd rfl w
        · exact w
        · exact absurd rfl w
      obtain ⟨rfl, rfl, rfl⟩ := h2
      rw [rset_new, nI_clamp (by omega), nI_1]
      refine ⟨TT_bud hT (by omega), vp_in_nI (by omega) (by decide), ?_⟩
      have hT2 : TT c fr rp (od ++ [(a, b, v, 0, 0)]) us (q + 1) (sF (sB S 6 (va_up (gB S 6) od.length (40 + r.length))) 16 (nI (od.length + 1))) (r ++ [ocell (a, b, v, 0, 0)]) := by
        refine ⟨hS, TFr.same (S := S) (hF.grow (fun p e hp _ => rl_app hp) (by rw [List.length_append]; exact Nat.le_refl _) (by rw [hsz_app]; show _ + 5 ≤ _; omega)) rfl rfl, TR.same (S := S) (hR.mem (fun p e hp _ => rl_app hp)) rfl rfl, ⟨va_up oa od.length (40 + r.length), ?_, ?_, fun k hk => ?_, fun i j hi hj => ?_⟩, hU.same rfl rfl⟩
        · rw [gF_sF, if_pos rfl, List.length_append]
          rfl
        · rw [List.length_append]; show _ + 1 ≤ _; omega
        · rw [List.length_append] at hk
          have hk2 : k < od.length + 1 := hk
          show va_up (gB S 6) od.length (40 + r.length) k = _ ∧ _
          by_cases e1 : k = od.length
          · rw [e1, va_up_self, va_up_self, rp_r]
            exact ⟨rfl, rl_new _ _⟩
          · rw [va_up_ne _ _ e1, va_up_ne _ _ e1, rp_l (by omega)]
            exact ⟨(d3 k (by omega)).1, rl_app (d3 k (by omega)).2⟩
        · rw [List.length_append] at hj
          have hj2 : j < od.length + 1 := hj
          rw [va_up_ne _ _ (show i ≠ od.length by omega)]
          by_cases e1 : j = od.length
          · rw [e1, va_up_self]
            have := rl_ge (d3 i (by omega)).2
            omega
          · rw [va_up_ne _ _ e1]
            exact d4 i j hi (by omega)
      refine rT_use hT2 hul (fun S1 b1 b2 _ => ?_)
      refine rT_tell (x := (a, b, v, 0, 0)) b1 (rl_new _ _) ⟨by show 1 ≤ a; omega, ha, by show b ≤ 2; omega, hv, Nat.zero_le _, Nat.zero_le _⟩ h01 hc (by omega) hfr (fun S' r' e1 e2 _ => h S' r' e1 ?_)
      exact (((kT_sB _ _ _).trans (kT_sF (by decide))).trans b2).trans e2
    · rw [li_40, nI_eq (by omega) (by omega)] at l
      rcases hO with ⟨-, w⟩ | ⟨⟨-, -, -, -, -, -, w⟩, -⟩ | ⟨k, ⟨-, -, w, -⟩, -⟩
      · exact w
      · omega
      · exact absurd rfl w
/-- an order's cell is changed -/
theorem TT_oset {oa : Nat → Nat} {k : Nat} {y : RP} (hS : TS c S) (hF : TFr fr q S r) (hR : TR rp S r) (hD : TDx od S r oa) (hU : TU us S) (hk : k < od.length) : TT c fr rp (od.set k y) us q S (rset r (oa k) (ocell y)) ∧ rl (rset r (oa k) (ocell y)) (oa k) = some (ocell y) := by
  obtain ⟨d1, d2, d3, d4⟩ := hD
  have hc := (d3 k hk).2
  have g1 := (rl_ge hc).1
  have hoth : ∀ p e, rl r p = some e → tg e ≠ 4 → rl (rset r (oa k) (ocell y)) p = some e := by
    intro p e hp ht
    rw [rl_set_ne (tg_ne hc hp (fun z => ht z.symm)) g1]
    exact hp
  refine ⟨⟨hS, ?_, hR.mem (fun p e hp ht => hoth p e hp (by omega)), ⟨oa, by rw [List.length_set]; exact d1, by rw [List.length_set]; exact d2, fun j hj => ?_, fun i j hi hj => ?_⟩, hU⟩, rl_rset hc _⟩
  · obtain ⟨h0, h1, na, fa, a1, a2, a3, a4, a5, a6, a7⟩ := hF
    refine ⟨h0, h1, na, fa, a1, a2, fun j hj => ?_, a4, a5, ?_, ?_⟩
    · obtain ⟨L, B, f, b1, b2, b3⟩ := a3 j hj
      exact ⟨L, B, f, hoth _ _ b1 (show (1 : Nat) ≠ 4 by decide), hoth _ _ b2 (show (100 : Nat) ≠ 4 by decide), b3⟩
    · unfold rset
      rw [List.length_set]
      exact a6
    · rw [rset_hsz (e := ocell y) hc rfl]
      exact a7
  · rw [List.length_set] at hj
    refine ⟨(d3 j hj).1, ?_⟩
    by_cases e : j = k
    · rw [e, getD_set_self hk]
      exact rl_rset hc _
    · rw [getD_set_ne e, rl_set_ne _ g1]
      · exact (d3 j hj).2
      · rcases Nat.lt_or_ge j k with w | w
        · have := d4 j k w hk; omega
        · have := d4 k j (by omega) hj; omega
  · rw [List.length_set] at hj
    exact d4 i j hi hj
end OMT
