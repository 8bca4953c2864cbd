/-! ===== messages of orders: alter, the model's ===== -/
section OM2
variable {K : XS → List AE → Prop} {S : XS} {r : List AE} {c : Nat → Nat} {fr : List (List Nat)} {rp od od' : List RP} {us us' : List Nat} {q a b v t : Nat} {x : Nat × Nat × Nat × Nat}
theorem rT_alter (hT : TT c fr rp od us q S r) (hO : OMr t a b v od us od' us' x) (ho : ook od us) (ht : t = 70 ∧ gR S 300 = 8 ∨ t = 71 ∧ gR S 300 = 9) (h3 : gF S 303 = nI a) (h4 : gF S 304 = nI b) (h5 : gF S 305 = nI v) (ha : a < 1000000) (hb : b < 1000000) (hv : v < 1000000) (hu : uok us) (hul9 : us.length < 519) (h01 : c 0 ≤ 1) (hc : c 2 < 1000000) (hq : q + 2 ≤ 5000) (hfr : fr.length < 999999) (h : ∀ S' r', TT (cR c) (frR c fr (c 2, x)) (rp ++ [(c 2, x)]) od' us' (q + 2) S' r' → kT S S' → K S' r') : w_T_alter S r K := by
  have hrf : (od' = od ∧ us' = us ∧ x = (a, 56, 0, 0)) → w_T_alter_69 K S r := by
    rintro ⟨rfl, rfl, rfl⟩
    exact rT_refuse hT h3 ha h01 hc (by omega) hfr (fun S' r' b1 b2 => h S' r' (b1.more (by omega)) b2)
  have hul := hu.1
  obtain ⟨hS, hF, hR, ⟨oa, d1, d2, d3, d4⟩, hU⟩ := hT
  have hT : TT c fr rp od us q S r := ⟨hS, hF, hR, ⟨oa, d1, d2, d3, d4⟩, hU⟩
  have h68 : t ≠ 68 := by omega
  -- with the order found, or none
  have key : ∀ (v2 : Nat) (v3 : Int32), (v3 = if t = 71 then 1 else 0) → ((v2 = 0 ∧ ∀ k, ¬ hasId od (nI b) k) ∨ ∃ k, v2 = oa k ∧ hasId od (nI b) k) → w_T_alter_25 K S r v2 v3 := by
    intro v2 v3 hv3 hv2
    unfold w_T_alter_25
    rw [h3]
    refine ⟨fun e => hrf ?_, fun e => rT_isUsed hU hu ha ⟨fun f => hrf ?_, fun f => ⟨fun g => hrf ?_, fun g => ?_⟩⟩⟩
    · rw [li_0, nI_eq (by omega) (by omega)] at e
      rcases hO with ⟨-, w⟩ | ⟨⟨w, -⟩, -⟩ | ⟨k, ⟨w, -⟩, -⟩
      · exact w
      · exact absurd e w
      · exact absurd e w
    · have hm : a ∈ us := Classical.byContradiction (fun w => f (if_neg w))
      rcases hO with ⟨-, w⟩ | ⟨⟨-, w, -⟩, -⟩ | ⟨k, ⟨-, w, -⟩, -⟩
      · exact w
      · exact absurd hm w
      · exact absurd hm w
    · rcases hv2 with ⟨-, hn⟩ | ⟨k, hk, hh⟩
      · rcases hO with ⟨-, w⟩ | ⟨⟨-, -, w, -⟩, -⟩ | ⟨k, ⟨-, -, -, w, -⟩, -⟩
        · exact w
        · omega
        · exact absurd w (hn k)
      · have := rl_ge (d3 k hh.1).2
        omega
    · rcases hv2 with ⟨hz, -⟩ | ⟨k, rfl, hh⟩
      · exact absurd hz g
      · rw [li_0, nI_eq (by omega) (by omega)] at e
        have hm : a ∉ us := fun w => by rw [if_pos w] at f; exact absurd f (by decide)
        obtain ⟨ok, -⟩ := ho.1 k hh.1
        have hcell := (d3 k hh.1).2
        refine ⟨_, _, _, _, _, hcell, rO_open ok ⟨fun i => hrf ?_, fun i => ?_⟩⟩
        · have hst : ¬ stt (od.getD k oz) < 2 := fun w => by rw [if_pos w] at i; exact absurd i (by decide)
          rcases hO with ⟨-, w⟩ | ⟨⟨-, -, w, -⟩, -⟩ | ⟨k', ⟨-, -, -, w, w2, -⟩, -⟩
          · exact w
          · omega
          · rw [hasId_eq ho w hh] at w2
            exact absurd w2 hst
        · have hst : stt (od.getD k oz) < 2 := Classical.byContradiction (fun w => i (if_neg w))
          have okk := ok
          obtain ⟨o1, o2, o3, o4, o5, o6⟩ := okk
          -- success
          have suc : (t = 71 → (od.getD k oz).2.2.2.1 < v) → w_T_alter_75 K S r (oa k) v3 := by
            intro hlt
            have h2 : ∃ y : RP, y = (a, (od.getD k oz).2.1, (if t = 71 then v else (od.getD k oz).2.2.1), (od.getD k oz).2.2.2.1, (if t = 71 then (od.getD k oz).2.2.2.2 else 1)) ∧ od' = od.set k y ∧ us' = us ++ [a] ∧ x = (rpo 0 y).2 := by
              rcases hO with ⟨w, -⟩ | ⟨⟨-, -, w, -⟩, -⟩ | ⟨k', ⟨-, -, -, w, -, -⟩, w2⟩
              · rcases w with w | w | ⟨w, -⟩ | ⟨-, w⟩
                · exact absurd w e
                · exact absurd w hm
                · omega
                · have := w k hh hst
                  have := hlt this.1
                  omega
              · omega
              · rw [hasId_eq ho w hh] at w2
                exact w2
            have hok' := (OMr_ok hO ho hu hul9 d2 ha hv).1
            obtain ⟨y, hy, rfl, rfl, rfl⟩ := h2
            have hy2 : okO y := by
              have := (hok'.1 k (by rw [List.length_set]; exact hh.1)).1
              rw [getD_set_self hh.1] at this
              exact this
            unfold w_T_alter_75
            rw [h3]
            refine rT_use hT hul (fun S1 b1 b2 b3 => ?_)
            have k3 : gF S1 303 = nI a := (b2.1 303 (by decide)).trans h3
            have k5 : gF S1 305 = nI v := (b2.1 305 (by decide)).trans h5
            refine ⟨_, _, _, _, _, hcell, ?_⟩
            rw [k3, k5]
            obtain ⟨e1, e2⟩ := TT_oset (y := y) b1.1 b1.2.1 b1.2.2.1 (oa := oa) (od := od) ⟨b3.1.trans d1, d2, fun j hj => ⟨by rw [b3.2]; exact (d3 j hj).1, (d3 j hj).2⟩, d4⟩ b1.2.2.2.2 hh.1
            have fin : ∀ cell, cell = ocell y → w_T_alter_111 K S1 (rset r (oa k) cell) (oa k) := by
              rintro _ rfl
              exact rT_tell e1 e2 hy2 h01 hc (by omega) hfr (fun S' r' f1 f2 _ => h S' r' (f1.more (by omega)) (b2.trans f2))
            refine ⟨fun j => fin _ ?_, fun j => fin _ ?_⟩
            · have t71 : t ≠ 71 := fun w => by rw [hv3, if_pos w] at j; exact absurd j (by decide)
              rw [hy, if_neg t71, if_neg t71]
              rfl
            · have t71 : t = 71 := Classical.byContradiction (fun w => by rw [hv3, if_neg w] at j; exact absurd rfl j)
              rw [hy, if_pos t71, if_pos t71]
              rfl
          refine ⟨fun j => suc (fun w => ?_), fun j => ⟨fun l => suc (fun _ => ?_), fun l => hrf ?_⟩⟩
          · rw [hv3, if_pos w] at j
            exact absurd j (by decide)
          · rw [h5, nI_ltI (by omega) (by omega)] at l
            exact l
          · rw [h5, nI_ltI (by omega) (by omega)] at l
            have t71 : t = 71 := by
              rcases ht with ⟨w, -⟩ | ⟨w, -⟩
              · rw [hv3, if_neg (by omega)] at j
                exact absurd rfl j
              · exact w
            rcases hO with ⟨-, w⟩ | ⟨⟨-, -, w, -⟩, -⟩ | ⟨k', ⟨-, -, -, w, -, w3⟩, w2⟩
            · exact w
            · omega
            · rw [hasId_eq ho w hh] at w3
              exact absurd (w3 t71) l
  unfold w_T_alter
  rw [h4]
  have hz : ∀ v2, ((v2 = 0 ∧ ∀ k, ¬ hasId od (nI b) k) ∨ ∃ k, v2 = oa k ∧ hasId od (nI b) k) → (gR S 300 ≤ 10 ∧ ((¬ gR S 300 = 9 → w_T_alter_25 K S r v2 0) ∧ (gR S 300 = 9 → w_T_alter_25 K S r v2 1))) := by
    intro v2 hv2
    refine ⟨(by rcases ht with ⟨-, w⟩ | ⟨-, w⟩ <;> rw [w] <;> decide), fun e => key v2 0 ?_ hv2, fun e => key v2 1 ?_ hv2⟩
    · rcases ht with ⟨w, -⟩ | ⟨-, w⟩
      · rw [w]; rfl
      · exact absurd w e
    · rcases ht with ⟨-, w⟩ | ⟨w, -⟩
      · rw [w] at e; exact absurd e (by decide)
      · rw [w]; rfl
  exact rT_find ⟨d1, d2, d3, d4⟩ (fun hn => hz 0 (Or.inl ⟨rfl, hn⟩)) (fun k hk => hz (oa k) (Or.inr ⟨k, rfl, hk⟩))
/-- the model: the order's row is written but for its id -/
def MDk (od : List RP) (k : Nat) (S : XS) : Prop := gF S 829 = nI od.length ∧ od.length ≤ 40 ∧ ∀ j < od.length, (j ≠ k → gA S 17 j = nI (od.getD j oz).1) ∧ gA S 18 j = nI (od.getD j oz).2.1 ∧ gA S 19 j = nI (od.getD j oz).2.2.1 ∧ gA S 20 j = nI (od.getD j oz).2.2.2.1 ∧ gA S 21 j = nI (od.getD j oz).2.2.2.2
theorem rM_omfin {k : Nat} {S0 : XS} (hS : MS c S) (hF : MF fr S) (hR : MR (c 2) rp S) (hD : MDk od k S) (hU : MU us S) (hkM : kM S0 S) (hk : k < od.length) (hx : okO (od.getD k oz)) (hid : (od.getD k oz).1 = a) (h10 : gF S 810 = nI a) (hul : us.length < 520) (h01 : c 0 ≤ 1) (hc : c 2 < 1600) (hr : rok rp (c 2)) (hfr : fr.length < 999999) (h : ∀ S', MM (cR c) (frR c fr (rpo (c 2) (od.getD k oz))) (rp ++ [rpo (c 2) (od.getD k oz)]) od (us ++ [a]) S' → kM S0 S' → K S' r) : (vp_in (nI k) 40) ∧ (vp_in (gF S 835) 520) ∧ (w_M_tell (sF (sA (sA S 17 (upd (gA S 17) (nI k).toNatClampNeg (gF S 810))) 22 (upd (gA S 22) (gF S 835).toNatClampNeg (gF S 810))) 835 ((gF S 835) + 1)) r (nI k) K) := by
  obtain ⟨d1, d2, d3⟩ := hD
  rw [hU.1, nI_clamp (by omega), nI_clamp (by omega), h10, nI_1]
  refine ⟨vp_in_nI (by omega) (by decide), vp_in_nI hul (by decide), rM_tell ⟨hS, hF.same rfl rfl rfl, hR.same rfl rfl, ⟨d1, d2, fun j hj => ?_⟩, ?_, fun j hj => ?_⟩ hk hx h01 hc hr hfr (fun S' e1 e2 => h S' e1 ?_)⟩
  · obtain ⟨a1, a2⟩ := d3 j hj
    refine ⟨?_, a2⟩
    show upd (gA S 17) k (nI a) j = _
    by_cases e : j = k
    · rw [e, upd_at, hid]
    · rw [upd_ne _ _ e]
      exact a1 e
  · rw [gF_sF, if_pos rfl, List.length_append]
    rfl
  · rw [List.length_append] at hj
    have hk2 : j < us.length + 1 := hj
    show upd (gA S 22) us.length (nI a) j = _
    by_cases e : j = us.length
    · rw [e, upd_at, gd_r (Nat.le_refl _), Nat.sub_self]
      rfl
    · rw [upd_ne _ _ e, gd_l (by omega)]
      exact hU.2 j (by omega)
  · exact kM.trans (kM.trans hkM (((ke_sA (by decide)).trans (ke_sA (by decide))).trans (ke_sF (by decide)))) e2
theorem rM_om {S0 : XS} (hM : MM c fr rp od us S0) (hO : OMr t a b v od us od' us' x) (ho : ook od us) (ht : t = 68 ∨ t = 70 ∨ t = 71) (h8 : gF S0 808 = nI t) (h3 : gF S0 810 = nI a) (h4 : gF S0 811 = nI b) (h5 : gF S0 812 = nI v) (ha : a < 1000000) (hb : b < 1000000) (hv : v < 1000000) (hu : uok us) (hul9 : us.length < 519) (h01 : c 0 ≤ 1) (hc : c 2 < 1600) (hr : rok rp (c 2)) (hfr : fr.length < 999999) (h : ∀ S', MM (cR (up c 8 (c 8 + 1))) (frR (up c 8 (c 8 + 1)) fr (c 2, x)) (rp ++ [(c 2, x)]) od' us' S' → kM S0 S' → K S' r) : w_M_orderMessage S0 r K := by
  have hok' := OMr_ok hO ho hu hul9 hM.2.2.2.1.2.1 ha hv
  obtain ⟨hS, hF, hR, hD, hU⟩ := hM
  generalize hcc : up c 8 (c 8 + 1) = c' at h
  have c0 : c' 0 = c 0 := by rw [← hcc]; exact up_ne _ _ (by decide)
  have c2 : c' 2 = c 2 := by rw [← hcc]; exact up_ne _ _ (by decide)
  unfold w_M_orderMessage
  generalize hSS : sF S0 836 (gF S0 836 + 1) = S
  have hk0 : kM S0 S := by rw [← hSS]; exact ke_sF (by decide)
  have hM1 : MM c' fr rp od us S := by
    rw [← hSS]
    refine ⟨?_, hF.same rfl rfl rfl, by rw [c2]; exact hR.same rfl rfl, hD.same rfl rfl rfl rfl rfl rfl, hU.same rfl rfl⟩
    rw [← hcc]
    refine hS.of (.inl ⟨rfl, rfl⟩) (.inl ⟨rfl, rfl⟩) (.inl ⟨rfl, rfl⟩) (.inl ⟨rfl, rfl⟩) (.inl ⟨rfl, rfl⟩) (.inl ⟨rfl, rfl⟩) (.inl ⟨rfl, rfl⟩) (.inl ⟨rfl, rfl⟩) (.inr ?_)
    rw [gF_sF, if_pos rfl, up_at, hS.2.2.2.2.2.2.2.2, nI_1]
  have g8 : gF S 808 = nI t := (hk0.1 808 (by decide)).trans h8
  have g3 : gF S 810 = nI a := (hk0.1 810 (by decide)).trans h3
  have g4 : gF S 811 = nI b := (hk0.1 811 (by decide)).trans h4
  have g5 : gF S 812 = nI v := (hk0.1 812 (by decide)).trans h5
  clear hS hF hR hD hU h8 h3 h4 h5
  obtain ⟨hS, hF, hR, hD, hU⟩ := hM1
  have hM1 : MM c' fr rp od us S := ⟨hS, hF, hR, hD, hU⟩
  obtain ⟨d1, d2, d3⟩ := hD
  -- refused
  have hrf : (od' = od ∧ us' = us ∧ x = (a, 56, 0, 0)) → ((0 ≤ (-1 : Int32) → (vp_in (-1) 40) ∧ (vp_in (gF S 835) 520) ∧ (w_M_tell (sF (sA (sA S 17 (upd (gA S 17) (-1 : Int32).toNatClampNeg (gF S 810))) 22 (upd (gA S 22) (gF S 835).toNatClampNeg (gF S 810))) 835 ((gF S 835) + 1)) r (-1) (fun S8 r9 => (K S8 r9)))) ∧ (¬ 0 ≤ (-1 : Int32) → (w_M_send S r 56 (gF S 810) 56 0 0 (fun S11 r12 => (K S11 r12))))) := by
    rintro ⟨rfl, rfl, rfl⟩
    refine ⟨fun e => absurd e (by decide), fun _ => ?_⟩
    refine sndR (x := (c 2, a, 56, 0, 0)) hM1 (by omega) (by omega) (by rw [c2]; exact hr) hfr c2.symm ⟨ha, (by decide : (56 : Nat) < 128), (by decide : (0 : Nat) < 1000000), (by decide : (0 : Nat) < 1000000)⟩ ⟨g3, rfl, rfl, rfl⟩ (fun S' e1 e2 => h S' ?_ (kM.trans hk0 e2))
    exact e1
  -- done
  have hfin : ∀ (k : Nat) (S2 : XS), MS c' S2 → MF fr S2 → MR (c' 2) rp S2 → MDk od' k S2 → MU us S2 → kM S0 S2 → gF S2 810 = nI a → k < od'.length → (od'.getD k oz).1 = a → us' = us ++ [a] → x = (rpo 0 (od'.getD k oz)).2 → ((0 ≤ nI k → (vp_in (nI k) 40) ∧ (vp_in (gF S2 835) 520) ∧ (w_M_tell (sF (sA (sA S2 17 (upd (gA S2 17) (nI k).toNatClampNeg (gF S2 810))) 22 (upd (gA S2 22) (gF S2 835).toNatClampNeg (gF S2 810))) 835 ((gF S2 835) + 1)) r (nI k) (fun S8 r9 => (K S8 r9)))) ∧ (¬ 0 ≤ nI k → (w_M_send S2 r 56 (gF S2 810) 56 0 0 (fun S11 r12 => (K S11 r12))))) := by
    intro k S2 e1 e2 e3 e4 e5 e6 e7 e8 e9 e10 e11
    have := e4.2.1
    refine ⟨fun _ => ?_, fun e => absurd (nI_le (Nat.zero_le k) (by omega)) e⟩
    refine rM_omfin (S0 := S0) e1 e2 e3 e4 e5 e6 e8 (hok'.1.1 k e8).1 e9 e7 (by omega) (by omega) (by omega) (by rw [c2]; exact hr) hfr (fun S' f1 f2 => h S' ?_ f2)
    rw [e10, e11]
    have ex : rpo (c' 2) (od'.getD k oz) = (c 2, (rpo 0 (od'.getD k oz)).2) := by rw [c2]; rfl
    rw [ex] at f1
    exact f1
  unfold w_M_ordered
  rw [g3]
  refine ⟨fun e => hrf ?_, fun e => rM_isUsed hU hu ha ⟨fun f => ?_, fun f => hrf ?_⟩⟩
  · rw [li_0, nI_eq (by omega) (by omega)] at e
    rcases hO with ⟨-, w⟩ | ⟨⟨w, -⟩, -⟩ | ⟨k, ⟨w, -⟩, -⟩
    · exact w
    · exact absurd e w
    · exact absurd e w
  · rw [li_0, nI_eq (by omega) (by omega)] at e
    have hm : a ∉ us := fun w => by rw [if_pos w] at f; exact absurd f (by decide)
    rw [g8, g4]
    refine ⟨fun g => ?_, fun g => ?_⟩
    · have t68 : t ≠ 68 := by
        rintro rfl
        exact g rfl
      refine rM_openOrder ⟨d1, d2, d3⟩ ho (fun hn => ⟨fun _ => hrf ?_, fun i => absurd (by decide) i⟩) (fun k hk hst => ⟨fun i => absurd i (nI_pos (by have := hk.1; omega)), fun _ => ?_⟩)
      · rcases hO with ⟨-, w⟩ | ⟨⟨-, -, w, -⟩, -⟩ | ⟨k, ⟨-, -, -, w, w2, -⟩, -⟩
        · exact w
        · exact absurd w t68
        · exact absurd w2 (hn k w)
      · have hkl := hk.1
        obtain ⟨a1, a2, a3, a4, a5⟩ := d3 k hk.1
        obtain ⟨o1, o2, o3, o4, o5, o6⟩ := (ho.1 k hk.1).1
        have suc : (t = 71 → (od.getD k oz).2.2.2.1 < v) → w_M_ordered_163 (fun x1 S2 r3 => ((0 ≤ x1 → (vp_in x1 40) ∧ (vp_in (gF S2 835) 520) ∧ (w_M_tell (sF (sA (sA S2 17 (upd (gA S2 17) x1.toNatClampNeg (gF S2 810))) 22 (upd (gA S2 22) (gF S2 835).toNatClampNeg (gF S2 810))) 835 ((gF S2 835) + 1)) r3 x1 (fun S8 r9 => (K S8 r9)))) ∧ (¬ 0 ≤ x1 → (w_M_send S2 r3 56 (gF S2 810) 56 0 0 (fun S11 r12 => (K S11 r12)))))) S r (nI k) := by
          intro hlt
          have h2 : ∃ y : RP, y = (a, (od.getD k oz).2.1, (if t = 71 then v else (od.getD k oz).2.2.1), (od.getD k oz).2.2.2.1, (if t = 71 then (od.getD k oz).2.2.2.2 else 1)) ∧ od' = od.set k y ∧ us' = us ++ [a] ∧ x = (rpo 0 y).2 := by
            rcases hO with ⟨w, -⟩ | ⟨⟨-, -, w, -⟩, -⟩ | ⟨k', ⟨-, -, -, w, -, -⟩, w2⟩
            · rcases w with w | w | ⟨w, -⟩ | ⟨-, w⟩
              · exact absurd w e
              · exact absurd w hm
              · exact absurd w t68
              · have q1 := w k hk hst
                have q2 := hlt q1.1
                omega
            · exact absurd w t68
            · rw [hasId_eq ho w hk] at w2
              exact w2
          obtain ⟨y, hy, hod, hus, hxx⟩ := h2
          have hlen : od'.length = od.length := by rw [hod, List.length_set]
          have hyk : od'.getD k oz = y := by rw [hod]; exact getD_set_self hk.1
          have hyj : ∀ j, j ≠ k → od'.getD j oz = od.getD j oz := fun j hj => by rw [hod]; exact getD_set_ne hj
          refine ⟨fun i => ⟨vp_in_nI (by omega) (by decide), ?_⟩, fun i => ⟨vp_in_nI (by omega) (by decide), ?_⟩⟩
          · have t71 : t = 71 := by
              rcases ht with w | w | w
              · exact absurd w t68
              · rw [g8, w] at i
                exact absurd rfl i
              · exact w
            rw [nI_clamp (by omega)]
            refine hfin k _ hS (hF.same rfl rfl rfl) (hR.same rfl rfl) ⟨by rw [hlen]; exact d1, by omega, fun j hj => ?_⟩ (hU.same rfl rfl) (kM.trans hk0 (ke_sA (by decide))) g3 (by omega) (by rw [hyk, hy]) hus (by rw [hyk]; exact hxx)
            rw [hlen] at hj
            by_cases ej : j = k
            · subst ej
              rw [hyk, hy, if_pos t71, if_pos t71]
              refine ⟨fun w => absurd rfl w, a2, ?_, a4, a5⟩
              show upd (gA S 19) j (gF S 812) j = nI v
              rw [upd_at, g5]
            · rw [hyj j ej]
              obtain ⟨w1, w2, w3, w4, w5⟩ := d3 j hj
              refine ⟨fun _ => w1, w2, ?_, w4, w5⟩
              show upd (gA S 19) k (gF S 812) j = _
              rw [upd_ne _ _ ej]
              exact w3
          · have t71 : t ≠ 71 := by
              rintro rfl
              rw [g8] at i
              exact absurd i (by decide)
            rw [nI_clamp (by omega)]
            refine hfin k _ hS (hF.same rfl rfl rfl) (hR.same rfl rfl) ⟨by rw [hlen]; exact d1, by omega, fun j hj => ?_⟩ (hU.same rfl rfl) (kM.trans hk0 (ke_sA (by decide))) g3 (by omega) (by rw [hyk, hy]) hus (by rw [hyk]; exact hxx)
            rw [hlen] at hj
            by_cases ej : j = k
            · subst ej
              rw [hyk, hy, if_neg t71, if_neg t71]
              refine ⟨fun w => absurd rfl w, a2, a3, a4, ?_⟩
              show upd (gA S 21) j (vp_nar .boolean 1) j = nI 1
              rw [upd_at]
              rfl
            · rw [hyj j ej]
              obtain ⟨w1, w2, w3, w4, w5⟩ := d3 j hj
              refine ⟨fun _ => w1, w2, w3, w4, ?_⟩
              show upd (gA S 21) k (vp_nar .boolean 1) j = _
              rw [upd_ne _ _ ej]
              exact w5
        rw [g8]
        refine ⟨fun i => suc (fun w => ?_), fun i => ⟨vp_in_nI (by omega) (by decide), ?_⟩⟩
        · rw [w] at i
          exact absurd rfl i
        · rw [nI_clamp (by omega), a4, g5]
          refine ⟨fun l => suc (fun _ => ?_), fun l => hrf ?_⟩
          · rw [nI_ltI (by omega) (by omega)] at l
            exact l
          · rw [nI_ltI (by omega) (by omega)] at l
            rw [li_71, nI_eq (by omega) (by omega)] at i
            rcases hO with ⟨-, w⟩ | ⟨⟨-, -, w, -⟩, -⟩ | ⟨k', ⟨-, -, -, w, -, w3⟩, w2⟩
            · exact w
            · exact absurd w t68
            · rw [hasId_eq ho w hk] at w3
              exact absurd (w3 i) l
    · have t68 : t = 68 := by
        rw [li_68, nI_eq (by omega) (by omega)] at g
        exact g
      subst t68
      rw [d1, g5]
      refine ⟨fun i => hrf ?_, fun i => ⟨fun j => hrf ?_, fun j => ⟨fun l => hrf ?_, fun l => ⟨fun p => ?_, fun p => hrf ?_⟩⟩⟩⟩
      · rw [li_1, nI_ltI (by omega) (by omega)] at i
        rcases hO with ⟨-, w⟩ | ⟨⟨-, -, -, w, -⟩, -⟩ | ⟨k, ⟨-, -, w, -⟩, -⟩
        · exact w
        · omega
        · exact absurd rfl w
      · rw [li_2, nI_ltI (by omega) (by omega)] at j
        rcases hO with ⟨-, w⟩ | ⟨⟨-, -, -, -, w, -⟩, -⟩ | ⟨k, ⟨-, -, w, -⟩, -⟩
        · exact w
        · omega
        · exact absurd rfl w
      · rw [li_0, nI_eq (by omega) (by omega)] at l
        rcases hO with ⟨-, w⟩ | ⟨⟨-, -, -, -, -, w, -⟩, -⟩ | ⟨k, ⟨-, -, w, -⟩, -⟩
        · exact w
        · omega
        · exact absurd rfl w
      · rw [li_40, nI_eq (by omega) (by omega)] at p
        rw [li_0, nI_eq (by omega) (by omega)] at l
        rw [li_2, nI_ltI (by omega) (by omega)] at j
        rw [li_1, nI_ltI (by omega) (by omega)] at i
        have h2 : od' = od ++ [(a, b, v, 0, 0)] ∧ us' = us ++ [a] ∧ x = (rpo 0 (a, b, v, 0, 0)).2 := by
          rcases hO with ⟨w, -⟩ | ⟨-, w⟩ | ⟨k, ⟨-, -, w, -⟩, -⟩
          · rcases w with w | w | ⟨-, w⟩ | ⟨w, -⟩
            · exact absurd w e
            · exact absurd w hm
            · omega
            · exact absurd rfl w
          · exact w
          · exact absurd rfl w
        obtain ⟨hod, hus, hxx⟩ := h2
        have hv40 : vp_in (nI od.length) 40 := vp_in_nI (by omega) (by decide)
        have hlen : od'.length = od.length + 1 := by rw [hod, List.length_append]; rfl
        have hyk : od'.getD od.length oz = (a, b, v, 0, 0) := by rw [hod]; exact rp_r
        have hyj : ∀ j, j < od.length → od'.getD j oz = od.getD j oz := fun j hj => by rw [hod]; exact rp_l hj
        refine ⟨hv40, hv40, hv40, hv40, ?_⟩
        rw [nI_1, li_1, nI_sub (by omega), Nat.add_sub_cancel, nI_clamp (by omega)]
        refine hfin od.length _ hS (hF.same rfl rfl rfl) (hR.same rfl rfl) ⟨by rw [gF_sF, if_pos rfl, hlen], by omega, fun j hj => ?_⟩ (hU.same rfl rfl) (kM.trans hk0 (((((ke_sA (by decide)).trans (ke_sA (by decide))).trans (ke_sA (by decide))).trans (ke_sA (by decide))).trans (ke_sF (by decide)))) g3 (by omega) (by rw [hyk]) hus (by rw [hyk]; exact hxx)
        rw [hlen] at hj
        show (j ≠ od.length → gA S 17 j = _) ∧ upd (gA S 18) od.length (nI b) j = _ ∧ upd (gA S 19) od.length (nI v) j = _ ∧ upd (gA S 20) od.length 0 j = _ ∧ upd (gA S 21) od.length (vp_nar .boolean 0) j = _
        by_cases ej : j = od.length
        · subst ej
          rw [hyk, upd_at, upd_at, upd_at, upd_at]
          exact ⟨fun w => absurd rfl w, rfl, rfl, rfl, (by decide : vp_nar .boolean 0 = nI 0)⟩
        · rw [hyj j (by omega), upd_ne _ _ ej, upd_ne _ _ ej, upd_ne _ _ ej, upd_ne _ _ ej]
          obtain ⟨w1, w2, w3, w4, w5⟩ := d3 j (by omega)
          exact ⟨fun _ => w1, w2, w3, w4, w5⟩
      · rw [li_40, nI_eq (by omega) (by omega)] at p
        rcases hO with ⟨-, w⟩ | ⟨⟨-, -, -, -, -, -, w⟩, -⟩ | ⟨k, ⟨-, -, w, -⟩, -⟩
        · exact w
        · omega
        · exact absurd rfl w
  · have hm : a ∈ us := Classical.byContradiction (fun w => f (if_neg w))
    rcases hO with ⟨-, w⟩ | ⟨⟨-, w, -⟩, -⟩ | ⟨k, ⟨-, w, -⟩, -⟩
    · exact w
    · exact absurd hm w
    · exact absurd hm w
end OM2
