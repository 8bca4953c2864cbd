/-! ===== take ===== -/
theorem stl_id {z N : Nat} {A : AS} (h : inv z N A) : stl A.1 = A.1 := by
  obtain ⟨i0, i1, i2, i3, i4, i5, -⟩ := h.1
  unfold stl
  have e : (if A.1 1 ≤ A.1 3 ∧ A.1 0 = 1 then A.1 3 else 0) = A.1 3 := by
    split
    · rfl
    · omega
  rw [e, up_self]
theorem lvc_3 (c : Nat → Nat) : lvc c 3 = 0 := by
  unfold lvc outA
  split <;> exact up_at _ _ _
theorem mv_3 {c : Nat → Nat} {n m : Nat} (h : c 3 < m) (hm : 0 < m) : mvA c n 3 < m := by
  unfold mvA
  rw [up_at]
  generalize (if c 1 < n then n else c 1) = w
  split <;> omega
theorem lgn_3 (a : Nat) (A : AS) : (lgn a A).1 3 = A.1 3 := by
  unfold lgn
  split
  · rfl
  · show sndc (lgc A.1) 3 = A.1 3
    unfold sndc lgc
    simp [up]
theorem inT_3 {t a b m : Nat} {A : AS} {o : List RP × List Nat × (Nat × Nat × Nat × Nat)} (h : A.1 3 < m) : (inT t a b A o).1 3 < m := by
  unfold inT
  split
  · show sndc A.1 3 < m
    unfold sndc
    simp [up]
    exact h
  · split
    · show sdc A.1 _ 3 < m
      rw [sdc_ne _ _ (by decide)]
      exact h
    · split
      · exact mv_3 h (by omega)
      · split
        · show lvc A.1 3 < m
          rw [lvc_3]
          omega
        · split
          · show cR (up A.1 8 (A.1 8 + 1)) 3 < m
            unfold cR
            split <;> (simp [up]; exact h)
          · exact h
theorem erl_3 {t n a b m : Nat} {A : AS} (h : A.1 3 < m) (hn : n < m) : (erl t n a b A).1 3 < m := by
  unfold erl
  split
  · show lvc A.1 3 < m
    rw [lvc_3]
    omega
  · have hB : (erB t a b A).1 3 < m := by
      unfold erB
      split
      · show sdc A.1 _ 3 < m
        rw [sdc_ne _ _ (by decide)]
        exact h
      · exact h
    generalize erB t a b A = B at *
    unfold erC
    (repeat' split) <;> simp [up, sndc] <;> (try split) <;> omega
theorem tkM_3 {z N t n d a b v : Nat} {A : AS} {o : List RP × List Nat × (Nat × Nat × Nat × Nat)} (hi : inv z N A) (ok : mok t n d a b v) : (tkM t n d a b A o).2.1 3 < 1000000 := by
  obtain ⟨i0, i1, i2, i3, i4, i5, -⟩ := hi.1
  have hn := ok.2.1
  have h3 : A.1 3 < 1000000 := by omega
  have hc : hc1 A.1 3 < 1000000 := by rw [hc1_ne _ (by decide)]; exact h3
  have hl : (lgn a (hc1 A.1, A.2)).1 3 < 1000000 := by rw [lgn_3]; exact hc
  unfold tkM
  split
  · exact h3
  · split
    · split
      · show up (hc1 A.1) 1 a 3 < 1000000
        rw [up_ne _ _ (by decide)]
        exact hc
      · exact hc
    · split
      · split
        · show lvc (hc1 A.1) 3 < 1000000
          rw [lvc_3]
          decide
        · exact hc
      · split
        · exact erl_3 hl hn
        · show (inM t a b (up (lgn a (hc1 A.1, A.2)).1 1 (A.1 1 + 1), (lgn a (hc1 A.1, A.2)).2) o).1 3 < 1000000
          unfold inM
          split
          · show up (up (lgn a (hc1 A.1, A.2)).1 1 (A.1 1 + 1)) 1 (if up (lgn a (hc1 A.1, A.2)).1 1 (A.1 1 + 1) 1 < a then a else up (lgn a (hc1 A.1, A.2)).1 1 (A.1 1 + 1) 1) 3 < 1000000
            rw [up_ne _ _ (by decide), up_ne _ _ (by decide)]
            exact hl
          · refine inT_3 ?_
            show up (lgn a (hc1 A.1, A.2)).1 1 (A.1 1 + 1) 3 < 1000000
            rw [up_ne _ _ (by decide)]
            exact hl
theorem tkM_b {z N t n d a b v : Nat} {A : AS} {o : List RP × List Nat × (Nat × Nat × Nat × Nat)} (hi : inv z N A) (ok : mok t n d a b v) (hT : inv (z + 2) (N + 1) (tkT t n d a b A o).2) : (tkM t n d a b A o).2.1 0 ≤ 1 ∧ (tkM t n d a b A o).2.1 1 < 2000000 ∧ (tkM t n d a b A o).2.1 3 < 2000000 := by
  obtain ⟨-, eq2⟩ := tk_eq (o := o) hi ok
  have h3 := tkM_3 (o := o) hi ok
  rw [← eq2] at hT
  obtain ⟨i0, i1, i2, -⟩ := hT.1
  have e0 : stl (tkM t n d a b A o).2.1 0 = (tkM t n d a b A o).2.1 0 := up_ne _ _ (by decide)
  have e1 : stl (tkM t n d a b A o).2.1 1 = (tkM t n d a b A o).2.1 1 := up_ne _ _ (by decide)
  have i0' : stl (tkM t n d a b A o).2.1 0 ≤ 1 := i0
  have i2' : stl (tkM t n d a b A o).2.1 1 ≤ 1000000 := i2
  exact ⟨by omega, by omega, by omega⟩
section TK
variable {N : Nat} {S : XS} {r : List AE} {C : XS → List AE → Prop} {K : Int32 → XS → List AE → Prop} {Q : Int32 → XS → List AE → Prop} {A : AS} {q : Nat} {ib : List Nat}
theorem rM_settle {K : XS → List AE → Prop} (hM : MA A S) (h0 : A.1 0 ≤ 1) (h1 : A.1 1 < 2000000) (h3 : A.1 3 < 2000000) (h : ∀ S', MA (stl A.1, A.2) S' → kM S S' → K S' r) : w_M_settle S r K := by
  have e0 : gF S 819 = nI (A.1 0) := hM.1.1
  have e1 : gF S 820 = nI (A.1 1) := hM.1.2.1
  have e3 : gF S 826 = nI (A.1 3) := hM.1.2.2.2.1
  unfold stl at h
  unfold w_M_settle
  rw [e0, e1, e3, nI_ltI (by omega) (by omega), li_0, nI_eq (by omega) (by omega)]
  refine ⟨fun c => ?_, fun c => ⟨fun d => ?_, fun d => ?_⟩⟩
  · rw [if_neg (by omega)] at h
    exact h _ (MM_k3 hM 0) (ke_sF (by decide))
  · rw [if_pos (by omega)] at h
    exact h _ (MM_k3 hM _) (ke_sF (by decide))
  · rw [if_neg (by omega)] at h
    exact h _ (MM_k3 hM 0) (ke_sF (by decide))
theorem MA.h {S' : XS} (h : MA A S) (k : kH S S') : MA A S' := h.same (fun x hx => k.1 x (by revert x; decide)) (fun x hx => k.2.1 x (by revert x; decide))
/-- a frame that is none -/
theorem rM_take0 (hM : MA A S) (hi : inv (1 + 3 * N) N A) (hN : N ≤ 512) (h8 : gF S 801 = 1) (hB : MB ib S) (hp : prs ib = none) (h : ∀ S', MA (fr0 A) S' → kY S S' → gF S' 801 = 0 → gF S' 800 = 0 → K 0 S' r) : w_M_take S r K := by
  unfold w_M_take
  rw [h8]
  refine ⟨fun _ => ?_, fun w => absurd w (by decide)⟩
  have m0 : MA (fr0 A) (sF (sF (sF S 800 0) 801 0) 815 0) := MA_fr0 ((MA_800 hM).same (fun x hx => by rw [gF_sF, if_neg (by rintro rfl; revert hx; decide)]) (fun _ _ => rfl))
  have y0 : kY S (sF (sF (sF S 800 0) 801 0) 815 0) := ((kY_sF (by decide)).trans (kY_sF (by decide))).trans (kY_sF (by decide))
  have b0 : MB ib (sF (sF (sF S 800 0) 801 0) 815 0) := hB
  have z0 : gF (sF (sF (sF S 800 0) 801 0) 815 0) 801 = 0 := rfl
  have z1 : gF (sF (sF (sF S 800 0) 801 0) 815 0) 800 = 0 := rfl
  generalize sF (sF (sF S 800 0) 801 0) 815 0 = S1 at *
  obtain ⟨i0, i1, i2, i3, i4, i5, -⟩ := hi.1
  refine rM_good b0 (fun _ S2 k2 => ⟨fun w => absurd rfl w, fun _ => ?_⟩) (fun fl t n d a b v e1 e2 e3 e4 => ?_)
  · refine rM_settle (m0.h k2) i0 (by show A.1 1 < _; omega) (by show A.1 3 < _; omega) (fun S3 m3 k3 => ?_)
    have m3' : MA (fr0 A) S3 := by
      have e := stl_id hi
      have m3'' : MA (stl A.1, (fr0 A).2) S3 := m3
      rw [e] at m3''
      exact m3''
    exact h S3 m3' ((y0.trans k2.y).trans k3.y) (((k3.1 801 (by decide)).trans (k2.1 801 (by decide))).trans z0) (((k3.1 800 (by decide)).trans (k2.1 800 (by decide))).trans z1)
  · subst e1
    rw [GD_prs e2 (fun w => e4.2.2.2.2.2.2 w) e3] at hp
    cases hp
theorem rM_take1 {t n d a b v : Nat} {o : List RP × List Nat × (Nat × Nat × Nat × Nat)} (hM : MA A S) (hi : inv (1 + 3 * N) N (fr0 A)) (hN : N ≤ 512) (h8 : gF S 801 = 1) (hB : MB ib S) (hp : prs ib = some (t, n, d, a, b, v)) (ok : mok t n d a b v) (hO : (t = 68 ∨ t = 70 ∨ t = 71) → OMr t a b v A.2.2.2.1 A.2.2.2.2 o.1 o.2.1 o.2.2) (h : ∀ S', MA (tkT t n d a b (fr0 A) o).2 S' → kY S S' → gF S' 801 = 0 → gF S' 800 = 0 → K (nI (tkT t n d a b (fr0 A) o).1) S' r) : w_M_take S r K := by
  unfold w_M_take
  rw [h8]
  refine ⟨fun _ => ?_, fun w => absurd w (by decide)⟩
  have m0 : MA (fr0 A) (sF (sF (sF S 800 0) 801 0) 815 0) := MA_fr0 ((MA_800 hM).same (fun x hx => by rw [gF_sF, if_neg (by rintro rfl; revert hx; decide)]) (fun _ _ => rfl))
  have y0 : kY S (sF (sF (sF S 800 0) 801 0) 815 0) := ((kY_sF (by decide)).trans (kY_sF (by decide))).trans (kY_sF (by decide))
  have b0 : MB ib (sF (sF (sF S 800 0) 801 0) 815 0) := hB
  have z0 : gF (sF (sF (sF S 800 0) 801 0) 815 0) 801 = 0 := rfl
  have z1 : gF (sF (sF (sF S 800 0) 801 0) 815 0) 800 = 0 := rfl
  generalize sF (sF (sF S 800 0) 801 0) 815 0 = S1 at *
  refine rM_good b0 (fun hn => ?_) (fun fl t' n' d' a' b' v' e1 e2 e3 e4 S2 k2 hm => ?_)
  · exfalso
    obtain ⟨fl, e1, e2⟩ := prs_asf hp
    subst e1
    exact hn ⟨fl, t, n, d, a, b, v, rfl, e2, prs_GD e2 ok.2.2.2.2.2.2 hp⟩
  · have e5 : prs ib = some (t', n', d', a', b', v') := by
      rw [e1]
      exact GD_prs e2 (fun w => e4.2.2.2.2.2.2 w) e3
    rw [hp] at e5
    cases e5
    clear e4 e3
    have m2 : MA (fr0 A) S2 := m0.h k2
    obtain ⟨ha, ha2, haf, hms⟩ := inv_aok hi (by omega) (by omega)
    obtain ⟨eq1, eq2⟩ := tk_eq (o := o) hi ok
    have hin := tk_inv (o := o) hi (by show 0 < 9000; decide) ok hO (by omega)
    have fin : ∀ S3, MA (tkM t n d a b (fr0 A) o).2 S3 → kM S2 S3 → w_M_settle S3 r (fun S6 r7 => K (nI (tkM t n d a b (fr0 A) o).1) S6 r7) := by
      intro S3 m3 k3
      rw [eq1]
      have bd : (tkM t n d a b (fr0 A) o).2.1 0 ≤ 1 ∧ (tkM t n d a b (fr0 A) o).2.1 1 < 2000000 ∧ (tkM t n d a b (fr0 A) o).2.1 3 < 2000000 := tkM_b hi ok hin
      refine rM_settle m3 bd.1 bd.2.1 bd.2.2 (fun S4 m4 k4 => ?_)
      rw [eq2] at m4
      exact h S4 m4 (((y0.trans k2.y).trans k3.y).trans k4.y) ((((k4.1 801 (by decide)).trans (k3.1 801 (by decide))).trans (k2.1 801 (by decide))).trans z0) ((((k4.1 800 (by decide)).trans (k3.1 800 (by decide))).trans (k2.1 800 (by decide))).trans z1)
    have e8 : gF S2 819 = nI (A.1 0) := m2.1.1
    have et : gF S2 808 = nI t := hm.1
    have i0 : A.1 0 ≤ 1 := hi.1.1
    have htb : t < 128 := by
      refine mcase (P := fun t => t < 128) ok.1 ?_ ?_ ?_ ?_ ?_ ?_ ?_ ?_ ?_ <;> decide
    have go : ¬ ((fr0 A).1 0 = 0 ∧ t ≠ 65) → w_M_taken_27 (fun x2 S3 r4 => w_M_settle S3 r4 (fun S6 r7 => K x2 S6 r7)) S2 r := fun w => rM_taken27 m2 ha ha2 haf hms hm ok hO w fin
    refine ⟨fun _ => ⟨fun w => go ?_, fun w => ⟨fun u => go ?_, fun u => ?_⟩⟩, fun w => absurd w (by decide)⟩
    · rw [e8, li_0, nI_eq (by omega) (by omega)] at w
      exact fun z => w z.1
    · rw [et, li_65, nI_eq (by omega) (by omega)] at u
      exact fun z => z.2 u
    · rw [e8, li_0, nI_eq (by omega) (by omega)] at w
      rw [et, li_65, nI_eq (by omega) (by omega)] at u
      have e1 : tkM t n d a b (fr0 A) o = (1, fr0 A) := if_pos ⟨w, u⟩
      have := fin S2 (by rw [e1]; exact m2) (ke.refl _ _ S2)
      rw [e1] at this
      exact this
theorem rJ_take (hJ : J N S r) (hN : N ≤ 512) (hC : ∀ S' r', J (N + 1) S' r' → C S' r') (hQ : ∀ k S1 r1, w_M_take S1 r1 (fun b S2 r2 => chk K C k b S2 r2) → Q k S1 r1) : w_L_take S r Q := by
  have hJ' := hJ
  have hb := hJ.bud hN
  obtain ⟨A, ib, q, h1, h2, h3, h4, h5, h6⟩ := hJ
  have e101 : gF S 101 = nI ib.length := h4.1
  have hl := h4.2.1
  have hz : gF S 101 = 0 ↔ ib.length = 0 := by rw [e101, li_0, nI_eq (by omega) (by omega)]
  refine ⟨fun w => ?_, fun w => ⟨hb, rfl, hQ _ _ _ ?_⟩⟩
  · rw [hz] at w
    have hne : ib ≠ [] := fun e => w (by rw [e]; rfl)
    have h8 : gF S 801 = 1 := by
      have := h5.1
      rw [if_neg hne] at this
      exact this
    have hB := h5.2 hne
    have i0 := inv_fr0 h1
    have t0 : TA (fr0 A) q (sF S 4 0) r := TA_fr0 h2
    have x0 : kX S (sF S 4 0) := kX_sF (by decide)
    refine rT_garbled (TI_sF h4 (by decide)) hb (fun hp S3 k3 => ⟨fun z => absurd z (by decide), fun _ => hQ _ _ _ ?_⟩) (fun t n d a b v hp ok S3 k3 hm => ⟨fun _ => ?_, fun z => absurd rfl z⟩)
    · generalize hv : vp_updL (gO (sF S3 101 0)) (0 : Int32).toNatClampNeg ((0 : Int32).toInt64) = gv
      have x1 : kX S (sO (sF S3 101 0) gv) := ((x0.trans k3.x).trans (kX_sF (by decide))).trans kX_sO
      have t1 : TA (fr0 A) (q + 1) (sO (sF S3 101 0) gv) (r ++ [xO 7 []]) := ((t0.s k3).app (by decide)).same (fun x hx => by rw [gF_sO, gF_sF, if_neg (by rintro rfl; revert hx; decide)]) rfl (fun _ _ => rfl) (fun _ => rfl)
      have ti : TI [] (sO (sF S3 101 0) gv) := ⟨rfl, by decide, (fun x hx => by cases hx), fun i hi => absurd hi (Nat.not_lt_zero _)⟩
      refine rM_take0 (h3.x x1) h1 hN ((x1.1 801 (by decide)).trans h8) ⟨(x1.1 802 (by decide)).trans hB.1, hB.2.1, hB.2.2.1, by rw [x1.2 9 (by decide)]; exact hB.2.2.2⟩ hp (fun S4 m4 y4 z4 w4 => ?_)
      refine chk_ok w4 ?_ (hC _ _ ⟨fr0 A, [], q + 1, inv_w i0 (by omega) (by omega), t1.y y4, m4, ti.y y4, MI_nil z4, by omega⟩)
      rw [y4.2.2.2.2, ← hv]
      exact gO_set _ _
    · obtain ⟨o1, o2, o3, hO⟩ := OMr_total t a b v A.2.2.2.1 A.2.2.2.2
      obtain ⟨ha, ha2, haf, hms⟩ := inv_aok i0 (by omega) (by omega)
      have t1 : TA (fr0 A) q (sF S3 101 0) r := (t0.s k3).same (fun x hx => by rw [gF_sF, if_neg (by rintro rfl; revert hx; decide)]) rfl (fun _ _ => rfl) (fun _ => rfl)
      have hm1 : msgT t n d a b v (sF S3 101 0) := hm
      refine rT_taken (o := (o1, o2, o3)) t1 ha ha2 haf hm1 ok (fun _ => hO) (by omega) (fun S4 r4 t4 k4 => hQ _ _ _ ?_)
      generalize hv : vp_updL (gO S4) (0 : Int32).toNatClampNeg ((nI (tkT t n d a b (fr0 A) (o1, o2, o3)).1).toInt64) = gv
      have x1 : kX S (sO S4 gv) := (((x0.trans k3.x).trans (kX_sF (by decide))).trans k4.x).trans kX_sO
      have ti : TI [] (sO S4 gv) := ⟨(k4.1 101 (by decide)).trans rfl, by decide, (fun x hx => by cases hx), fun i hi => absurd hi (Nat.not_lt_zero _)⟩
      refine rM_take1 (o := (o1, o2, o3)) (h3.x x1) i0 hN ((x1.1 801 (by decide)).trans h8) ⟨(x1.1 802 (by decide)).trans hB.1, hB.2.1, hB.2.2.1, by rw [x1.2 9 (by decide)]; exact hB.2.2.2⟩ hp ok (fun _ => hO) (fun S5 m5 y5 z5 w5 => ?_)
      have hin := tk_inv (o := (o1, o2, o3)) i0 (by show 0 < 9000; decide) ok (fun _ => hO) (by omega)
      refine chk_ok w5 ?_ (hC _ _ ⟨(tkT t n d a b (fr0 A) (o1, o2, o3)).2, [], q + 2, inv_w hin (by omega) (by omega), TA.y (TA.o t4) y5, m5, ti.y y5, MI_nil z5, by omega⟩)
      rw [y5.2.2.2.2, ← hv]
      exact gO_set _ _
  · rw [hz] at w
    have hne : ib = [] := List.length_eq_zero_iff.mp w
    have h8 : gF S 801 = 0 := by
      have := h5.1
      rw [if_pos hne] at this
      exact this
    unfold w_M_take
    rw [h8]
    exact ⟨fun z => absurd rfl z, fun _ => chk_err rfl (by decide) (hC _ _ (hJ'.err (by decide)))⟩
end TK
