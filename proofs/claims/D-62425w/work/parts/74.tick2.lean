/-! ===== tick: the model, and both ===== -/
def kQ (S S' : XS) : Prop := ke [800, 815, 818, 819, 820, 821, 822, 823, 824, 825, 826, 829, 835, 836, 838] [13, 14, 15, 16, 17, 18, 19, 20, 21, 22] S S'
theorem kM.q {S S' : XS} (h : kM S S') : kQ S S' := ke.wide h (by decide) (by decide)
theorem kQ.y {S S' : XS} (h : kQ S S') : kY S S' := ⟨fun k hk => h.1 k (by simp; omega), fun j hj => h.2.1 j (by simp; omega), h.2.2.1, h.2.2.2.1, h.2.2.2.2⟩
theorem kQ.i {ib : List Nat} {S S' : XS} (h : kQ S S') (g : MI ib S) : MI ib S' := g.same (h.1 _ (by decide)) (h.1 _ (by decide)) (h.2.1 _ (by decide))
section RS2
variable {N : Nat} {S : XS} {r : List AE} {C : XS → List AE → Prop} {K : Int32 → XS → List AE → Prop} {A : AS} {q : Nat}
theorem rM_131 (hM : MA A S) (h : K (nI (A.1 4)) S r) : w_M_tick_131 K S r := by
  unfold w_M_tick_131
  rw [hM.1.2.2.2.2.1]
  exact h
theorem rM_107 (hM : MA A S) (hk : A.1 0 = 1 ∧ A.1 6 ≤ A.1 4 ∧ A.1 4 < 1000 ∧ A.1 2 < 1600 ∧ A.2.1.length < 200 ∧ rok A.2.2.1 (A.1 2)) (h : ∀ S', MA (tkS3 A) S' → kM S S' → K (nI (A.1 4)) S' r) : w_M_tick_107 K S r := by
  obtain ⟨k0, k1, k2, k3, k4, k5⟩ := hk
  have e9 : gF S 822 = nI (A.1 4) := hM.1.2.2.2.2.1
  have e11 : gF S 824 = nI (A.1 6) := hM.1.2.2.2.2.2.2.1
  unfold w_M_tick_107
  rw [e9, e11, nI_sub k1, li_10, nI_ltI (by omega) (by omega)]
  unfold tkS3 at h
  refine ⟨fun c => ?_, fun c => ?_⟩
  · rw [if_neg (by omega)] at h
    exact rM_131 hM (h S hM (ke.refl _ _ S))
  · rw [if_pos (by omega)] at h
    refine rM_snd (kind := 48) (bl := []) hM k0 (by omega) k5 (by omega) (by decide) (by decide) (BD_nil (Or.inr rfl)) (fun x hx => by cases hx) (by decide) (fun S' t1 t2 => ?_)
    have t1' : MA (sndc A.1, A.2.1 ++ [msgf 48 A.1 []], A.2.2) S' := t1
    refine rM_131 t1' ?_
    rw [show (sndc A.1, A.2.1 ++ [msgf 48 A.1 []], A.2.2).1 4 = A.1 4 from (sndc_v A.1).2.2.2.2.1]
    exact h S' t1' t2
theorem rM_82 (hM : MA A S) (hk : tok A) (h : ∀ S', MA (tkS3 (tkS2 A)) S' → kM S S' → K (nI (A.1 4)) S' r) : w_M_tick_82 K S r := by
  obtain ⟨k0, k1, k2, k3, k4, k5, k6, k7, k8, k9⟩ := hk
  have e9 : gF S 822 = nI (A.1 4) := hM.1.2.2.2.2.1
  have e8 : gF S 826 = nI (A.1 3) := hM.1.2.2.2.1
  have e12 : gF S 825 = nI (A.1 7) := hM.1.2.2.2.2.2.2.2.1
  unfold w_M_tick_82
  rw [e9, e8, e12, nI_sub k3, li_0, nI_leI (by omega) (by omega), li_8, nI_ltI (by omega) (by omega)]
  have no : ¬ (0 < A.1 3 ∧ A.1 7 + 8 ≤ A.1 4) → w_M_tick_107 K S r := by
    intro w
    rw [show tkS2 A = A from if_neg w] at h
    exact rM_107 hM ⟨k0, k2, k4, by omega, by omega, k9⟩ h
  refine ⟨fun c => no (by omega), fun c => ⟨fun d => no (by omega), fun d => ?_⟩⟩
  rw [show tkS2 A = _ from if_pos ⟨by omega, by omega⟩] at h
  refine rM_ask hM k0 (k7 (by omega)) (by omega) k9 (by omega) (fun S' t1 t2 => ?_)
  have t1' : MA (up (sndc A.1) 7 (A.1 4), A.2.1 ++ [msgf 50 A.1 (fld 7 (A.1 1) ++ fld 16 0)], A.2.2) S' := t1
  obtain ⟨v0, v1, v2, v3, v4, v5, v6, v7, v8⟩ := ask_v A.1
  refine rM_107 t1' ⟨?_, ?_, ?_, ?_, ?_, ?_⟩ (fun S2 u1 u2 => ?_)
  · show up (sndc A.1) 7 (A.1 4) 0 = 1; omega
  · show up (sndc A.1) 7 (A.1 4) 6 ≤ up (sndc A.1) 7 (A.1 4) 4; omega
  · show up (sndc A.1) 7 (A.1 4) 4 < 1000; omega
  · show up (sndc A.1) 7 (A.1 4) 2 < 1600; omega
  · show (A.2.1 ++ [msgf 50 A.1 (fld 7 (A.1 1) ++ fld 16 0)]).length < 200
    rw [List.length_append, List.length_singleton]; omega
  · show rok A.2.2.1 (up (sndc A.1) 7 (A.1 4) 2)
    rw [v2]
    exact rok_up k9
  · show K (nI (up (sndc A.1) 7 (A.1 4) 4)) S2 r
    rw [v4]
    exact h S2 u1 (t2.trans u2)
theorem rM_48 (hM : MA A S) (h01 : A.1 0 ≤ 1) (hk : A.1 0 = 1 → tok A) (h2 : A.1 2 < 1597) (hl : A.2.1.length < 99) (h : ∀ S', MA (if A.1 0 = 1 then tkS3 (tkS2 (tkS1 A)) else A) S' → kM S S' → K (nI (A.1 4)) S' r) : w_M_tick_48 K S r := by
  have e9 : gF S 822 = nI (A.1 4) := hM.1.2.2.2.2.1
  have e5 : gF S 819 = nI (A.1 0) := hM.1.1
  unfold w_M_tick_48
  rw [e5, li_0, nI_eq (by omega) (by omega)]
  refine ⟨fun c => ?_, fun c => ?_⟩
  · rw [if_neg (by omega)] at h
    exact rM_131 hM (h S hM (ke.refl _ _ S))
  · have k0 : A.1 0 = 1 := by omega
    have hk := hk k0
    obtain ⟨s1, s2⟩ := tok_S1 hk h2 hl
    obtain ⟨-, k1, k2, k3, k4, k5, k6, k7, k8, k9⟩ := hk
    rw [if_pos k0] at h
    have e10 : gF S 823 = nI (A.1 5) := hM.1.2.2.2.2.2.1 k0
    rw [e9, e10, nI_sub k1, li_12, nI_eq (by omega) (by omega)]
    refine ⟨fun d => ?_, fun d => ?_⟩
    · rw [show tkS1 A = A from if_neg (by omega)] at h s1
      exact rM_82 hM s1 h
    · have e1 : tkS1 A = (sndc A.1, A.2.1 ++ [msgf 49 A.1 (fld 112 (A.1 4))], A.2.2) := if_pos (by omega)
      refine rM_snd (kind := 49) (bl := fld 112 (A.1 4)) hM k0 (by omega) k9 (by omega) (by decide) (by decide) (BD_one (by decide) (by decide) (by decide) (by omega) rfl) (fld_b _ _) (by have := fld_le (t := 112) (a := A.1 4) (by decide) (by omega); omega) (fun S' t1 t2 => ?_)
      have t1' : MA (tkS1 A) S' := by rw [e1]; exact t1
      refine rM_82 t1' s1 (fun S2 u1 u2 => ?_)
      rw [s2]
      exact h S2 u1 (t2.trans u2)
theorem rM_tick (hM : MA A S) (h01 : A.1 0 ≤ 1) (hr : rok A.2.2.1 (A.1 2)) (hk : A.1 0 = 1 → tok (tkc1 A)) (h2 : A.1 2 < 1597) (h4 : A.1 4 < 900) (h : ∀ S', MA (tkk (tkc1 A)) S' → kQ S S' → gF S' 800 = 0 → K (nI (A.1 4 + 1)) S' r) : w_M_tick S r K := by
  have e9 : gF S 822 = nI (A.1 4) := hM.1.2.2.2.2.1
  have e5 : gF S 819 = nI (A.1 0) := hM.1.1
  have t0 : MA (tkc1 A) (sF (sF (sF S 800 0) 815 0) 822 (nI (A.1 4 + 1))) := MM_k4 (MA_fr0 (MA_800 hM)) (A.1 4 + 1)
  have kt : kQ S (sF (sF (sF S 800 0) 815 0) 822 (nI (A.1 4 + 1))) := ((ke_sF (by decide)).trans (ke_sF (by decide))).trans (ke_sF (by decide))
  have c0 : (tkc1 A).1 0 = A.1 0 := tkc_ne A (by decide)
  have c2 : (tkc1 A).1 2 = A.1 2 := tkc_ne A (by decide)
  have c4 : (tkc1 A).1 4 = A.1 4 + 1 := tkc_4 A
  have c5 : (tkc1 A).1 5 = A.1 5 := tkc_ne A (by decide)
  have h8 : ∀ S', kM (sF (sF (sF S 800 0) 815 0) 822 (nI (A.1 4 + 1))) S' → gF S' 800 = 0 := fun S' k => (k.1 800 (by decide)).trans rfl
  unfold w_M_tick
  rw [e5, e9, li_0, nI_eq (by omega) (by omega), nI_1]
  have go : ¬ (A.1 0 = 1 ∧ A.1 5 + 24 ≤ A.1 4 + 1) → w_M_tick_48 K (sF (sF (sF S 800 0) 815 0) 822 (nI (A.1 4 + 1))) r := by
    intro w
    refine rM_48 t0 (by omega) (fun z => hk (by omega)) (by omega) (by show 0 < 99; decide) (fun S' u1 u2 => ?_)
    rw [c4]
    refine h S' ?_ (ke.trans kt u2.q) (h8 S' u2)
    unfold tkk
    rw [c4, c5]
    by_cases z : (tkc1 A).1 0 = 1
    · rw [if_pos z] at u1
      rw [if_pos z, if_neg (by omega)]
      exact u1
    · rw [if_neg z] at u1
      rw [if_neg z]
      exact u1
  refine ⟨fun c => go (by omega), fun c => ?_⟩
  have k0 : A.1 0 = 1 := by omega
  have hk := hk k0
  have k15 : A.1 5 ≤ A.1 4 + 1 := by have := hk.2.1; omega
  have e10 : gF S 823 = nI (A.1 5) := hM.1.2.2.2.2.2.1 k0
  rw [e10, nI_sub k15, li_24, nI_ltI (by omega) (by omega)]
  refine ⟨fun d => go (by omega), fun d => ?_⟩
  refine rM_leave (K := fun S r => w_M_tick_131 K S r) t0 (by show (tkc1 A).1 0 ≤ 1; omega) (by show (tkc1 A).1 2 < 1600; omega) (by show rok A.2.2.1 ((tkc1 A).1 2); rw [c2]; exact hr) (by show 0 < 999999; decide) (fun S' u1 u2 => ?_)
  have u1' : MA (tkk (tkc1 A)) S' := by
    unfold tkk
    rw [c4, c5, if_pos (by omega), if_pos (by omega)]
    exact u1
  refine rM_131 u1' ?_
  have e4 : (tkk (tkc1 A)).1 4 = A.1 4 + 1 := by
    unfold tkk
    rw [if_pos (by omega), if_pos (by omega)]
    show lvc (tkc1 A).1 4 = _
    unfold lvc
    rw [if_pos (by omega)]
    unfold outA
    rw [up_ne _ _ (by decide), up_ne _ _ (by decide), (sndc_v _).2.2.2.2.1, c4]
  rw [e4]
  exact h S' u1' (ke.trans kt u2.q) (h8 S' u2)
theorem inv_tkc {z : Nat} (h : inv z N A) : inv z (N + 1) (tkc1 A) := by
  obtain ⟨a, b, c, d, e, f, g, i⟩ := h
  refine ⟨?_, ?_, by show A.2.2.1.length ≤ N + 1; omega, d, e, by show A.2.2.2.2.length ≤ N + 1; omega, g, by show 0 < 20000; decide⟩
  · show invc z (N + 1) (up A.1 4 (A.1 4 + 1))
    simp [invc, up] at *
    omega
  · show rok A.2.2.1 (up A.1 4 (A.1 4 + 1) 2)
    rw [up_ne _ _ (by decide)]
    exact b
theorem inv_send {z : Nat} {c : Nat → Nat} {f : List Nat} (h : inv z N A) (hl : A.2.1.length < 100) (hc : invc (z + 1) N c) (h2 : c 2 = A.1 2 + 1) : inv (z + 1) N (c, A.2.1 ++ [f], A.2.2) := by
  obtain ⟨a, b, c', d, e, f, g, i⟩ := h
  refine ⟨hc, ?_, c', d, e, f, g, ?_⟩
  · show rok A.2.2.1 (c 2)
    rw [h2]
    exact rok_up b
  · show (A.2.1 ++ [_]).length < 20000
    rw [List.length_append, List.length_singleton]
    omega
theorem inv_S {z : Nat} (h : inv z N A) (h0 : A.1 0 = 1) (hl : A.2.1.length = 0) : inv (z + 3) N (tkS3 (tkS2 (tkS1 A))) := by
  have s1 : inv (z + 1) N (tkS1 A) ∧ (tkS1 A).1 0 = 1 ∧ (tkS1 A).2.1.length ≤ 1 := by
    unfold tkS1
    split
    · refine ⟨inv_send h (by omega) (invc_snd h.1) (sndc_v A.1).2.2.1, (sndc_v A.1).1.trans h0, ?_⟩
      show (A.2.1 ++ [_]).length ≤ 1
      rw [List.length_append, List.length_singleton]
      omega
    · exact ⟨inv_w h (by omega) (by omega), h0, by omega⟩
  generalize tkS1 A = B at *
  obtain ⟨s1, b0, bl⟩ := s1
  have s2 : inv (z + 2) N (tkS2 B) ∧ (tkS2 B).1 0 = 1 ∧ (tkS2 B).2.1.length ≤ 2 := by
    unfold tkS2
    split
    · refine ⟨inv_send s1 (by omega) ?_ (ask_v B.1).2.2.1, (ask_v B.1).1.trans b0, ?_⟩
      · have hi := s1.1
        obtain ⟨v0, v1, v2, v3, v4, v5, v6, v7, v8⟩ := ask_v B.1
        generalize up (sndc B.1) 7 (B.1 4) = c at *
        unfold invc at hi ⊢
        omega
      · show (B.2.1 ++ [_]).length ≤ 2
        rw [List.length_append, List.length_singleton]
        omega
    · exact ⟨inv_w s1 (by omega) (by omega), b0, by omega⟩
  generalize tkS2 B = D at *
  obtain ⟨s2, d0, dl⟩ := s2
  unfold tkS3
  split
  · exact inv_send s2 (by omega) (invc_snd s2.1) (sndc_v D.1).2.2.1
  · exact inv_w s2 (by omega) (by omega)
theorem inv_tkk {z : Nat} (h : inv z N A) (hl : A.2.1.length = 0) : inv (z + 3) N (tkk A) := by
  unfold tkk
  split
  · rename_i h0
    split
    · have h1 : inv (z + 1) N (lvc A.1, lvf A.1 A.2.1, A.2.2) := by
        obtain ⟨a, b, c, d, e, f, g, i⟩ := h
        refine ⟨invc_lv a, ?_, c, d, e, f, g, ?_⟩
        · show rok A.2.2.1 (lvc A.1 2)
          unfold lvc
          rw [if_pos h0]
          unfold outA
          rw [up_ne _ _ (by decide), up_ne _ _ (by decide), (sndc_v A.1).2.2.1]
          exact rok_up b
        · show (lvf A.1 A.2.1).length < 20000
          unfold lvf
          rw [if_pos h0, List.length_append, List.length_singleton]
          omega
      exact inv_w h1 (by omega) (by omega)
    · exact inv_S h h0 hl
  · exact inv_w h (by omega) (by omega)
theorem rJ_tick (hJ : J N S r) (hN : N ≤ 512) (hC : ∀ S' r', J (N + 1) S' r' → C S' r') : w_T_tick S r (fun x S r => w_M_tick S r (fun y S r => (x = y → C S r) ∧ (¬ x = y → K 0 S r))) := by
  obtain ⟨A, ib, q, h1, h2, h3, h4, h5, h6⟩ := hJ
  obtain ⟨i0, i1, i2, i3, i4, i5, i6, i7, i8, i9, i10⟩ := h1.1
  have c0 : (tkc1 A).1 0 = A.1 0 := tkc_ne A (by decide)
  have c1 : (tkc1 A).1 1 = A.1 1 := tkc_ne A (by decide)
  have c2 : (tkc1 A).1 2 = A.1 2 := tkc_ne A (by decide)
  have c3 : (tkc1 A).1 3 = A.1 3 := tkc_ne A (by decide)
  have c4 : (tkc1 A).1 4 = A.1 4 + 1 := tkc_4 A
  have c5 : (tkc1 A).1 5 = A.1 5 := tkc_ne A (by decide)
  have c6 : (tkc1 A).1 6 = A.1 6 := tkc_ne A (by decide)
  have c7 : (tkc1 A).1 7 = A.1 7 := tkc_ne A (by decide)
  have hr : rok A.2.2.1 (A.1 2) := h1.2.1
  have ht : A.1 0 = 1 → tok (tkc1 A) := fun w => ⟨by omega, by have := i7 w; omega, by omega, by omega, by omega, by omega, by omega, fun _ => by omega, by show 0 < 100; decide, by rw [c2]; exact hr⟩
  refine rT_tick h2 i0 ht (by omega) (by omega) (by omega) (fun S1 r1 t1 t2 => ?_)
  refine rM_tick (h3.x t2.x) i0 hr ht (by omega) (by omega) (fun S2 m1 m2 m3 => ⟨fun _ => hC _ _ ⟨tkk (tkc1 A), ib, q, ?_, TA.y t1 m2.y, m1, (h4.t t2).y m2.y, m2.i (h5.x t2.x), by omega⟩, fun w => absurd rfl w⟩)
  have := inv_tkk (inv_tkc h1) rfl
  exact inv_w this (by omega) (by omega)
end RS2
