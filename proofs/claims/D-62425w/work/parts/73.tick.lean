/-! ===== restart, tick ===== -/
theorem nar01 {x : Nat} (h : x ≤ 1) : narrow .boolean (.int (nI x)) = .int (nI x) := by
  have : x = 0 ∨ x = 1 := by omega
  rcases this with rfl | rfl <;> rfl
/-- the same state with no frames -/
def fr0 (A : AS) : AS := (A.1, [], A.2.2)
theorem inv_fr0 {z N : Nat} {A : AS} (h : inv z N A) : inv z N (fr0 A) := by
  obtain ⟨a, b, c, d, e, f, g, i⟩ := h
  exact ⟨a, b, c, d, e, f, g, by show 0 < 20000; decide⟩
theorem TA_fr0 {A : AS} {q : Nat} {S : XS} {r : List AE} (h : TA A q S r) : TA (fr0 A) q (sF S 4 0) r := TT_fr0 h
theorem MA_fr0 {A : AS} {S : XS} (h : MA A S) : MA (fr0 A) (sF S 815 0) := MM_fr0 h
theorem MA_800 {A : AS} {S : XS} {v : Int32} (h : MA A S) : MA A (sF S 800 v) := by
  have e8 : ∀ j, j ≠ 800 → gF (sF S 800 v) j = gF S j := fun j hj => by rw [gF_sF, if_neg hj]
  exact h.same (fun x hx => e8 x (by rintro rfl; revert hx; decide)) (fun _ _ => rfl)
theorem MI_sF {ib : List Nat} {S : XS} {k : Nat} {v : Int32} (h : MI ib S) (hk : k ≠ 801 ∧ k ≠ 802) : MI ib (sF S k v) := h.same (by rw [gF_sF, if_neg (Ne.symm hk.1)]) (by rw [gF_sF, if_neg (Ne.symm hk.2)]) rfl
theorem TI_sF {ib : List Nat} {S : XS} {k : Nat} {v : Int32} (h : TI ib S) (hk : k ≠ 101) : TI ib (sF S k v) := ⟨by rw [gF_sF, if_neg (Ne.symm hk)]; exact h.1, h.2.1, h.2.2.1, h.2.2.2⟩
section RS
variable {N : Nat} {S : XS} {r : List AE} {C : XS → List AE → Prop} {K : Int32 → XS → List AE → Prop} {A : AS} {q : Nat}
theorem rJ_restart (hJ : J N S r) (hC : ∀ S' r', J (N + 1) S' r' → C S' r') : w_T_restart S r (fun x S r => w_M_restart S r (fun y S r => (x = y → C S r) ∧ (¬ x = y → K 0 S r))) := by
  obtain ⟨A, ib, q, h1, h2, h3, h4, h5, h6⟩ := hJ
  have h01 : A.1 0 ≤ 1 := h1.1.1
  refine rT_goOut (TA_fr0 h2) (fun S1 t1 k1 => ?_)
  have x1 : kX S S1 := (kX_sF (by decide)).trans k1.x
  have e5 : gF S 5 = nI (A.1 0) := h2.1.1
  have e8 : gF S1 819 = nI (A.1 0) := (x1.1 819 (by decide)).trans h3.1.1
  have hM := MA_800 (v := 0) (h3.x x1)
  have hM2 : MA ((outA A.1, [], A.2.2)) (sF (sF (sF (sF S1 800 0) 819 0) 826 0) 815 0) := MM_fr0 (MM_k3 (MM_k0 hM 0 (fun e => absurd e (by decide))) 0)
  refine ⟨by rw [e5]; exact nar01 h01, by rw [e8]; exact nar01 h01, fun _ => hC _ _ ⟨(outA A.1, [], A.2.2), ib, q, ?_, ?_, hM2, ?_, ?_, by omega⟩, fun w => absurd (e5.trans e8.symm) w⟩
  · obtain ⟨a, b, c, d, e, f, g, i⟩ := h1
    have hi : inv (1 + 3 * N) N (outA A.1, [], A.2.2) := ⟨invc_out a, b, c, d, e, f, g, by show 0 < 20000; decide⟩
    exact inv_w hi (by omega) (by omega)
  · exact TA.y t1 ((((kY_sF (by decide)).trans (kY_sF (by decide))).trans (kY_sF (by decide))).trans (kY_sF (by decide)))
  · exact ((TI_sF h4 (by decide)).t k1).y ((((kY_sF (by decide)).trans (kY_sF (by decide))).trans (kY_sF (by decide))).trans (kY_sF (by decide)))
  · exact MI_sF (MI_sF (MI_sF (MI_sF (h5.x x1) (by decide)) (by decide)) (by decide)) (by decide)
def tkS1 (A : AS) : AS := if A.1 4 = A.1 5 + 12 then (sndc A.1, A.2.1 ++ [msgf 49 A.1 (fld 112 (A.1 4))], A.2.2) else A
def tkS2 (A : AS) : AS := if 0 < A.1 3 ∧ A.1 7 + 8 ≤ A.1 4 then (up (sndc A.1) 7 (A.1 4), A.2.1 ++ [msgf 50 A.1 (fld 7 (A.1 1) ++ fld 16 0)], A.2.2) else A
def tkS3 (A : AS) : AS := if A.1 6 + 10 ≤ A.1 4 then (sndc A.1, A.2.1 ++ [msgf 48 A.1 []], A.2.2) else A
def tkc1 (A : AS) : AS := (up A.1 4 (A.1 4 + 1), [], A.2.2)
theorem tkc_ne (A : AS) {j : Nat} (h : j ≠ 4) : (tkc1 A).1 j = A.1 j := if_neg h
theorem tkc_4 (A : AS) : (tkc1 A).1 4 = A.1 4 + 1 := up_at A.1 4 (A.1 4 + 1)
def tkk (A : AS) : AS := if A.1 0 = 1 then (if A.1 5 + 24 ≤ A.1 4 then (lvc A.1, lvf A.1 A.2.1, A.2.2) else tkS3 (tkS2 (tkS1 A))) else A
/-- what the steps need -/
def tok (A : AS) : Prop := A.1 0 = 1 ∧ A.1 5 ≤ A.1 4 ∧ A.1 6 ≤ A.1 4 ∧ A.1 7 ≤ A.1 4 ∧ A.1 4 < 1000 ∧ A.1 2 < 1598 ∧ A.1 3 < 1000000 ∧ (0 < A.1 3 → A.1 1 < 1000000) ∧ A.2.1.length < 100 ∧ rok A.2.2.1 (A.1 2)
theorem up_4 (c : Nat → Nat) {k v : Nat} (h : 4 ≠ k) : up c k v 4 = c 4 := up_ne c v h
theorem sndc_v (c : Nat → Nat) : sndc c 0 = c 0 ∧ sndc c 1 = c 1 ∧ sndc c 2 = c 2 + 1 ∧ sndc c 3 = c 3 ∧ sndc c 4 = c 4 ∧ sndc c 5 = c 5 ∧ sndc c 6 = c 4 ∧ sndc c 7 = c 7 ∧ sndc c 8 = c 8 := by
  unfold sndc up
  simp
theorem ask_v (c : Nat → Nat) : up (sndc c) 7 (c 4) 0 = c 0 ∧ up (sndc c) 7 (c 4) 1 = c 1 ∧ up (sndc c) 7 (c 4) 2 = c 2 + 1 ∧ up (sndc c) 7 (c 4) 3 = c 3 ∧ up (sndc c) 7 (c 4) 4 = c 4 ∧ up (sndc c) 7 (c 4) 5 = c 5 ∧ up (sndc c) 7 (c 4) 6 = c 4 ∧ up (sndc c) 7 (c 4) 7 = c 4 ∧ up (sndc c) 7 (c 4) 8 = c 8 := by
  unfold sndc up
  simp
theorem rT_133 {z : Int32} (hT : TA A q S r) (h : K (nI (A.1 4)) S r) : w_T_tick_133 K S r := by
  unfold w_T_tick_133
  rw [hT.1.2.2.2.2.1]
  exact h
theorem rT_110 (hT : TA A q S r) (hk : A.1 0 = 1 ∧ A.1 6 ≤ A.1 4 ∧ A.1 4 < 1000 ∧ A.1 2 < 1600 ∧ A.2.1.length < 200) (hq : q ≤ 5000) (h : ∀ S' r', TA (tkS3 A) q S' r' → kT S S' → K (nI (A.1 4)) S' r') : w_T_tick_110 K S r := by
  obtain ⟨k0, k1, k2, k3, k4⟩ := hk
  have e9 : gF S 9 = nI (A.1 4) := hT.1.2.2.2.2.1
  have e11 : gF S 11 = nI (A.1 6) := hT.1.2.2.2.2.2.2.1
  unfold w_T_tick_110
  rw [e9, e11, nI_sub k1, li_10, nI_ltI (by omega) (by omega)]
  unfold tkS3 at h
  refine ⟨fun c => ?_, fun c => ?_⟩
  · rw [if_neg (by omega)] at h
    exact rT_133 (z := 0) hT (h S r hT (kT.refl S))
  · rw [if_pos (by omega)] at h
    refine rT_send (p1 := 1) (bl := []) hT k0 (by omega) hq (by omega) (Or.inr (Or.inr ⟨Or.inl rfl, Or.inl ⟨rfl, rfl⟩⟩)) (fun S' r' t1 t2 => ?_)
    have t1' : TA (sndc A.1, A.2.1 ++ [msgf 48 A.1 []], A.2.2) q S' r' := t1
    refine rT_133 (z := 0) t1' ?_
    rw [show (sndc A.1, A.2.1 ++ [msgf 48 A.1 []], A.2.2).1 4 = A.1 4 from (sndc_v A.1).2.2.2.2.1]
    exact h S' r' t1' t2
theorem rT_85 (hT : TA A q S r) (hk : tok A) (hq : q ≤ 5000) (h : ∀ S' r', TA (tkS3 (tkS2 A)) q S' r' → kT S S' → K (nI (A.1 4)) S' r') : w_T_tick_85 K S r := by
  obtain ⟨k0, k1, k2, k3, k4, k5, k6, k7, k8, k9⟩ := hk
  have e9 : gF S 9 = nI (A.1 4) := hT.1.2.2.2.2.1
  have e8 : gF S 8 = nI (A.1 3) := hT.1.2.2.2.1
  have e12 : gF S 12 = nI (A.1 7) := hT.1.2.2.2.2.2.2.2.1
  unfold w_T_tick_85
  rw [e9, e8, e12, nI_sub k3, li_0, nI_leI (by omega) (by omega), li_8, nI_ltI (by omega) (by omega)]
  have no : ¬ (0 < A.1 3 ∧ A.1 7 + 8 ≤ A.1 4) → w_T_tick_110 K S r := by
    intro w
    rw [show tkS2 A = A from if_neg w] at h
    exact rT_110 hT ⟨k0, k2, k4, by omega, by omega⟩ hq h
  refine ⟨fun c => no (by omega), fun c => ⟨fun d => no (by omega), fun d => ?_⟩⟩
  rw [show tkS2 A = _ from if_pos ⟨by omega, by omega⟩] at h
  refine rT_ask hT k0 (k7 (by omega)) (by omega) hq (by omega) (fun S' r' t1 t2 => ?_)
  have t1' : TA (up (sndc A.1) 7 (A.1 4), A.2.1 ++ [msgf 50 A.1 (fld 7 (A.1 1) ++ fld 16 0)], A.2.2) q S' r' := t1
  obtain ⟨v0, v1, v2, v3, v4, v5, v6, v7, v8⟩ := ask_v A.1
  refine rT_110 t1' ⟨?_, ?_, ?_, ?_, ?_⟩ hq (fun S2 r2 u1 u2 => ?_)
  · show up (sndc A.1) 7 (A.1 4) 0 = 1; omega
  · show up (sndc A.1) 7 (A.1 4) 6 ≤ up (sndc A.1) 7 (A.1 4) 4; omega
  · show up (sndc A.1) 7 (A.1 4) 4 < 1000; omega
  · show up (sndc A.1) 7 (A.1 4) 2 < 1600; omega
  · show (A.2.1 ++ [msgf 50 A.1 (fld 7 (A.1 1) ++ fld 16 0)]).length < 200
    rw [List.length_append, List.length_singleton]; omega
  · show K (nI (up (sndc A.1) 7 (A.1 4) 4)) S2 r2
    rw [v4]
    exact h S2 r2 u1 (t2.trans u2)
theorem tok_S1 (hk : tok A) (h2 : A.1 2 < 1597) (hl : A.2.1.length < 99) : tok (tkS1 A) ∧ (tkS1 A).1 4 = A.1 4 := by
  unfold tkS1
  split
  · obtain ⟨k0, k1, k2, k3, k4, k5, k6, k7, k8, k9⟩ := hk
    obtain ⟨v0, v1, v2, v3, v4, v5, v6, v7, v8⟩ := sndc_v A.1
    refine ⟨⟨?_, ?_, ?_, ?_, ?_, ?_, ?_, ?_, ?_, ?_⟩, v4⟩
    · show sndc A.1 0 = 1; omega
    · show sndc A.1 5 ≤ sndc A.1 4; omega
    · show sndc A.1 6 ≤ sndc A.1 4; omega
    · show sndc A.1 7 ≤ sndc A.1 4; omega
    · show sndc A.1 4 < 1000; omega
    · show sndc A.1 2 < 1598; omega
    · show sndc A.1 3 < 1000000; omega
    · show 0 < sndc A.1 3 → sndc A.1 1 < 1000000; omega
    · show (A.2.1 ++ [msgf 49 A.1 (fld 112 (A.1 4))]).length < 100
      rw [List.length_append, List.length_singleton]; omega
    · show rok A.2.2.1 (sndc A.1 2)
      rw [v2]
      exact rok_up k9
  · exact ⟨hk, rfl⟩
theorem rT_52 (hT : TA A q S r) (h01 : A.1 0 ≤ 1) (hk : A.1 0 = 1 → tok A) (h2 : A.1 2 < 1597) (hl : A.2.1.length < 99) (hq : q ≤ 5000) (h : ∀ S' r', TA (if A.1 0 = 1 then tkS3 (tkS2 (tkS1 A)) else A) q S' r' → kT S S' → K (nI (A.1 4)) S' r') : w_T_tick_52 K S r := by
  have e9 : gF S 9 = nI (A.1 4) := hT.1.2.2.2.2.1
  have e5 : gF S 5 = nI (A.1 0) := hT.1.1
  unfold w_T_tick_52
  rw [e5, li_0, nI_eq (by omega) (by omega)]
  refine ⟨fun c => ?_, fun c => ?_⟩
  · rw [if_neg (by omega)] at h
    exact rT_133 (z := 0) hT (h S r hT (kT.refl S))
  · have k0 : A.1 0 = 1 := by omega
    have hk := hk k0
    obtain ⟨s1, s2⟩ := tok_S1 hk h2 hl
    obtain ⟨-, k1, k2, k3, k4, k5, k6, k7, k8, k9⟩ := hk
    rw [if_pos k0] at h
    have e10 : gF S 10 = nI (A.1 5) := hT.1.2.2.2.2.2.1 k0
    rw [e9, e10, nI_sub k1, li_12, nI_eq (by omega) (by omega)]
    refine ⟨fun d => ?_, fun d => ?_⟩
    · rw [show tkS1 A = A from if_neg (by omega)] at h s1
      exact rT_85 hT s1 hq h
    · have e1 : tkS1 A = (sndc A.1, A.2.1 ++ [msgf 49 A.1 (fld 112 (A.1 4))], A.2.2) := if_pos (by omega)
      refine rT_send (p1 := 2) (bl := fld 112 (A.1 4)) hT k0 (by omega) hq (by omega) (Or.inr (Or.inr ⟨Or.inr (Or.inl rfl), Or.inr ⟨A.1 4, rfl, by omega, rfl⟩⟩)) (fun S' r' t1 t2 => ?_)
      have t1' : TA (tkS1 A) q S' r' := by rw [e1]; exact t1
      refine rT_85 t1' s1 hq (fun S2 r2 u1 u2 => ?_)
      rw [s2]
      exact h S2 r2 u1 (t2.trans u2)
theorem rT_tick (hT : TA A q S r) (h01 : A.1 0 ≤ 1) (hk : A.1 0 = 1 → tok (tkc1 A)) (h2 : A.1 2 < 1597) (h4 : A.1 4 < 900) (hq : q ≤ 5000) (h : ∀ S' r', TA (tkk (tkc1 A)) q S' r' → kT S S' → K (nI (A.1 4 + 1)) S' r') : w_T_tick S r K := by
  have e9 : gF S 9 = nI (A.1 4) := hT.1.2.2.2.2.1
  have e5 : gF S 5 = nI (A.1 0) := hT.1.1
  have t0 : TA (tkc1 A) q (sF (sF S 4 0) 9 (nI (A.1 4 + 1))) r := TT_k4 (TA_fr0 hT) (A.1 4 + 1)
  have kt : kT S (sF (sF S 4 0) 9 (nI (A.1 4 + 1))) := (kT_sF (by decide)).trans (kT_sF (by decide))
  have c0 : (tkc1 A).1 0 = A.1 0 := tkc_ne A (by decide)
  have c2 : (tkc1 A).1 2 = A.1 2 := tkc_ne A (by decide)
  have c4 : (tkc1 A).1 4 = A.1 4 + 1 := tkc_4 A
  have c5 : (tkc1 A).1 5 = A.1 5 := tkc_ne A (by decide)
  unfold w_T_tick
  rw [e5, e9, li_0, nI_eq (by omega) (by omega), nI_1]
  have go : ¬ (A.1 0 = 1 ∧ A.1 5 + 24 ≤ A.1 4 + 1) → w_T_tick_52 K (sF (sF S 4 0) 9 (nI (A.1 4 + 1))) r := by
    intro w
    refine rT_52 t0 (by omega) (fun z => hk (by omega)) (by omega) (by show 0 < 99; decide) hq (fun S' r' u1 u2 => ?_)
    rw [c4]
    refine h S' r' ?_ (kt.trans u2)
    unfold tkk
    rw [c4, c5]
    by_cases z : (tkc1 A).1 0 = 1
    · rw [if_pos z] at u1
      rw [if_pos z, if_neg (by omega)]
      exact u1
    · rw [if_neg z] at u1
      rw [if_neg z]
      exact u1
  refine ⟨fun c => go (by omega), fun c => ?_⟩
  have k0 : A.1 0 = 1 := by omega
  have hk := hk k0
  have k15 : A.1 5 ≤ A.1 4 + 1 := by have := hk.2.1; omega
  have e10 : gF S 10 = nI (A.1 5) := hT.1.2.2.2.2.2.1 k0
  rw [e10, nI_sub k15, li_24, nI_ltI (by omega) (by omega)]
  refine ⟨fun d => go (by omega), fun d => ?_⟩
  refine rT_leave (K := fun S r => w_T_tick_133 K S r) t0 (by show (tkc1 A).1 0 ≤ 1; omega) (by show (tkc1 A).1 2 < 1000000; omega) hq (by show 0 < 999999; decide) (fun S' r' u1 u2 => ?_)
  have u1' : TA (tkk (tkc1 A)) q S' r' := by
    unfold tkk
    rw [c4, c5, if_pos (by omega), if_pos (by omega)]
    exact u1
  refine rT_133 (z := 0) u1' ?_
  have e4 : (tkk (tkc1 A)).1 4 = A.1 4 + 1 := by
    unfold tkk
    rw [if_pos (by omega), if_pos (by omega)]
    show lvc (tkc1 A).1 4 = _
    unfold lvc
    rw [if_pos (by omega)]
    unfold outA
    rw [up_ne _ _ (by decide), up_ne _ _ (by decide), (sndc_v _).2.2.2.2.1, c4]
  rw [e4]
  exact h S' r' u1' (kt.trans u2)
end RS
