/-! ===== the model: a good frame ===== -/
def bdy (fl : List (Nat × List Nat)) (t f a b v : Nat) : Prop :=
  (t = 48 ∧ fl.length - 1 ≤ f ∧ a = 0 ∧ b = 0 ∧ v = 0) ∨ (¬ (t = 48 ∧ fl.length - 1 ≤ f) ∧ BG fl t 3 0 f ∧ (if nm t 0 = 0 then a = 0 else bv fl t 0 (f + 0) = some a) ∧ (if nm t 1 = 0 then b = 0 else bv fl t 1 (f + 1) = some (bM t b)) ∧ (if nm t 2 = 0 then v = 0 else bv fl t 2 (f + 2) = some v))
section G2
variable {K : Int32 → XS → List AE → Prop} {S : XS} {r : List AE} {fl : List (Nat × List Nat)} {t : Nat}
/-- what the loop finds, as numbers -/
theorem BG_vals {f : Nat} (ht : t ∈ mkinds) (hg : ∀ f ∈ fl, gdf f) (h : BG fl t 3 0 f) : ∃ a b v, (if nm t 0 = 0 then a = 0 else bv fl t 0 (f + 0) = some a) ∧ (if nm t 1 = 0 then b = 0 else bv fl t 1 (f + 1) = some (bM t b)) ∧ (if nm t 2 = 0 then v = 0 else bv fl t 2 (f + 2) = some v) ∧ a < 1000000 ∧ b < 1000000 ∧ v < 1000000 ∧ (t = 52 → b ≤ 1) := by
  unfold BG at h
  by_cases z0 : nm t 0 = 0
  · have z1 := nm_pc ht (by decide) z0
    have z2 := nm_pc ht (by decide) z1
    refine ⟨0, 0, 0, ?_, ?_, ?_, by decide, by decide, by decide, fun _ => by decide⟩
    · rw [if_pos z0]
    · rw [if_pos z1]
    · rw [if_pos z2]
  · rw [if_neg z0] at h
    obtain ⟨⟨a, ea, -⟩, h⟩ := h
    unfold BG at h
    by_cases z1 : nm t 1 = 0
    · have z2 := nm_pc ht (by decide) z1
      refine ⟨a, 0, 0, ?_, ?_, ?_, bv_lt hg ea, by decide, by decide, fun _ => by decide⟩
      · rw [if_neg z0]; exact ea
      · rw [if_pos z1]
      · rw [if_pos z2]
    · rw [if_neg z1] at h
      obtain ⟨⟨b, eb, hb⟩, h⟩ := h
      obtain ⟨b', hb1, hb2, hb3⟩ : ∃ b', bM t b' = b ∧ b' < 1000000 ∧ (t = 52 → b' ≤ 1) := by
        by_cases h52 : t = 52
        · rcases hb h52 (by decide) with rfl | rfl
          · exact ⟨1, by unfold bM; rw [if_pos h52]; rfl, by decide, fun _ => by decide⟩
          · exact ⟨0, by unfold bM; rw [if_pos h52]; rfl, by decide, fun _ => by decide⟩
        · exact ⟨b, by unfold bM; rw [if_neg h52], bv_lt hg eb, fun w => absurd w h52⟩
      unfold BG at h
      by_cases z2 : nm t 2 = 0
      · refine ⟨a, b', 0, ?_, ?_, ?_, bv_lt hg ea, hb2, by decide, hb3⟩
        · rw [if_neg z0]; exact ea
        · rw [if_neg z1, hb1]; exact eb
        · rw [if_pos z2]
      · rw [if_neg z2] at h
        obtain ⟨⟨v, ev, -⟩, h⟩ := h
        refine ⟨a, b', v, ?_, ?_, ?_, bv_lt hg ea, hb2, bv_lt hg ev, hb3⟩
        · rw [if_neg z0]; exact ea
        · rw [if_neg z1, hb1]; exact eb
        · rw [if_neg z2]; exact ev
theorem rM_130 {f : Nat} (ht : t ∈ mkinds) (hg : ∀ f ∈ fl, gdf f) (h5 : 5 ≤ fl.length) (hB : MB (flat fl) S) (hM : Mfl fl S) (g8 : gF S 808 = nI t) (hf : f ≤ 5) (h0 : (¬ ∃ a b v, bdy fl t f a b v) → ∀ S', kG S S' → K 0 S' r) (h1 : ∀ a b v, bdy fl t f a b v → a < 1000000 ∧ b < 1000000 ∧ v < 1000000 ∧ (t = 52 → b ≤ 1) → ∀ S', kG S S' → gF S' 808 = nI t → gF S' 809 = gF S 809 → gF S' 813 = gF S 813 → gF S' 810 = nI a → gF S' 811 = nI (bM t b) → gF S' 812 = nI v → K 1 S' r) : w_M_good_130 K S r (nI f) := by
  have h30 := fl30 hB hg
  have htl : t < 1000 := by
    simp only [mkinds, List.mem_cons, List.not_mem_nil, or_false] at ht
    omega
  have kk : ∀ x : Int32, kG S (sF (sF (sF (sF S 810 0) 811 0) 812 0) 814 x) := fun x => (((ke_sF (by decide)).trans (ke_sF (by decide))).trans (ke_sF (by decide))).trans (ke_sF (by decide))
  have c182 : ∀ x : Int32, ¬ (t = 48 ∧ fl.length - 1 ≤ f) → w_M_good_182 K (sF (sF (sF (sF S 810 0) 811 0) 812 0) 814 x) r (nI f) := by
    intro x hno
    refine ⟨4, rM_186 (f0 := f) ht hg h5 3 0 f true _ rfl (hB.g (kk x)) (hM.g (kk x)) g8 (fun _ => rfl) (by omega) (fun hn S' k => h0 (fun ⟨a, b, v, q⟩ => ?_) S' (ke.trans (kk x) k)) (fun _ q S' k1 k2 k3 => ?_)⟩
    · rcases q with ⟨q1, q2, -⟩ | ⟨-, q, -⟩
      · exact hno ⟨q1, q2⟩
      · exact hn ⟨rfl, q⟩
    · obtain ⟨a, b, v, e1, e2, e3, e4⟩ := BG_vals ht hg q
      have r0 := k3 0 (by decide)
      have r1 := k3 1 (by decide)
      have r2 := k3 2 (by decide)
      refine h1 a b v (Or.inr ⟨hno, q, e1, e2, e3⟩) e4 S' (ke.trans (kk x) k1) ((k2 808 (by decide) (by decide) (by decide)).trans g8) (k2 809 (by decide) (by decide) (by decide)) (k2 813 (by decide) (by decide) (by decide)) (r0.trans ?_) (r1.trans ?_) (r2.trans ?_)
      · by_cases z : nm t 0 = 0
        · rw [if_pos z] at e1
          rw [if_pos (Or.inr z), e1]; rfl
        · rw [if_neg z] at e1
          rw [if_neg (by omega), e1]; rfl
      · by_cases z : nm t 1 = 0
        · rw [if_pos z] at e2
          have h52 : t ≠ 52 := by
            rintro rfl
            exact absurd z (by decide)
          rw [if_pos (Or.inr z), e2, show bM t 0 = 0 by unfold bM; rw [if_neg h52]]; rfl
        · rw [if_neg z] at e2
          rw [if_neg (by omega), e2]; rfl
      · by_cases z : nm t 2 = 0
        · rw [if_pos z] at e3
          rw [if_pos (Or.inr z), e3]; rfl
        · rw [if_neg z] at e3
          rw [if_neg (by omega), e3]; rfl
  unfold w_M_good_130
  rw [hM.1, li_1, nI_sub (by omega)]
  refine ⟨fun w => ⟨fun z => c182 0 (fun q => z ?_), fun z => ⟨fun y => absurd rfl y, fun _ => ?_⟩⟩, fun w => ⟨fun z => c182 1 (fun q => z ?_), fun z => ⟨fun _ => c182 1 (fun q => ?_), fun y => absurd y (show ¬ (nI 1 : Int32) = 0 by decide)⟩⟩⟩
  · show gF S 808 = 48
    rw [g8, q.1]; rfl
  · rw [nI_leI (by omega) (by omega)] at w
    have z' : gF S 808 = 48 := z
    rw [g8, li_48, nI_eq (by omega) (by omega)] at z'
    exact h1 0 0 0 (Or.inl ⟨z', w, rfl, rfl, rfl⟩) ⟨by decide, by decide, by decide, fun _ => by decide⟩ _ (kk 0) g8 rfl rfl rfl (by rw [z']; rfl) rfl
  · show gF S 808 = 48
    rw [g8, q.1]; rfl
  · rw [nI_leI (by omega) (by omega)] at w
    exact w q.2
end G2
