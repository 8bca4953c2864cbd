/-! ===== the model: whether a frame is good ===== -/
def bv (fl : List (Nat × List Nat)) (t k f : Nat) : Option Nat := if t = 52 ∧ k = 1 then lA fl f (nm t k) else nA fl f (nm t k)
def bok (t k : Nat) (x : Option Nat) : Prop := ∃ v, x = some v ∧ (t = 52 → k ≠ 0 → v = 89 ∨ v = 78)
theorem lA_lt {fl : List (Nat × List Nat)} {i name v : Nat} (hg : ∀ f ∈ fl, gdf f) (h : lA fl i name = some v) : 33 ≤ v ∧ v ≤ 126 := by
  unfold lA at h
  split at h
  · rename_i hc
    cases h
    have hm : fl.getD i fz ∈ fl := by
      rw [List.getD_eq_getElem?_getD, List.getElem?_eq_getElem hc.1]
      exact List.getElem_mem _
    have hp := hg _ hm
    have h1 := hc.2.2
    generalize fl.getD i fz = p at *
    refine hp.2.2.2 _ ?_
    rw [List.getD_eq_getElem?_getD, List.getElem?_eq_getElem (by omega)]
    exact List.getElem_mem _
  · cases h
theorem rM_isType {K : Int32 → Prop} {t : Nat} (ht : t < 1000) (h : K (if t ∈ mkinds then 1 else 0)) : w_M_isType (nI t) K := by
  by_cases hm : t ∈ mkinds
  · rw [if_pos hm] at h
    revert h
    refine mcase (P := fun t => K 1 → w_M_isType (nI t) K) hm ?_ ?_ ?_ ?_ ?_ ?_ ?_ ?_ ?_ <;> intro h <;> (repeat' (first | exact h | exact absurd (by decide) c | exact absurd c (by decide) | (refine ⟨fun c => ?_, fun c => ?_⟩)))
  · rw [if_neg hm] at h
    simp only [mkinds, List.mem_cons, List.not_mem_nil, or_false] at hm
    have n : ∀ k : Nat, k < 1000 → t ≠ k → ¬ nI t = nI k := fun k hk hne e => by
      rw [nI_eq (by omega) (by omega)] at e
      exact hne e
    exact ⟨fun e => absurd e (n 48 (by decide) (by omega)), fun _ => ⟨fun e => absurd e (n 49 (by decide) (by omega)), fun _ => ⟨fun e => absurd e (n 50 (by decide) (by omega)), fun _ => ⟨fun e => absurd e (n 52 (by decide) (by omega)), fun _ => ⟨fun e => absurd e (n 53 (by decide) (by omega)), fun _ => ⟨fun e => absurd e (n 65 (by decide) (by omega)), fun _ => ⟨fun e => absurd e (n 68 (by decide) (by omega)), fun _ => ⟨fun e => absurd e (n 70 (by decide) (by omega)), fun _ => ⟨fun _ => h, fun e => absurd e (n 71 (by decide) (by omega))⟩⟩⟩⟩⟩⟩⟩⟩⟩
def kG (S S' : XS) : Prop := ke [808, 809, 810, 811, 812, 813, 814] [] S S'
/-- the fields of a type, from the k-th on, stand at the places from f on, and the closing field behind them -/
def BG (fl : List (Nat × List Nat)) (t : Nat) : Nat → Nat → Nat → Prop
  | 0, _, f => f = fl.length - 1
  | m + 1, k, f => if nm t k = 0 then BG fl t m (k + 1) f else bok t k (bv fl t k f) ∧ BG fl t m (k + 1) (f + 1)
section GD
variable {K : Int32 → XS → List AE → Prop} {k186 : XS → List AE → Int32 → Int32 → Int32 → Prop} {S : XS} {r : List AE} {fl : List (Nat × List Nat)} {t : Nat}
/-- the value goes into a, b or c -/
theorem rM_281 {f k : Nat} {v2 x : Int32} (hk : k < 3) (h : ∀ S', kG S S' → (∀ j, j ≠ 810 + k → gF S' j = gF S j) → gF S' (810 + k) = x → k186 S' r (nI f + 1) v2 (nI k + 1)) : w_M_good_281 k186 K S r (nI f) v2 (nI k) x := by
  have same : ∀ (T : XS) (q : Nat), ∀ j, gF (sF T q (gF T q)) j = gF T j := by
    intro T q j
    rw [gF_sF]
    split
    · rename_i e; rw [e]
    · rfl
  have hk0 : k = 0 ∨ k = 1 ∨ k = 2 := by omega
  rcases hk0 with rfl | rfl | rfl
  · refine ⟨fun c => absurd rfl c, fun _ => ⟨fun _ => ⟨fun _ => h _ (((ke_sF (by decide)).trans (ke_sF (by decide))).trans (ke_sF (by decide))) (fun j hj => ?_) ?_, fun c => absurd c (by decide)⟩, fun c => absurd c (by decide)⟩⟩
    · rw [same, same, gF_sF, if_neg hj]
    · rw [same, same, gF_sF, if_pos rfl]
  · refine ⟨fun _ => ⟨fun c => absurd rfl c, fun _ => ⟨fun _ => h _ (((ke_sF (by decide)).trans (ke_sF (by decide))).trans (ke_sF (by decide))) (fun j hj => ?_) ?_, fun c => absurd c (by decide)⟩⟩, fun c => absurd c (by decide)⟩
    · rw [same, gF_sF, if_neg hj, same]
    · rw [same, gF_sF, if_pos rfl]
  · refine ⟨fun _ => ⟨fun _ => ⟨fun c => absurd rfl c, fun _ => h _ (((ke_sF (by decide)).trans (ke_sF (by decide))).trans (ke_sF (by decide))) (fun j hj => ?_) ?_⟩, fun c => absurd c (by decide)⟩, fun c => absurd c (by decide)⟩
    · rw [gF_sF, if_neg hj, same, same]
    · rw [gF_sF, if_pos rfl]
theorem rM_239 {v1 : Int32} {k : Nat} {rt : Bool} {o : Option Nat} (g8 : gF S 808 = nI t) (ht : t < 1000) (hk : k < 3) (ho : ∀ v, o = some v → v < 1000000) (h0 : ¬ (rt = true ∧ bok t k o) → w_M_good_281 k186 K S r v1 0 (nI k) (oI o)) (h1 : rt = true → bok t k o → w_M_good_281 k186 K S r v1 1 (nI k) (oI o)) : w_M_good_239 k186 K S r v1 (if rt then 1 else 0) (nI k) (oI o) := by
  cases rt
  · exact ⟨fun _ => h0 (fun q => by cases q.1), fun c => absurd rfl c⟩
  · refine ⟨fun c => absurd c (by decide), fun _ => ⟨fun c => h0 (fun q => ?_), fun c => ?_⟩⟩
    · obtain ⟨-, v, e, -⟩ := q
      rw [e] at c
      exact nI_pos (by have := ho v e; omega) c
    · cases o with
      | none => exact absurd (by decide) c
      | some v =>
        have hv := ho v rfl
        rw [g8]
        refine ⟨fun e => h1 rfl ⟨v, rfl, fun q => absurd (by rw [q]; rfl) e⟩, fun e => ⟨fun f => h1 rfl ⟨v, rfl, fun _ q => ?_⟩, fun f => ⟨fun i => h1 rfl ⟨v, rfl, fun _ _ => Or.inl ?_⟩, fun i => ⟨fun j => h0 (fun q => ?_), fun j => h1 rfl ⟨v, rfl, fun _ _ => Or.inr ?_⟩⟩⟩⟩⟩
        · rw [li_0, nI_eq (by omega) (by omega)] at f
          exact absurd f q
        · have i' : nI v = nI 89 := i
          rw [nI_eq (by omega) (by omega)] at i'
          exact i'
        · rw [li_52, nI_eq (by omega) (by omega)] at e
          rw [li_0, nI_eq (by omega) (by omega)] at f
          have i' : ¬ nI v = nI 89 := i
          have j' : ¬ nI v = nI 78 := j
          rw [nI_eq (by omega) (by omega)] at i' j'
          obtain ⟨-, w, e2, e3⟩ := q
          cases e2
          have := e3 e f
          omega
        · have j' : nI v = nI 78 := j
          rw [nI_eq (by omega) (by omega)] at j'
          exact j'
theorem nm_pc {t k : Nat} (ht : t ∈ mkinds) (hk : k < 3) (h : nm t k = 0) : nm t (k + 1) = 0 := by
  have key : ∀ t ∈ mkinds, ∀ k < 3, nm t k = 0 → nm t (k + 1) = 0 := by decide
  exact key t ht k hk h
theorem MB.g {bs : List Nat} {S S' : XS} (h : MB bs S) (k : kG S S') : MB bs S' := by
  obtain ⟨h1, h2, h3, h4⟩ := h
  exact ⟨(k.1 802 (by decide)).trans h1, h2, h3, by rw [k.2.1 9 (by decide)]; exact h4⟩
theorem Mfl.g {S S' : XS} (h : Mfl fl S) (k : kG S S') : Mfl fl S' := by
  unfold Mfl
  rw [k.1 804 (by decide), k.2.1 10 (by decide), k.2.1 11 (by decide), k.2.1 12 (by decide)]
  exact h
theorem bv_lt {k f v : Nat} (hg : ∀ f ∈ fl, gdf f) (h : bv fl t k f = some v) : v < 1000000 := by
  unfold bv at h
  split at h
  · have := lA_lt hg h; omega
  · exact nA_lt h
theorem rM_186 {f0 : Nat} (ht : t ∈ mkinds) (hg : ∀ f ∈ fl, gdf f) (h5 : 5 ≤ fl.length) : ∀ (m k f : Nat) (rt : Bool) (S : XS), k + m = 3 → MB (flat fl) S → Mfl fl S → gF S 808 = nI t → (nm t k ≠ 0 → f = f0 + k) → f + m < 20 → ((¬ (rt = true ∧ BG fl t m k f)) → ∀ S', kG S S' → K 0 S' r) → (rt = true → BG fl t m k f → ∀ S', kG S S' → (∀ j, j ≠ 810 → j ≠ 811 → j ≠ 812 → gF S' j = gF S j) → (∀ j, j < 3 → gF S' (810 + j) = if j < k ∨ nm t j = 0 then gF S (810 + j) else oI (bv fl t j (f0 + j))) → K 1 S' r) → w_M_good_186 K (m + 1) S r (nI f) (if rt then 1 else 0) (nI k)
  | 0, k, f, rt, S, hk, hB, hM, g8, hf, hf2, h0, h1 => by
    have h30 := fl30 hB hg
    obtain rfl : k = 3 := by omega
    refine ⟨fun _ => ⟨fun w => h0 (fun q => ?_) S (ke.refl _ _ _), fun w => ?_⟩, fun w => absurd (by decide) w⟩
    · rw [q.1] at w
      exact absurd w (by decide)
    · have hrt : rt = true := by
        cases rt
        · exact absurd rfl w
        · rfl
      rw [hM.1, li_1, nI_sub (by omega)]
      refine ⟨fun z => h0 (fun q => ?_) S (ke.refl _ _ _), fun z => h1 hrt ?_ S (ke.refl _ _ _) (fun _ _ _ _ => rfl) (fun j hj => ?_)⟩
      · have q2 : f = fl.length - 1 := q.2
        rw [q2] at z
        exact z rfl
      · rw [nI_eq (by omega) (by omega)] at z
        exact z
      · rw [if_pos (Or.inl hj)]
  | m + 1, k, f, rt, S, hk, hB, hM, g8, hf, hf2, h0, h1 => by
    have htl : t < 1000 := by
      simp only [mkinds, List.mem_cons, List.not_mem_nil, or_false] at ht
      omega
    have htk : t ∈ kinds := by
      simp only [mkinds, kinds, List.mem_cons, List.not_mem_nil, or_false] at ht ⊢
      omega
    have hl := nm_lt t k
    refine ⟨fun w => ?_, fun _ => ?_⟩
    · rw [li_3, nI_leI (by omega) (by omega)] at w
      omega
    · rw [g8]
      refine rM_name htk (by omega) ⟨fun w => ?_, fun w => ?_⟩
      · rw [li_0, nI_leI (by omega) (by omega)] at w
        have hz : nm t k = 0 := by omega
        have e : BG fl t (m + 1) k f = BG fl t m (k + 1) f := if_pos hz
        rw [e] at h0 h1
        show w_M_good_186 K (m + 1) S r (nI f) (if rt then 1 else 0) (nI k + 1)
        rw [nI_1]
        refine rM_186 (f0 := f0) ht hg h5 m (k + 1) f rt S (by omega) hB hM g8 (fun q => absurd (nm_pc ht (by omega) hz) q) (by omega) h0 (fun q1 q2 S' q3 q4 q5 => h1 q1 q2 S' q3 q4 (fun j hj => ?_))
        rw [q5 j hj]
        by_cases hj2 : j < k ∨ nm t j = 0
        · rw [if_pos hj2, if_pos (by omega)]
        · have : j ≠ k := by
            rintro rfl
            exact hj2 (Or.inr hz)
          rw [if_neg hj2, if_neg (by omega)]
      · rw [li_0, nI_leI (by omega) (by omega)] at w
        have hz : ¬ nm t k = 0 := by omega
        have e : BG fl t (m + 1) k f = (bok t k (bv fl t k f) ∧ BG fl t m (k + 1) (f + 1)) := if_neg hz
        rw [e] at h0 h1
        have hff := hf hz
        have c239 : w_M_good_239 (fun S r v1 v2 v3 => w_M_good_186 K (m + 1) S r v1 v2 v3) K S r (nI f) (if rt then 1 else 0) (nI k) (oI (bv fl t k f)) := by
          have go : ∀ rt' : Bool, (rt' = true ↔ (rt = true ∧ bok t k (bv fl t k f))) → w_M_good_281 (fun S r v1 v2 v3 => w_M_good_186 K (m + 1) S r v1 v2 v3) K S r (nI f) (if rt' then 1 else 0) (nI k) (oI (bv fl t k f)) := by
            intro rt' hrt'
            refine rM_281 (by omega) (fun S' k1 k2 k3 => ?_)
            rw [nI_1, nI_1]
            refine rM_186 (f0 := f0) ht hg h5 m (k + 1) (f + 1) rt' S' (by omega) (hB.g k1) (hM.g k1) ((k2 808 (by omega)).trans g8) (fun _ => by omega) (by omega) (fun hn S2 z1 => h0 (fun q => hn ⟨hrt'.mpr ⟨q.1, q.2.1⟩, q.2.2⟩) S2 (ke.trans k1 z1)) (fun q1 q2 S2 z1 z2 z3 => h1 (hrt'.mp q1).1 ⟨(hrt'.mp q1).2, q2⟩ S2 (ke.trans k1 z1) (fun j a b c => (z2 j a b c).trans (k2 j (by omega))) (fun j hj => ?_))
            rw [z3 j hj]
            by_cases hjk : j = k
            · subst hjk
              rw [if_pos (Or.inl (by omega)), if_neg (by omega), k3, hff]
            · by_cases hj2 : j < k ∨ nm t j = 0
              · rw [if_pos hj2, if_pos (by omega)]
                exact k2 _ (by omega)
              · rw [if_neg hj2, if_neg (by omega)]
          refine rM_239 g8 htl (by omega) (fun v hv => bv_lt hg hv) (fun q => ?_) (fun q1 q2 => ?_)
          · exact go false ⟨(fun w => by cases w), (fun w => absurd w q)⟩
          · exact go true ⟨fun _ => ⟨q1, q2⟩, fun _ => rfl⟩
        have cnum : ¬ (t = 52 ∧ k = 1) → w_M_good_230 (fun S r v1 v2 v3 => w_M_good_186 K (m + 1) S r v1 v2 v3) K S r (nI f) (if rt then 1 else 0) (nI k) (nI (nm t k)) := by
          intro hno
          refine rM_numberAt hB hM hg (by omega) (by omega) ?_
          have eb : bv fl t k f = nA fl f (nm t k) := if_neg hno
          rw [← eb]
          exact c239
        refine ⟨fun z => cnum (fun q => z (by rw [q.1]; rfl)), fun z => ⟨fun y => cnum (fun q => y (by rw [q.2]; rfl)), fun y => ?_⟩⟩
        rw [li_52, nI_eq (by omega) (by omega)] at z
        rw [li_1, nI_eq (by omega) (by omega)] at y
        refine rM_letterAt hB hM hg (by omega) (by omega) ?_
        have eb : bv fl t k f = lA fl f (nm t k) := if_pos ⟨z, y⟩
        rw [← eb]
        exact c239
end GD
