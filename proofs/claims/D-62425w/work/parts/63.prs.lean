/-! ===== both readings agree ===== -/
theorem fb_eq (tag : Nat) (vs s' : List Nat) : fb (tag, vs) ++ s' = digs tag ++ [61] ++ (vs ++ 1 :: s') := by
  unfold fb
  simp
theorem pD_run : ∀ (vs : List Nat) (c v n : Nat) (s' : List Nat), (∀ x ∈ c :: vs, 48 ≤ x ∧ x ≤ 57) → n + (vs.length + 1) ≤ 6 → pD (vs ++ 1 :: s') c v n = some (num (c :: vs) v, s')
  | [], c, v, n, s', hd, hl => by
    have hc := hd c (by simp)
    show (if (48 ≤ c ∧ c ≤ 57) ∧ n < 6 then pD s' 1 (10 * v + (c - 48)) (n + 1) else _) = _
    rw [if_pos ⟨hc, by simp at hl; omega⟩]
    have e : pD s' 1 (10 * v + (c - 48)) (n + 1) = pEnd 1 (10 * v + (c - 48)) (n + 1) s' := by
      cases s' with
      | nil => exact if_neg (by omega)
      | cons y s => exact if_neg (by omega)
    rw [e]
    exact if_pos ⟨by omega, rfl⟩
  | y :: vs, c, v, n, s', hd, hl => by
    have hc := hd c (by simp)
    show (if (48 ≤ c ∧ c ≤ 57) ∧ n < 6 then pD (vs ++ 1 :: s') y (10 * v + (c - 48)) (n + 1) else _) = _
    simp only [List.length_cons] at hl
    rw [if_pos ⟨hc, by omega⟩]
    exact pD_run vs y _ (n + 1) s' (fun x hx => hd x (by simp only [List.mem_cons] at hx ⊢; exact Or.inr hx)) (by omega)
theorem pN_fb {tag : Nat} {vs s' : List Nat} (h1 : vs ≠ []) (h2 : vs.length ≤ 6) (h3 : ∀ x ∈ vs, 48 ≤ x ∧ x ≤ 57) : pN tag (fb (tag, vs) ++ s') = some (num vs 0, s') := by
  rw [fb_eq]
  unfold pN
  rw [pst_tag, drop_tag]
  cases vs with
  | nil => exact absurd rfl h1
  | cons c vs =>
    show pD (vs ++ 1 :: s') c 0 0 = _
    exact pD_run vs c 0 0 s' h3 (by simp only [List.length_cons] at h2; omega)
theorem pL_fb {tag x : Nat} {s' : List Nat} (hx : 32 < x ∧ x < 127) : pL tag (fb (tag, [x]) ++ s') = some (x, s') := by
  rw [fb_eq]
  unfold pL
  rw [pst_tag, drop_tag]
  show (if (32 < x ∧ x < 127) ∧ 1 = 1 then some (x, s') else none) = _
  rw [if_pos ⟨hx, rfl⟩]
theorem pD_inv : ∀ (s : List Nat) (c v n w : Nat) (s' : List Nat), pD s c v n = some (w, s') → (n > 0 ∧ c = 1 ∧ w = v ∧ s' = s) ∨ ∃ vs, c :: s = c :: (vs ++ 1 :: s') ∧ (∀ x ∈ c :: vs, 48 ≤ x ∧ x ≤ 57) ∧ n + (vs.length + 1) ≤ 6 ∧ w = num (c :: vs) v
  | [], c, v, n, w, s', h => by
    unfold pD at h
    split at h
    · cases h
    · unfold pEnd at h
      split at h
      · rename_i q; cases h; exact Or.inl ⟨q.1, q.2, rfl, rfl⟩
      · cases h
  | y :: s, c, v, n, w, s', h => by
    unfold pD at h
    split at h
    · rename_i q
      right
      rcases pD_inv s y _ _ w s' h with ⟨a1, a2, a3, a4⟩ | ⟨vs, a1, a2, a3, a4⟩
      · refine ⟨[], by rw [a2, a4]; rfl, ?_, by simp; omega, by rw [a3]; rfl⟩
        intro x hx
        rw [List.mem_singleton.mp hx]
        exact q.1
      · refine ⟨y :: vs, ?_, ?_, by simp only [List.length_cons]; omega, a4⟩
        · rw [a1]; rfl
        · intro x hx
          rcases List.mem_cons.mp hx with rfl | hx
          · exact q.1
          · exact a2 x hx
    · unfold pEnd at h
      split at h
      · rename_i q; cases h; exact Or.inl ⟨q.1, q.2, rfl, rfl⟩
      · cases h
theorem pN_inv {tag v : Nat} {s s' : List Nat} (h : pN tag s = some (v, s')) : ∃ vs, s = fb (tag, vs) ++ s' ∧ vs ≠ [] ∧ vs.length ≤ 6 ∧ (∀ x ∈ vs, 48 ≤ x ∧ x ≤ 57) ∧ v = num vs 0 := by
  unfold pN at h
  split at h
  · rename_i hp
    obtain ⟨s1, e⟩ := (pfx_iff _ _).mp hp
    subst e
    rw [drop_tag] at h
    cases s1 with
    | nil => cases h
    | cons c s1 =>
      rcases pD_inv s1 c 0 0 v s' h with ⟨a1, -⟩ | ⟨vs, a1, a2, a3, a4⟩
      · omega
      · refine ⟨c :: vs, ?_, by simp, by simp only [List.length_cons]; omega, a2, a4⟩
        rw [fb_eq, a1]
        rfl
  · cases h
theorem pL_inv {tag x : Nat} {s s' : List Nat} (h : pL tag s = some (x, s')) : s = fb (tag, [x]) ++ s' ∧ 32 < x ∧ x < 127 := by
  unfold pL at h
  split at h
  · rename_i hp
    obtain ⟨s1, e⟩ := (pfx_iff _ _).mp hp
    subst e
    rw [drop_tag] at h
    cases s1 with
    | nil => cases h
    | cons c s1 =>
      cases s1 with
      | nil => cases h
      | cons y s2 =>
        have h2 : (if (32 < c ∧ c < 127) ∧ y = 1 then some (c, s2) else none) = some (x, s') := h
        split at h2
        · rename_i q
          cases h2
          refine ⟨?_, q.1⟩
          rw [fb_eq, q.2]
          rfl
        · cases h2
  · cases h
theorem pst_fb {tag : Nat} {f : Nat × List Nat} {s' : List Nat} (hf : gdf f) (h1 : 1 ≤ tag) (h2 : tag < 10000) : pst tag (fb f ++ s') = decide (f.1 = tag) := by
  by_cases e : f.1 = tag
  · rw [decide_eq_true e]
    refine (pfx_iff _ _).mpr ⟨f.2 ++ 1 :: s', ?_⟩
    rw [← e]
    exact fb_eq f.1 f.2 s'
  · rw [decide_eq_false e]
    cases hp : pst tag (fb f ++ s')
    · rfl
    · exfalso
      obtain ⟨s1, q⟩ := (pfx_iff _ _).mp hp
      rw [show fb f ++ s' = digs f.1 ++ [61] ++ (f.2 ++ 1 :: s') from fb_eq f.1 f.2 s'] at q
      simp only [List.append_assoc, List.cons_append, List.nil_append] at q
      have n1 : ∀ v, 61 ∉ digs v := fun v w => by have := digs_dig v 61 w; omega
      obtain ⟨q1, -⟩ := split1 (n1 f.1) (n1 tag) q
      have := (digs_head hf.1 hf.2.1).2.2
      rw [q1, (digs_head h1 h2).2.2] at this
      exact e this.symm
