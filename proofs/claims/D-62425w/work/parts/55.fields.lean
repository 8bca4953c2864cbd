/-! ===== frames as rows of fields ===== -/
def fb (f : Nat × List Nat) : List Nat := digs f.1 ++ 61 :: (f.2 ++ [1])
def flat : List (Nat × List Nat) → List Nat
  | [] => []
  | f :: fl => fb f ++ flat fl
def gdf (f : Nat × List Nat) : Prop := 1 ≤ f.1 ∧ f.1 < 10000 ∧ f.2 ≠ [] ∧ ∀ x ∈ f.2, 33 ≤ x ∧ x ≤ 126
theorem split1 {x : Nat} : ∀ {a c b d : List Nat}, x ∉ a → x ∉ c → a ++ x :: b = c ++ x :: d → a = c ∧ b = d
  | [], [], b, d, _, _, h => by
    simp at h
    exact ⟨rfl, h⟩
  | [], y :: c, b, d, _, h2, h => by
    simp at h
    exact absurd (h.1 ▸ List.mem_cons_self ..) h2
  | y :: a, [], b, d, h1, _, h => by
    simp at h
    exact absurd (h.1 ▸ List.mem_cons_self ..) h1
  | y :: a, z :: c, b, d, h1, h2, h => by
    simp only [List.cons_append, List.cons.injEq] at h
    obtain ⟨h3, h4⟩ := split1 (fun w => h1 (List.mem_cons_of_mem _ w)) (fun w => h2 (List.mem_cons_of_mem _ w)) h.2
    exact ⟨by rw [h.1, h3], h4⟩
theorem dgo_dig (k v : Nat) : ∀ x ∈ dgo k v, 48 ≤ x ∧ x ≤ 57 := by
  induction k with
  | zero => intro x hx; cases hx
  | succ k ih =>
    intro x hx
    rcases List.mem_cons.mp hx with rfl | hx
    · omega
    · exact ih x hx
theorem digs_dig (v : Nat) : ∀ x ∈ digs v, 48 ≤ x ∧ x ≤ 57 := dgo_dig _ _
def num : List Nat → Nat → Nat
  | [], v => v
  | x :: xs, v => num xs (10 * v + (x - 48))
/-- one to four digits that do not begin with nought are the digits of their number -/
theorem digs_num {ds : List Nat} (h1 : ds.length ≤ 4) (h2 : ∀ x ∈ ds, 48 ≤ x ∧ x ≤ 57) (h3 : ds ≠ []) (h4 : ds.head? ≠ some 48) : digs (num ds 0) = ds ∧ 1 ≤ num ds 0 ∧ num ds 0 < 10000 := by
  match ds, h1, h2, h3, h4 with
  | [a], _, h2, _, h4 =>
    have ha := h2 a (by simp)
    have h5 : a ≠ 48 := fun e => h4 (by rw [e]; rfl)
    have hn : num [a] 0 = a - 48 := by simp [num]
    rw [hn]
    have hp : plc (a - 48) = 1 := by unfold plc; rw [if_pos (by omega)]
    unfold digs
    rw [hp]
    refine ⟨?_, by omega, by omega⟩
    show [48 + (a - 48) / 1 % 10] = [a]
    congr 1
    omega
  | [a, b], _, h2, _, h4 =>
    have ha := h2 a (by simp)
    have hb := h2 b (by simp)
    have h5 : a ≠ 48 := fun e => h4 (by rw [e]; rfl)
    have hn : num [a, b] 0 = 10 * (a - 48) + (b - 48) := by simp [num]
    rw [hn]
    have hp : plc (10 * (a - 48) + (b - 48)) = 2 := by unfold plc; rw [if_neg (by omega), if_pos (by omega)]
    unfold digs
    rw [hp]
    refine ⟨?_, by omega, by omega⟩
    show [48 + (10 * (a - 48) + (b - 48)) / 10 % 10, 48 + (10 * (a - 48) + (b - 48)) / 1 % 10] = [a, b]
    rw [show 48 + (10 * (a - 48) + (b - 48)) / 10 % 10 = a by omega, show 48 + (10 * (a - 48) + (b - 48)) / 1 % 10 = b by omega]
  | [a, b, c], _, h2, _, h4 =>
    have ha := h2 a (by simp)
    have hb := h2 b (by simp)
    have hc := h2 c (by simp)
    have h5 : a ≠ 48 := fun e => h4 (by rw [e]; rfl)
    have hn : num [a, b, c] 0 = 10 * (10 * (a - 48) + (b - 48)) + (c - 48) := by simp [num]
    rw [hn]
    generalize hz : 10 * (10 * (a - 48) + (b - 48)) + (c - 48) = z
    have hp : plc z = 3 := by unfold plc; rw [if_neg (by omega), if_neg (by omega), if_pos (by omega)]
    unfold digs
    rw [hp]
    refine ⟨?_, by omega, by omega⟩
    show [48 + z / 100 % 10, 48 + z / 10 % 10, 48 + z / 1 % 10] = [a, b, c]
    rw [show 48 + z / 100 % 10 = a by omega, show 48 + z / 10 % 10 = b by omega, show 48 + z / 1 % 10 = c by omega]
  | [a, b, c, d], _, h2, _, h4 =>
    have ha := h2 a (by simp)
    have hb := h2 b (by simp)
    have hc := h2 c (by simp)
    have hd := h2 d (by simp)
    have h5 : a ≠ 48 := fun e => h4 (by rw [e]; rfl)
    have hn : num [a, b, c, d] 0 = 10 * (10 * (10 * (a - 48) + (b - 48)) + (c - 48)) + (d - 48) := by simp [num]
    rw [hn]
    generalize hz : 10 * (10 * (10 * (a - 48) + (b - 48)) + (c - 48)) + (d - 48) = z
    have hp : plc z = 4 := by unfold plc; rw [if_neg (by omega), if_neg (by omega), if_neg (by omega), if_pos (by omega)]
    unfold digs
    rw [hp]
    refine ⟨?_, by omega, by omega⟩
    show [48 + z / 1000 % 10, 48 + z / 100 % 10, 48 + z / 10 % 10, 48 + z / 1 % 10] = [a, b, c, d]
    rw [show 48 + z / 1000 % 10 = a by omega, show 48 + z / 100 % 10 = b by omega, show 48 + z / 10 % 10 = c by omega, show 48 + z / 1 % 10 = d by omega]
  | _ :: _ :: _ :: _ :: _ :: _, h1, _, _, _ => exact absurd h1 (by simp)
theorem digs_head {v : Nat} (h1 : 1 ≤ v) (h2 : v < 10000) : (digs v).head? ≠ some 48 ∧ (digs v).length ≤ 4 ∧ num (digs v) 0 = v := by
  have hp : plc v = 1 ∧ v < 10 ∨ plc v = 2 ∧ 10 ≤ v ∧ v < 100 ∨ plc v = 3 ∧ 100 ≤ v ∧ v < 1000 ∨ plc v = 4 ∧ 1000 ≤ v := by
    unfold plc
    (repeat' split) <;> omega
  unfold digs
  rcases hp with ⟨e, h⟩ | ⟨e, h, h'⟩ | ⟨e, h, h'⟩ | ⟨e, h⟩
  · rw [e]
    refine ⟨?_, by rw [dgo_len]; decide, ?_⟩
    · show some (48 + v / 1 % 10) ≠ some 48
      intro w
      have := Option.some.inj w
      omega
    · show 10 * 0 + (48 + v / 1 % 10 - 48) = v
      omega
  · rw [e]
    refine ⟨?_, by rw [dgo_len]; decide, ?_⟩
    · show some (48 + v / 10 % 10) ≠ some 48
      intro w
      have := Option.some.inj w
      omega
    · show 10 * (10 * 0 + (48 + v / 10 % 10 - 48)) + (48 + v / 1 % 10 - 48) = v
      omega
  · rw [e]
    refine ⟨?_, by rw [dgo_len]; decide, ?_⟩
    · show some (48 + v / 100 % 10) ≠ some 48
      intro w
      have := Option.some.inj w
      omega
    · show 10 * (10 * (10 * 0 + (48 + v / 100 % 10 - 48)) + (48 + v / 10 % 10 - 48)) + (48 + v / 1 % 10 - 48) = v
      omega
  · rw [e]
    refine ⟨?_, by rw [dgo_len]; decide, ?_⟩
    · show some (48 + v / 1000 % 10) ≠ some 48
      intro w
      have := Option.some.inj w
      omega
    · show 10 * (10 * (10 * (10 * 0 + (48 + v / 1000 % 10 - 48)) + (48 + v / 100 % 10 - 48)) + (48 + v / 10 % 10 - 48)) + (48 + v / 1 % 10 - 48) = v
      omega
theorem fb_inj {f g : Nat × List Nat} {a b : List Nat} (hf : gdf f) (hg : gdf g) (h : fb f ++ a = fb g ++ b) : f = g ∧ a = b := by
  unfold fb at h
  simp only [List.append_assoc, List.cons_append] at h
  have n1 : ∀ v, 61 ∉ digs v := fun v w => by have := digs_dig v 61 w; omega
  obtain ⟨h1, h2⟩ := split1 (n1 f.1) (n1 g.1) h
  simp only [List.nil_append, List.cons_append] at h2
  have m1 : 1 ∉ f.2 := fun w => by have := hf.2.2.2 1 w; omega
  have m2 : 1 ∉ g.2 := fun w => by have := hg.2.2.2 1 w; omega
  obtain ⟨h3, h4⟩ := split1 m1 m2 h2
  refine ⟨?_, h4⟩
  have e1 : f.1 = g.1 := by
    rw [← (digs_head hf.1 hf.2.1).2.2, h1, (digs_head hg.1 hg.2.1).2.2]
  exact Prod.ext e1 h3
