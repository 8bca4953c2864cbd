/-! ===== both readings agree, 2 ===== -/
theorem pK_3 {s : List Nat} {sum : Nat} (h : pK 3 0 s = some sum) : ∃ x y z, s = [x, y, z, 1] ∧ (∀ w ∈ [x, y, z], 48 ≤ w ∧ w ≤ 57) ∧ sum = num [x, y, z] 0 := by
  match s, h with
  | [], h => cases h
  | [x], h => 
    unfold pK at h
    split at h
    · cases h
    · cases h
  | [x, y], h =>
    unfold pK at h
    split at h
    · unfold pK at h
      split at h <;> cases h
    · cases h
  | x :: y :: z :: s, h =>
    unfold pK at h
    split at h
    · rename_i hx
      unfold pK at h
      split at h
      · rename_i hy
        unfold pK at h
        split at h
        · rename_i hz
          unfold pK at h
          split at h
          · rename_i e
            cases h
            refine ⟨x, y, z, by rw [e], ?_, rfl⟩
            intro w hw
            simp only [List.mem_cons, List.not_mem_nil, or_false] at hw
            rcases hw with rfl | rfl | rfl
            · exact hx
            · exact hy
            · exact hz
          · cases h
        · cases h
      · cases h
    · cases h
theorem pK_of {x y z : Nat} (h : ∀ w ∈ [x, y, z], 48 ≤ w ∧ w ≤ 57) : pK 3 0 [x, y, z, 1] = some (num [x, y, z] 0) := by
  unfold pK
  rw [if_pos (h x (by simp))]
  unfold pK
  rw [if_pos (h y (by simp))]
  unfold pK
  rw [if_pos (h z (by simp))]
  unfold pK
  rw [if_pos rfl]
  rfl
theorem tail_of {s : List Nat} (h : pst 10 s = true) : s = 49 :: 48 :: 61 :: s.drop 3 := by
  obtain ⟨s1, q⟩ := (pfx_iff _ _).mp h
  rw [show digs 10 ++ [61] = [49, 48, 61] by decide] at q
  rw [q]
  rfl
/-- the closing field -/
theorem close_iff {l : List (Nat × List Nat)} (hg : ∀ f ∈ l, gdf f) {sum : Nat} : (pst 10 (flat l) = true ∧ pK 3 0 ((flat l).drop 3) = some sum) ↔ ∃ xs, l = [(10, xs)] ∧ xs.length = 3 ∧ xs.all isd = true ∧ sum = num xs 0 := by
  constructor
  · rintro ⟨h1, h2⟩
    obtain ⟨x, y, z, q1, q2, q3⟩ := pK_3 h2
    have e := tail_of h1
    rw [q1] at e
    have e2 : flat l = flat [(10, [x, y, z])] := by
      rw [e]
      unfold flat fb flat
      rw [show digs (10, [x, y, z]).1 = [49, 48] from (by decide : digs 10 = [49, 48])]
      rfl
    refine ⟨[x, y, z], flat_inj _ _ hg (fun f hf => ?_) e2, rfl, all_isd.mpr q2, q3⟩
    rw [List.mem_singleton.mp hf]
    exact ⟨(by decide : 1 ≤ 10), (by decide : 10 < 10000), by simp, fun w hw => by have := q2 w hw; omega⟩
  · rintro ⟨xs, rfl, h1, h2, rfl⟩
    match xs, h1 with
    | [x, y, z], _ => exact ⟨by rw [pst_fl (by decide) (by decide) _ hg]; rfl, pK_of (all_isd.mp h2)⟩
def clz (bs : List Nat) (s6len : Nat) (l : List (Nat × List Nat)) : Prop := ∃ xs, l = [(10, xs)] ∧ xs.length = 3 ∧ xs.all isd = true ∧ num xs 0 = ssum (fun i => bs.getD i 0) (bs.length - s6len) % 256
theorem prs3_iff {bs : List Nat} {l : List (Nat × List Nat)} (hg : ∀ f ∈ l, gdf f) {m m' : Nat × Nat × Nat × Nat × Nat × Nat} : prs3 bs (flat l) m = some m' ↔ m = m' ∧ clz bs (flat l).length l := by
  unfold prs3 clz
  constructor
  · intro h
    split at h
    · rename_i h1
      split at h
      · cases h
      · rename_i sum h2
        split at h
        · rename_i h3
          cases h
          obtain ⟨xs, q1, q2, q3, q4⟩ := (close_iff hg).mp ⟨h1, h2⟩
          exact ⟨rfl, xs, q1, q2, q3, by rw [← q4]; exact h3⟩
        · cases h
    · cases h
  · rintro ⟨rfl, xs, q1, q2, q3, q4⟩
    obtain ⟨h1, h2⟩ := (close_iff hg).mpr ⟨xs, q1, q2, q3, rfl⟩
    rw [if_pos h1, h2]
    exact if_pos q4
theorem qB3_suf {t a b : Nat} {l : List (Nat × List Nat)} {p : Nat × Nat × Nat × List (Nat × List Nat)} (h : qB3 t a b l = some p) : ∃ k, p.2.2.2 = l.drop k := by
  unfold qB3 at h
  split at h
  · cases h; exact ⟨0, rfl⟩
  · split at h
    · cases h
    · cases h; exact ⟨1, by simp⟩
theorem qB2_suf {t a : Nat} {l : List (Nat × List Nat)} {p : Nat × Nat × Nat × List (Nat × List Nat)} (h : qB2 t a l = some p) : ∃ k, p.2.2.2 = l.drop k := by
  unfold qB2 at h
  split at h
  · split at h
    · cases h
    · split at h
      · obtain ⟨k, e⟩ := qB3_suf h
        exact ⟨k + 1, by rw [e]; simp⟩
      · cases h
  · split at h
    · exact qB3_suf h
    · split at h
      · cases h
      · obtain ⟨k, e⟩ := qB3_suf h
        exact ⟨k + 1, by rw [e]; simp⟩
theorem qB_suf {t : Nat} {l : List (Nat × List Nat)} {p : Nat × Nat × Nat × List (Nat × List Nat)} (h : qB t l = some p) : ∃ k, p.2.2.2 = l.drop k := by
  unfold qB at h
  split at h
  · cases h; exact ⟨0, rfl⟩
  · split at h
    · cases h
    · obtain ⟨k, e⟩ := qB2_suf h
      exact ⟨k + 1, by rw [e]; simp⟩
def bdq (bs : List Nat) (len s2len : Nat) (t : Nat) (l : List (Nat × List Nat)) (a b v : Nat) : Prop := ∃ l', qB t l = some (a, b, v, l') ∧ s2len - (flat l').length = len ∧ clz bs (flat l').length l'
theorem prs2_iff {bs s2 : List Nat} {len t n d n' d' a b v t' : Nat} (ht : t ∈ mkinds) {l : List (Nat × List Nat)} (hg : ∀ f ∈ l, gdf f) : prs2 bs len s2 t n d (flat l) = some (t', n', d', a, b, v) ↔ t = t' ∧ n = n' ∧ d = d' ∧ bdq bs len s2.length t l a b v := by
  unfold prs2 bdq
  rw [pB_fl ht hg]
  cases hq : qB t l with
  | none =>
    constructor
    · intro h; cases h
    · rintro ⟨_, _, _, l', w, _⟩; cases w
  | some p =>
    obtain ⟨a0, b0, v0, l0⟩ := p
    obtain ⟨k, ek⟩ := qB_suf hq
    have hg0 : ∀ f ∈ l0, gdf f := by
      have ek' : l0 = l.drop k := ek
      rw [ek']
      exact good_drop hg k
    show (if s2.length - (flat l0).length = len then prs3 bs (flat l0) (t, n, d, a0, b0, v0) else none) = _ ↔ _
    constructor
    · intro h
      split at h
      · rename_i e
        obtain ⟨q1, q2⟩ := (prs3_iff hg0).mp h
        cases q1
        exact ⟨rfl, rfl, rfl, l0, rfl, e, q2⟩
      · cases h
    · rintro ⟨rfl, rfl, rfl, l', w, e, q⟩
      cases w
      rw [if_pos e]
      exact (prs3_iff hg0).mpr ⟨rfl, q⟩
theorem tail2 (l : List (Nat × List Nat)) : l.tail.tail = l.drop (1 + 1) := by rw [← List.drop_one, ← List.drop_one, List.drop_drop]
def dpq (l : List (Nat × List Nat)) (d : Nat) : Prop := d = 1 ∧ hT l = 43 ∧ hLf 43 l = some 89 ∨ d = 0 ∧ hT l ≠ 43
theorem prs1_iff {bs s2 : List Nat} {len t t' n d a b v : Nat} (ht : t ∈ mkinds) {l : List (Nat × List Nat)} (hg : ∀ f ∈ l, gdf f) : prs1 bs len s2 t (flat l) = some (t', n, d, a, b, v) ↔ t = t' ∧ hN 34 l = some n ∧ dpq (l.drop 1) d ∧ bdq bs len s2.length t (l.drop (1 + d)) a b v := by
  unfold prs1 dpq
  rw [pN_fl (by decide) (by decide) l hg]
  have hg1 := good_tail hg
  rw [show l.drop 1 = l.tail by simp]
  cases hn : hN 34 l with
  | none =>
    constructor
    · intro h; cases h
    · rintro ⟨_, w, _⟩; cases w
  | some n0 =>
    show (if pst 43 (flat l.tail) then (match pL 43 (flat l.tail) with
        | none => none
        | some (y, s5) => if y = 89 then prs2 bs len s2 t n0 1 s5 else none) else prs2 bs len s2 t n0 0 (flat l.tail)) = _ ↔ _
    rw [pst_fl (by decide) (by decide) _ hg1, pL_fl (by decide) (by decide) _ hg1]
    by_cases c : hT l.tail = 43
    · rw [if_pos (decide_eq_true c)]
      cases hy : hLf 43 l.tail with
      | none =>
        constructor
        · intro h; cases h
        · rintro ⟨_, _, ⟨_, _, w⟩ | ⟨_, w⟩, _⟩
          · cases w
          · exact absurd c w
      | some y =>
        show (if y = 89 then prs2 bs len s2 t n0 1 (flat l.tail.tail) else none) = _ ↔ _
        by_cases cy : y = 89
        · rw [if_pos cy, prs2_iff ht (good_tail hg1)]
          have e2 : l.tail.tail = l.drop (1 + 1) := tail2 l
          constructor
          · rintro ⟨rfl, rfl, rfl, q⟩
            rw [e2] at q
            exact ⟨rfl, rfl, Or.inl ⟨rfl, c, by rw [cy]⟩, q⟩
          · rintro ⟨rfl, e, ⟨rfl, _, _⟩ | ⟨_, w⟩, q⟩
            · cases e
              rw [← e2] at q
              exact ⟨rfl, rfl, rfl, q⟩
            · exact absurd c w
        · rw [if_neg cy]
          constructor
          · intro h; cases h
          · rintro ⟨_, _, ⟨_, _, w⟩ | ⟨_, w⟩, _⟩
            · cases w; exact absurd rfl cy
            · exact absurd c w
    · rw [if_neg (by simp [c]), prs2_iff ht hg1]
      have e2 : l.tail = l.drop (1 + 0) := by simp
      constructor
      · rintro ⟨rfl, rfl, rfl, q⟩
        rw [e2] at q
        exact ⟨rfl, rfl, Or.inr ⟨rfl, c⟩, q⟩
      · rintro ⟨rfl, e, ⟨_, w, _⟩ | ⟨rfl, w⟩, q⟩
        · exact absurd w c
        · cases e
          rw [← e2] at q
          exact ⟨rfl, rfl, rfl, q⟩
theorem prs_iff {t n d a b v : Nat} {fl : List (Nat × List Nat)} (hg : ∀ f ∈ fl, gdf f) : prs (flat fl) = some (t, n, d, a, b, v) ↔ hLf 8 fl = some 70 ∧ hLf 35 (fl.drop 2) = some t ∧ t ∈ mkinds ∧ hN 34 (fl.drop 3) = some n ∧ dpq (fl.drop 4) d ∧ ∃ len, hN 9 (fl.drop 1) = some len ∧ bdq (flat fl) len (flat (fl.drop 2)).length t (fl.drop (4 + d)) a b v := by
  unfold prs
  rw [pL_fl (by decide) (by decide) fl hg]
  cases h8 : hLf 8 fl with
  | none =>
    constructor
    · intro h; cases h
    · rintro ⟨w, _⟩; cases w
  | some x =>
    show (if x = 70 then prs0 (flat fl) (flat fl.tail) else none) = _ ↔ _
    by_cases cx : x = 70
    · rw [if_pos cx]
      have hg1 := good_tail hg
      unfold prs0
      rw [pN_fl (by decide) (by decide) _ hg1]
      rw [show fl.tail = fl.drop 1 by simp]
      cases h9 : hN 9 (fl.drop 1) with
      | none =>
        constructor
        · intro h; cases h
        · rintro ⟨_, _, _, _, _, len, w, _⟩; cases w
      | some len =>
        show (match pL 35 (flat (fl.drop 1).tail) with
          | none => none
          | some (t, s3) => if t ∈ mkinds then prs1 (flat fl) len (flat (fl.drop 1).tail) t s3 else none) = _ ↔ _
        rw [show (fl.drop 1).tail = fl.drop 2 by rw [← List.drop_one, List.drop_drop]]
        have hg2 := good_drop hg 2
        rw [pL_fl (by decide) (by decide) _ hg2]
        cases h35 : hLf 35 (fl.drop 2) with
        | none =>
          constructor
          · intro h; cases h
          · rintro ⟨_, w, _⟩; cases w
        | some t0 =>
          show (if t0 ∈ mkinds then prs1 (flat fl) len (flat (fl.drop 2)) t0 (flat (fl.drop 2).tail) else none) = _ ↔ _
          rw [show (fl.drop 2).tail = fl.drop 3 by simp]
          by_cases ct : t0 ∈ mkinds
          · rw [if_pos ct, prs1_iff ct (good_drop hg 3)]
            rw [show (fl.drop 3).drop 1 = fl.drop 4 by simp, show (fl.drop 3).drop (1 + d) = fl.drop (4 + d) by rw [List.drop_drop]; congr 1; omega]
            constructor
            · rintro ⟨rfl, q1, q2, q3⟩
              exact ⟨by rw [cx], rfl, ct, q1, q2, len, rfl, q3⟩
            · rintro ⟨_, e, _, q1, q2, len', e', q3⟩
              cases e
              cases e'
              exact ⟨rfl, q1, q2, q3⟩
          · rw [if_neg ct]
            constructor
            · intro h; cases h
            · rintro ⟨_, e, w, _⟩
              cases e
              exact absurd w ct
    · rw [if_neg cx]
      constructor
      · intro h; cases h
      · rintro ⟨w, _⟩; cases w; exact absurd rfl cx
