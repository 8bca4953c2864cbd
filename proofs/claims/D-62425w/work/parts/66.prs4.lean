/-! ===== both readings agree, 3 ===== -/
def hV (t k : Nat) (l : List (Nat × List Nat)) : Option Nat := if t = 52 ∧ k = 1 then hLf (nm t k) l else hN (nm t k) l
theorem bv_h (fl : List (Nat × List Nat)) (t k f : Nat) : bv fl t k f = hV t k (fl.drop f) := by
  unfold bv hV
  rw [lA_h, nA_h]
def BGl (t : Nat) : Nat → Nat → List (Nat × List Nat) → Prop
  | 0, _, l => l.length = 1
  | m + 1, k, l => if nm t k = 0 then BGl t m (k + 1) l else bok t k (hV t k l) ∧ BGl t m (k + 1) l.tail
theorem BG_l (fl : List (Nat × List Nat)) (h : 1 ≤ fl.length) (t : Nat) : ∀ m k f, BG fl t m k f ↔ BGl t m k (fl.drop f)
  | 0, k, f => by
    unfold BG BGl
    rw [List.length_drop]
    omega
  | m + 1, k, f => by
    unfold BG BGl
    rw [BG_l fl h t m (k + 1) f, BG_l fl h t m (k + 1) (f + 1), bv_h, show (fl.drop f).tail = fl.drop (f + 1) by rw [← List.drop_one, List.drop_drop]]
def bdl (t : Nat) (l : List (Nat × List Nat)) (a b v : Nat) : Prop :=
  (t = 48 ∧ l.length ≤ 1 ∧ a = 0 ∧ b = 0 ∧ v = 0) ∨ (¬ (t = 48 ∧ l.length ≤ 1) ∧ BGl t 3 0 l ∧ (if nm t 0 = 0 then a = 0 else hV t 0 l = some a) ∧ (if nm t 1 = 0 then b = 0 else hV t 1 l.tail = some (bM t b)) ∧ (if nm t 2 = 0 then v = 0 else hV t 2 l.tail.tail = some v))
theorem bdy_l {fl : List (Nat × List Nat)} (h : 1 ≤ fl.length) {t f a b v : Nat} : bdy fl t f a b v ↔ bdl t (fl.drop f) a b v := by
  unfold bdy bdl
  rw [BG_l fl h, bv_h, bv_h, bv_h, List.length_drop]
  have e1 : (fl.drop f).tail = fl.drop (f + 1) := by rw [← List.drop_one, List.drop_drop]
  have e2 : (fl.drop f).tail.tail = fl.drop (f + 2) := by rw [e1, ← List.drop_one, List.drop_drop]
  rw [e2, e1]
  have e3 : fl.length - 1 ≤ f ↔ fl.length - f ≤ 1 := by omega
  rw [e3]
  exact Iff.rfl
theorem hN_ne {name : Nat} : hN name [] = none := rfl
/-- a kind with one to three fields that are numbers -/
theorem b3_iff {t a b v a0 b0 : Nat} {l : List (Nat × List Nat)} {x : Nat × List Nat} : qB3 t a0 b0 l = some (a, b, v, [x]) ↔ a0 = a ∧ b0 = b ∧ (if nm t 2 = 0 then v = 0 ∧ l = [x] else hN (nm t 2) l = some v ∧ l.tail = [x]) := by
  unfold qB3
  by_cases z : nm t 2 = 0
  · rw [if_pos z, if_pos z]
    constructor
    · intro h; cases h; exact ⟨rfl, rfl, rfl, rfl⟩
    · rintro ⟨rfl, rfl, rfl, rfl⟩; rfl
  · rw [if_neg z, if_neg z]
    cases hN (nm t 2) l with
    | none =>
      constructor
      · intro h; cases h
      · rintro ⟨_, _, w, _⟩; cases w
    | some v0 =>
      constructor
      · intro h
        have h' : some (a0, b0, v0, l.tail) = some (a, b, v, [x]) := h
        simp only [Option.some.injEq, Prod.mk.injEq] at h'
        obtain ⟨e1, e2, e3, e⟩ := h'
        exact ⟨e1, e2, by rw [e3], e⟩
      · rintro ⟨rfl, rfl, w, e⟩
        cases w
        show some (a0, b0, v, l.tail) = _
        rw [e]
theorem b2_iff {t a b v a0 : Nat} {l : List (Nat × List Nat)} {x : Nat × List Nat} (h52 : t ≠ 52) : qB2 t a0 l = some (a, b, v, [x]) ↔ a0 = a ∧ (if nm t 1 = 0 then b = 0 ∧ (if nm t 2 = 0 then v = 0 ∧ l = [x] else hN (nm t 2) l = some v ∧ l.tail = [x]) else hN (nm t 1) l = some b ∧ (if nm t 2 = 0 then v = 0 ∧ l.tail = [x] else hN (nm t 2) l.tail = some v ∧ l.tail.tail = [x])) := by
  unfold qB2
  rw [if_neg h52]
  by_cases z : nm t 1 = 0
  · rw [if_pos z, if_pos z, b3_iff]
    constructor
    · rintro ⟨rfl, rfl, q⟩; exact ⟨rfl, rfl, q⟩
    · rintro ⟨rfl, rfl, q⟩; exact ⟨rfl, rfl, q⟩
  · rw [if_neg z, if_neg z]
    cases hN (nm t 1) l with
    | none =>
      constructor
      · intro h; cases h
      · rintro ⟨_, w, _⟩; cases w
    | some b0 =>
      show qB3 t a0 b0 l.tail = _ ↔ _
      rw [b3_iff]
      constructor
      · rintro ⟨rfl, rfl, q⟩; exact ⟨rfl, rfl, q⟩
      · rintro ⟨rfl, w, q⟩; cases w; exact ⟨rfl, rfl, q⟩
theorem b1_iff {t a b v : Nat} {l : List (Nat × List Nat)} {x : Nat × List Nat} (h52 : t ≠ 52) (hc : ¬ ((t = 48 ∧ hT l ≠ 112) ∨ t = 53)) : qB t l = some (a, b, v, [x]) ↔ hN (nm t 0) l = some a ∧ (if nm t 1 = 0 then b = 0 ∧ (if nm t 2 = 0 then v = 0 ∧ l.tail = [x] else hN (nm t 2) l.tail = some v ∧ l.tail.tail = [x]) else hN (nm t 1) l.tail = some b ∧ (if nm t 2 = 0 then v = 0 ∧ l.tail.tail = [x] else hN (nm t 2) l.tail.tail = some v ∧ l.tail.tail.tail = [x])) := by
  unfold qB
  rw [if_neg hc]
  cases hN (nm t 0) l with
  | none =>
    constructor
    · intro h; cases h
    · rintro ⟨w, _⟩; cases w
  | some a0 =>
    show qB2 t a0 l.tail = _ ↔ _
    rw [b2_iff h52]
    constructor
    · rintro ⟨rfl, q⟩; exact ⟨rfl, q⟩
    · rintro ⟨w, q⟩; cases w; exact ⟨rfl, q⟩
theorem len1 {l : List (Nat × List Nat)} : l.length = 1 ↔ ∃ x, l = [x] := by
  constructor
  · intro h
    match l, h with
    | [x], _ => exact ⟨x, rfl⟩
  · rintro ⟨x, rfl⟩; rfl
theorem bok_iff {t k : Nat} {o : Option Nat} (h : t ≠ 52) : bok t k o ↔ ∃ v, o = some v := by
  unfold bok
  constructor
  · rintro ⟨v, e, _⟩; exact ⟨v, e⟩
  · rintro ⟨v, e⟩; exact ⟨v, e, fun w => absurd w h⟩
theorem hV_n {t k : Nat} {l : List (Nat × List Nat)} (h : t ≠ 52) : hV t k l = hN (nm t k) l := if_neg (fun q => h q.1)
theorem bdl_q {t a b v : Nat} (ht : t ∈ mkinds) (h52 : t ≠ 52) (h48 : t ≠ 48) (h53 : t ≠ 53) {l : List (Nat × List Nat)} : bdl t l a b v ↔ ∃ x, qB t l = some (a, b, v, [x]) := by
  have hc : ¬ ((t = 48 ∧ hT l ≠ 112) ∨ t = 53) := by rintro (q | q); exact h48 q.1; exact h53 q
  simp only [b1_iff h52 hc]
  unfold bdl
  have n0 : nm t 0 ≠ 0 := by
    clear hc
    revert h53
    refine mcase (P := fun t => t ≠ 53 → nm t 0 ≠ 0) ht ?_ ?_ ?_ ?_ ?_ ?_ ?_ ?_ ?_ <;> decide
  have eb : bM t b = b := if_neg h52
  have n1 : nm t 1 = 0 → nm t 2 = 0 := by
    refine mcase (P := fun t => nm t 1 = 0 → nm t 2 = 0) ht ?_ ?_ ?_ ?_ ?_ ?_ ?_ ?_ ?_ <;> decide
  rw [eb]
  simp only [h48, false_and, not_false_eq_true, true_and, false_or, BGl, n0, if_false, hV_n h52, bok_iff h52]
  by_cases z1 : nm t 1 = 0
  · simp only [z1, n1 z1, if_true, len1]
    constructor
    · rintro ⟨⟨⟨_, _⟩, x, e⟩, q1, q2, q3⟩; exact ⟨x, q1, q2, q3, e⟩
    · rintro ⟨x, q1, q2, q3, e⟩; exact ⟨⟨⟨_, q1⟩, x, e⟩, q1, q2, q3⟩
  · by_cases z2 : nm t 2 = 0
    · simp only [z1, z2, if_true, if_false, len1]
      constructor
      · rintro ⟨⟨⟨_, _⟩, ⟨_, _⟩, x, e⟩, q1, q2, q3⟩; exact ⟨x, q1, q2, q3, e⟩
      · rintro ⟨x, q1, q2, q3, e⟩; exact ⟨⟨⟨_, q1⟩, ⟨_, q2⟩, x, e⟩, q1, q2, q3⟩
    · simp only [z1, z2, if_false, len1]
      constructor
      · rintro ⟨⟨⟨_, _⟩, ⟨_, _⟩, ⟨_, _⟩, x, e⟩, q1, q2, q3⟩; exact ⟨x, q1, q2, q3, e⟩
      · rintro ⟨x, q1, q2, q3, e⟩; exact ⟨⟨⟨_, q1⟩, ⟨_, q2⟩, ⟨_, q3⟩, x, e⟩, q1, q2, q3⟩
theorem bdl_53 {a b v : Nat} {l : List (Nat × List Nat)} : bdl 53 l a b v ↔ ∃ x, qB 53 l = some (a, b, v, [x]) := by
  have e : qB 53 l = some (0, 0, 0, l) := if_pos (Or.inr rfl)
  rw [e]
  unfold bdl
  have z : ∀ k, nm 53 k = 0 ∨ 3 ≤ k := fun k => by unfold nm; simp
  have z0 : nm 53 0 = 0 := by decide
  have z1 : nm 53 1 = 0 := by decide
  have z2 : nm 53 2 = 0 := by decide
  simp only [BGl, z0, z1, z2, if_true, len1]
  constructor
  · rintro (⟨w, _⟩ | ⟨_, ⟨x, rfl⟩, rfl, rfl, rfl⟩)
    · exact absurd w (by decide)
    · exact ⟨x, rfl⟩
  · rintro ⟨x, q⟩
    cases q
    exact Or.inr ⟨fun w => absurd w.1 (by decide), ⟨x, rfl⟩, rfl, rfl, rfl⟩
theorem bdl_48 {a b v : Nat} {l : List (Nat × List Nat)} (hne : l ≠ []) (hl : ∀ x, l.getLast? = some x → x.1 = 10) : bdl 48 l a b v ↔ ∃ x, qB 48 l = some (a, b, v, [x]) := by
  unfold bdl
  have z0 : nm 48 0 = 112 := by decide
  have z1 : nm 48 1 = 0 := by decide
  have z2 : nm 48 2 = 0 := by decide
  have z0' : ¬ (112 = 0) := by decide
  simp only [BGl, z0, z1, z2, z0', if_true, if_false, len1, hV_n (show 48 ≠ 52 by decide), bok_iff (show 48 ≠ 52 by decide)]
  by_cases c : hT l = 112
  · have hc : ¬ ((48 = 48 ∧ hT l ≠ 112) ∨ 48 = 53) := by rintro (q | q); exact q.2 c; exact absurd q (by decide)
    simp only [b1_iff (show 48 ≠ 52 by decide) hc, z0, z1, z2, if_true]
    have h1 : ¬ (l.length ≤ 1) := by
      intro h
      match l, hne, h, c, hl with
      | [x], _, _, c, hl =>
        have := hl x rfl
        have c' : x.1 = 112 := c
        omega
    constructor
    · rintro (⟨_, w, _⟩ | ⟨_, ⟨⟨_, _⟩, x, e⟩, q1, q2, q3⟩)
      · exact absurd w h1
      · exact ⟨x, q1, q2, q3, e⟩
    · rintro ⟨x, q1, q2, q3, e⟩
      exact Or.inr ⟨fun w => h1 w.2, ⟨⟨_, q1⟩, x, e⟩, q1, q2, q3⟩
  · have e : qB 48 l = some (0, 0, 0, l) := if_pos (Or.inl ⟨rfl, c⟩)
    rw [e]
    constructor
    · rintro (⟨_, w, rfl, rfl, rfl⟩ | ⟨_, ⟨⟨y, w⟩, _⟩, _⟩)
      · match l, hne, w with
        | [x], _, _ => exact ⟨x, rfl⟩
      · exfalso
        match l, w, c with
        | [], w, _ => cases w
        | f :: l, w, c =>
          refine c ?_
          have w' : (if f.1 = 112 ∧ f.2.length ≤ 6 ∧ f.2.all isd = true then some (num f.2 0) else none) = some y := w
          split at w'
          · rename_i q; exact q.1
          · cases w'
    · rintro ⟨x, q⟩
      cases q
      exact Or.inl ⟨trivial, Nat.le_refl _, rfl, rfl, rfl⟩
theorem bdl_52 {a b v : Nat} (hb : b ≤ 1) {l : List (Nat × List Nat)} : bdl 52 l a b v ↔ ∃ x, qB 52 l = some (a, b, v, [x]) := by
  unfold bdl
  have z0 : nm 52 0 = 36 := by decide
  have z1 : nm 52 1 = 123 := by decide
  have z2 : nm 52 2 = 0 := by decide
  have n0 : ¬ (36 = 0) := by decide
  have n1 : ¬ (123 = 0) := by decide
  have v0 : ∀ l, hV 52 0 l = hN 36 l := fun l => if_neg (fun q => absurd q.2 (by decide))
  have v1 : ∀ l, hV 52 1 l = hLf 123 l := fun l => if_pos ⟨rfl, rfl⟩
  have h48 : ¬ (52 = 48) := by decide
  simp only [BGl, z0, z1, z2, n0, n1, if_true, if_false, len1, v0, v1, h48, false_and, false_or, not_false_eq_true, true_and]
  unfold qB
  rw [if_neg (by rintro (q | q); exact h48 q.1; exact absurd q (by decide)), z0]
  have eb : bM 52 b = if b = 1 then 89 else 78 := if_pos rfl
  rw [eb]
  cases hN 36 l with
  | none =>
    constructor
    · rintro ⟨_, w, _⟩; cases w
    · rintro ⟨_, w⟩; cases w
  | some a0 =>
    show _ ↔ ∃ x, qB2 52 a0 l.tail = some (a, b, v, [x])
    unfold qB2
    rw [if_pos rfl]
    cases hLf 123 l.tail with
    | none =>
      constructor
      · rintro ⟨_, _, w, _⟩; cases w
      · rintro ⟨_, w⟩; cases w
    | some y =>
      show _ ↔ ∃ x, (if y = 89 ∨ y = 78 then qB3 52 a0 (if y = 89 then 1 else 0) l.tail.tail else none) = some (a, b, v, [x])
      by_cases cy : y = 89 ∨ y = 78
      · simp only [if_pos cy, b3_iff, z2, if_true]
        constructor
        · rintro ⟨⟨_, _, x, e⟩, q1, q2, q3⟩
          cases q1
          have q2' : y = if b = 1 then 89 else 78 := Option.some.inj q2
          refine ⟨x, rfl, ?_, q3, e⟩
          split at q2'
          · rw [if_pos q2']; omega
          · rw [if_neg (by omega)]; omega
        · rintro ⟨x, rfl, q2, q3, e⟩
          refine ⟨⟨⟨a0, rfl, fun _ w => absurd rfl w⟩, ⟨y, rfl, fun _ _ => cy⟩, x, e⟩, rfl, ?_, q3⟩
          congr 1
          rcases cy with rfl | rfl
          · rw [if_pos rfl] at q2; rw [if_pos q2.symm]
          · rw [if_neg (by decide)] at q2; rw [if_neg (by omega)]
      · rw [if_neg cy]
        constructor
        · rintro ⟨⟨_, ⟨y', e, w⟩, _⟩, _⟩
          cases e
          exact absurd (w rfl (by decide)) cy
        · rintro ⟨_, w⟩; cases w
