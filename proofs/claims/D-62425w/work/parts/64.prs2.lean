/-! ===== both readings agree, 1 ===== -/
def hLf (name : Nat) : List (Nat × List Nat) → Option Nat
  | [] => none
  | f :: _ => if f.1 = name ∧ f.2.length = 1 then some (f.2.getD 0 0) else none
def hN (name : Nat) : List (Nat × List Nat) → Option Nat
  | [] => none
  | f :: _ => if f.1 = name ∧ f.2.length ≤ 6 ∧ f.2.all isd = true then some (num f.2 0) else none
def hT : List (Nat × List Nat) → Nat
  | [] => 0
  | f :: _ => f.1
theorem lA_h (fl : List (Nat × List Nat)) (i name : Nat) : lA fl i name = hLf name (fl.drop i) := by
  unfold lA
  by_cases h : i < fl.length
  · rw [List.drop_eq_getElem_cons h]
    have e : fl.getD i fz = fl[i] := by rw [List.getD_eq_getElem?_getD, List.getElem?_eq_getElem h]; rfl
    rw [e]
    unfold hLf
    simp only [h, true_and]
  · rw [if_neg (fun q => h q.1), List.drop_eq_nil_of_le (by omega)]
    rfl
theorem nA_h (fl : List (Nat × List Nat)) (i name : Nat) : nA fl i name = hN name (fl.drop i) := by
  unfold nA
  by_cases h : i < fl.length
  · rw [List.drop_eq_getElem_cons h]
    have e : fl.getD i fz = fl[i] := by rw [List.getD_eq_getElem?_getD, List.getElem?_eq_getElem h]; rfl
    rw [e]
    unfold hN
    simp only [h, true_and]
  · rw [if_neg (fun q => h q.1), List.drop_eq_nil_of_le (by omega)]
    rfl
theorem tg_h (fl : List (Nat × List Nat)) (i : Nat) : (fl.getD i fz).1 = hT (fl.drop i) := by
  by_cases h : i < fl.length
  · rw [List.drop_eq_getElem_cons h, List.getD_eq_getElem?_getD, List.getElem?_eq_getElem h]
    rfl
  · rw [List.drop_eq_nil_of_le (by omega), List.getD_eq_getElem?_getD, List.getElem?_eq_none (by omega)]
    rfl
theorem fb_ne (f : Nat × List Nat) (s : List Nat) : fb f ++ s ≠ [] := by
  unfold fb
  simp
theorem all_isd {vs : List Nat} : vs.all isd = true ↔ ∀ x ∈ vs, 48 ≤ x ∧ x ≤ 57 := by
  simp [isd]
theorem pL_fl {tag : Nat} (h1 : 1 ≤ tag) (h2 : tag < 10000) : ∀ l : List (Nat × List Nat), (∀ f ∈ l, gdf f) → pL tag (flat l) = (hLf tag l).map (fun x => (x, flat l.tail))
  | [], _ => by
    cases h : pL tag (flat []) with
    | none => rfl
    | some p => exact absurd (pL_inv (x := p.1) (s' := p.2) h).1.symm (fb_ne _ _)
  | f :: l, hg => by
    have hf := hg f (by simp)
    by_cases c : f.1 = tag ∧ f.2.length = 1
    · obtain ⟨x, hx⟩ : ∃ x, f.2 = [x] := by
        match h : f.2, c.2 with
        | [x], _ => exact ⟨x, rfl⟩
      have e : f = (tag, [x]) := Prod.ext c.1 hx
      have hr := hf.2.2.2 x (by rw [hx]; simp)
      subst e
      show pL tag (fb (tag, [x]) ++ flat l) = _
      rw [pL_fb ⟨by omega, by omega⟩]
      rw [show hLf tag ((tag, [x]) :: l) = some x from if_pos ⟨rfl, rfl⟩]
      rfl
    · have e : hLf tag (f :: l) = none := if_neg c
      rw [e]
      cases h : pL tag (flat (f :: l)) with
      | none => rfl
      | some p =>
        obtain ⟨q1, q2, q3⟩ := pL_inv (x := p.1) (s' := p.2) h
        have hgd : gdf (tag, [p.1]) := ⟨h1, h2, by simp, fun x hx => by rw [List.mem_singleton.mp hx]; omega⟩
        obtain ⟨q4, -⟩ := fb_inj (a := flat l) hf hgd q1
        exact absurd ⟨by rw [q4], by rw [q4]; rfl⟩ c
theorem pN_fl {tag : Nat} (h1 : 1 ≤ tag) (h2 : tag < 10000) : ∀ l : List (Nat × List Nat), (∀ f ∈ l, gdf f) → pN tag (flat l) = (hN tag l).map (fun x => (x, flat l.tail))
  | [], _ => by
    cases h : pN tag (flat []) with
    | none => rfl
    | some p =>
      obtain ⟨vs, q, -⟩ := pN_inv (v := p.1) (s' := p.2) h
      exact absurd q.symm (fb_ne _ _)
  | f :: l, hg => by
    have hf := hg f (by simp)
    by_cases c : f.1 = tag ∧ f.2.length ≤ 6 ∧ f.2.all isd = true
    · have e : f = (tag, f.2) := Prod.ext c.1 rfl
      have e1 : pN tag (flat (f :: l)) = some (num f.2 0, flat l) := by
        show pN tag (fb f ++ flat l) = _
        have := pN_fb (tag := tag) (s' := flat l) hf.2.2.1 c.2.1 (all_isd.mp c.2.2)
        rw [← e] at this
        exact this
      rw [e1]
      rw [show hN tag (f :: l) = some (num f.2 0) from if_pos c]
      rfl
    · have e : hN tag (f :: l) = none := if_neg c
      rw [e]
      cases h : pN tag (flat (f :: l)) with
      | none => rfl
      | some p =>
        obtain ⟨vs, q1, q2, q3, q4, q5⟩ := pN_inv (v := p.1) (s' := p.2) h
        have hgd : gdf (tag, vs) := ⟨h1, h2, q2, fun x hx => by have := q4 x hx; omega⟩
        obtain ⟨q6, -⟩ := fb_inj (a := flat l) hf hgd q1
        exact absurd ⟨by rw [q6], by rw [q6]; exact q3, by rw [q6]; exact all_isd.mpr q4⟩ c
theorem pst_nil (tag : Nat) : pst tag [] = false := by
  cases h : pst tag [] with
  | false => rfl
  | true =>
    obtain ⟨s1, q⟩ := (pfx_iff _ _).mp h
    simp at q
theorem pst_fl {tag : Nat} (h1 : 1 ≤ tag) (h2 : tag < 10000) : ∀ l : List (Nat × List Nat), (∀ f ∈ l, gdf f) → pst tag (flat l) = decide (hT l = tag)
  | [], _ => by
    exact (pst_nil tag).trans (decide_eq_false (show ¬ (0 = tag) by omega)).symm
  | f :: l, hg => pst_fb (hg f (by simp)) h1 h2
theorem good_tail {l : List (Nat × List Nat)} (h : ∀ f ∈ l, gdf f) : ∀ f ∈ l.tail, gdf f := fun f hf => h f (List.mem_of_mem_tail hf)
theorem good_drop {l : List (Nat × List Nat)} (h : ∀ f ∈ l, gdf f) (i : Nat) : ∀ f ∈ l.drop i, gdf f := fun f hf => h f (List.mem_of_mem_drop hf)
abbrev QB := Option (Nat × Nat × Nat × List (Nat × List Nat))
def fq (q : QB) : Option (Nat × Nat × Nat × List Nat) := q.map (fun p => (p.1, p.2.1, p.2.2.1, flat p.2.2.2))
def qB3 (t a b : Nat) (l : List (Nat × List Nat)) : QB :=
  if nm t 2 = 0 then some (a, b, 0, l) else match hN (nm t 2) l with
    | none => none
    | some v => some (a, b, v, l.tail)
def qB2 (t a : Nat) (l : List (Nat × List Nat)) : QB :=
  if t = 52 then (match hLf 123 l with
    | none => none
    | some x => if x = 89 ∨ x = 78 then qB3 t a (if x = 89 then 1 else 0) l.tail else none)
  else if nm t 1 = 0 then qB3 t a 0 l else match hN (nm t 1) l with
    | none => none
    | some b => qB3 t a b l.tail
def qB (t : Nat) (l : List (Nat × List Nat)) : QB :=
  if (t = 48 ∧ hT l ≠ 112) ∨ t = 53 then some (0, 0, 0, l) else match hN (nm t 0) l with
    | none => none
    | some a => qB2 t a l.tail
theorem nm_small (t k : Nat) : nm t k < 10000 := by
  unfold nm
  (repeat' split) <;> omega
theorem pB3_fl {t a b : Nat} {l : List (Nat × List Nat)} (hg : ∀ f ∈ l, gdf f) : pB3 t a b (flat l) = fq (qB3 t a b l) := by
  unfold pB3 qB3
  by_cases z : nm t 2 = 0
  · rw [if_pos z, if_pos z]; rfl
  · rw [if_neg z, if_neg z, pN_fl (by omega) (nm_small _ _) l hg]
    cases hN (nm t 2) l <;> rfl
theorem pB2_fl {t a : Nat} {l : List (Nat × List Nat)} (hg : ∀ f ∈ l, gdf f) : pB2 t a (flat l) = fq (qB2 t a l) := by
  unfold pB2 qB2
  by_cases z : t = 52
  · rw [if_pos z, if_pos z, pL_fl (by decide) (by decide) l hg]
    cases hLf 123 l with
    | none => rfl
    | some x =>
      show (if x = 89 ∨ x = 78 then pB3 t a (if x = 89 then 1 else 0) (flat l.tail) else none) = fq (if x = 89 ∨ x = 78 then qB3 t a (if x = 89 then 1 else 0) l.tail else none)
      rw [pB3_fl (good_tail hg)]
      split <;> rfl
  · rw [if_neg z, if_neg z]
    by_cases z1 : nm t 1 = 0
    · rw [if_pos z1, if_pos z1, pB3_fl hg]
    · rw [if_neg z1, if_neg z1, pN_fl (by omega) (nm_small _ _) l hg]
      cases hN (nm t 1) l with
      | none => rfl
      | some b => exact pB3_fl (good_tail hg)
theorem pB_fl {t : Nat} (ht : t ∈ mkinds) {l : List (Nat × List Nat)} (hg : ∀ f ∈ l, gdf f) : pB t (flat l) = fq (qB t l) := by
  unfold pB qB
  rw [pst_fl (by decide) (by decide) l hg]
  by_cases z : (t = 48 ∧ hT l ≠ 112) ∨ t = 53
  · rw [if_pos z, if_pos]
    · rfl
    · rcases z with ⟨z1, z2⟩ | z
      · exact Or.inl ⟨z1, decide_eq_false z2⟩
      · exact Or.inr z
  · have n0 : nm t 0 ≠ 0 := by
      have z5 : t ≠ 53 := fun e => z (Or.inr e)
      clear z
      revert z5
      refine mcase (P := fun t => t ≠ 53 → nm t 0 ≠ 0) ht ?_ ?_ ?_ ?_ ?_ ?_ ?_ ?_ ?_ <;> decide
    rw [if_neg z, if_neg, pN_fl (by omega) (nm_small _ _) l hg]
    · cases hN (nm t 0) l with
      | none => rfl
      | some b => exact pB2_fl (good_tail hg)
    · rintro (⟨z1, z2⟩ | z2)
      · exact z (Or.inl ⟨z1, of_decide_eq_false z2⟩)
      · exact z (Or.inr z2)
