/-! ===== what is sent again ===== -/
def fup (a b : Nat) : List (List Nat) := if a < b then [frm (hdr 52 a true ++ (fld 36 b ++ ltr 123 89))] else []
def rfr (x : RP) (dup : Bool) : List Nat := frm (hdr 56 x.1 dup ++ repb x)
def ago (e : Nat) : List RP → Nat → List (List Nat)
  | [], a => fup a (e + 1)
  | x :: xs, a => if x.1 ≤ e then (if a ≤ x.1 then fup a x.1 ++ rfr x true :: ago e xs (x.1 + 1) else ago e xs a) else fup a (e + 1)
theorem fup_no {a b : Nat} (h : b ≤ a) : fup a b = [] := if_neg (by omega)
theorem ago_end {e : Nat} : ∀ (rp : List RP) (n : Nat), e < n → ago e rp n = []
  | [], n, h => fup_no (by omega)
  | x :: xs, n, h => by
    unfold ago
    split
    · rw [if_neg (by omega)]
      exact ago_end xs n h
    · exact fup_no (by omega)
theorem fnd_cons (y : RP) (ys : List RP) (n : Nat) : fnd (y :: ys) n = if y.1 = n then some y else fnd ys n := by
  unfold fnd
  rw [List.find?_cons]
  by_cases h : y.1 = n
  · simp [h]
  · rw [if_neg h, show (y.1 == n) = false by simp [h]]
theorem fnd_mem {rp : List RP} {n : Nat} {x : RP} (h : fnd rp n = some x) : x ∈ rp ∧ x.1 = n := by
  unfold fnd at h
  exact ⟨List.mem_of_find?_eq_some h, by simpa using List.find?_some h⟩
theorem ago_hit {e : Nat} {n : Nat} {x : RP} (he : n ≤ e) : ∀ (rp : List RP), rp.Pairwise (fun a b => a.1 < b.1) → fnd rp n = some x → ago e rp n = rfr x true :: ago e rp (n + 1)
  | [], _, h => by cases h
  | y :: ys, hp, h => by
    obtain ⟨hy, hp⟩ := List.pairwise_cons.mp hp
    rw [fnd_cons] at h
    unfold ago
    by_cases hn : y.1 = n
    · rw [if_pos hn] at h
      cases h
      rw [if_pos (by omega), if_pos (by omega), if_pos (by omega), if_neg (by omega), fup_no (by omega), hn]
      rfl
    · rw [if_neg hn] at h
      obtain ⟨h1, h2⟩ := fnd_mem h
      have h3 := hy x h1
      rw [if_pos (by omega), if_neg (by omega), if_pos (by omega), if_neg (by omega)]
      exact ago_hit he ys hp h
theorem ago_gap {e n m : Nat} (he : n ≤ e) (hm : n < m) : ∀ (rp : List RP), rp.Pairwise (fun a b => a.1 < b.1) → (∀ j, n ≤ j → j < m → fnd rp j = none) → (m = e + 1 ∨ m ≤ e ∧ ∃ x, fnd rp m = some x) → ago e rp n = frm (hdr 52 n true ++ (fld 36 m ++ ltr 123 89)) :: ago e rp m
  | [], _, _, h => by
    have h1 : m = e + 1 := by
      rcases h with h | ⟨_, x, h⟩
      · exact h
      · cases h
    subst h1
    show fup n (e + 1) = _ :: fup (e + 1) (e + 1)
    rw [fup_no (Nat.le_refl _)]
    exact if_pos hm
  | y :: ys, hp, hg, h => by
    obtain ⟨hy, hp⟩ := List.pairwise_cons.mp hp
    unfold ago
    by_cases h1 : y.1 ≤ e
    · rw [if_pos h1, if_pos h1]
      by_cases h2 : n ≤ y.1
      · have h3 : m ≤ y.1 := by
          rcases Nat.lt_or_ge y.1 m with h3 | h3
          · have := hg y.1 h2 h3
            rw [fnd_cons, if_pos rfl] at this
            cases this
          · exact h3
        rcases h with h | ⟨h4, x, h⟩
        · omega
        · rw [fnd_cons] at h
          have h5 : y.1 = m := by
            by_cases h5 : y.1 = m
            · exact h5
            · rw [if_neg h5] at h
              obtain ⟨h6, h7⟩ := fnd_mem h
              have := hy x h6
              omega
          rw [if_pos h2, if_pos h3, h5, fup_no (Nat.le_refl _)]
          unfold fup
          rw [if_pos hm]
          rfl
      · rw [if_neg h2, if_neg (by omega)]
        refine ago_gap he hm ys hp (fun j a b => ?_) ?_
        · have := hg j a b
          rw [fnd_cons, if_neg (by omega)] at this
          exact this
        · rcases h with h | ⟨h4, x, h⟩
          · exact Or.inl h
          · rw [fnd_cons, if_neg (by omega)] at h
            exact Or.inr ⟨h4, x, h⟩
    · rw [if_neg h1, if_neg h1]
      have h2 : m = e + 1 := by
        rcases h with h | ⟨h4, x, h⟩
        · exact h
        · rw [fnd_cons, if_neg (by omega)] at h
          obtain ⟨h6, h7⟩ := fnd_mem h
          have := hy x h6
          omega
      subst h2
      rw [fup_no (Nat.le_refl _)]
      unfold fup
      rw [if_pos hm]
def sdc (c : Nat → Nat) (fs : List (List Nat)) : Nat → Nat := if fs = [] then c else up c 6 (c 4)
theorem sdc_nil (c : Nat → Nat) : sdc c [] = c := rfl
theorem sdc_cons (c : Nat → Nat) (f : List Nat) (fs : List (List Nat)) : sdc c (f :: fs) = up c 6 (c 4) := if_neg (by simp)
theorem sdc_up (c : Nat → Nat) (fs : List (List Nat)) : sdc (up c 6 (c 4)) fs = up c 6 (c 4) := by
  unfold sdc
  split
  · rfl
  · funext j
    unfold up
    split <;> rfl
theorem sdc_app (c : Nat → Nat) (a b : List (List Nat)) : sdc (sdc c a) b = sdc c (a ++ b) := by
  cases a with
  | nil => rfl
  | cons x xs => rw [sdc_cons, sdc_up, List.cons_append, sdc_cons]
theorem gap_BD {vs : Nat → Int32} {b : Nat} (hb : b < 10000000) (h0 : vs 0 = nI b) (h1 : vs 1 = nI 89) : BD 52 vs 4 0 (fld 36 b ++ ltr 123 89) := by
  refine Or.inr ⟨b, _, by decide, h0, hb, rfl, Or.inr ⟨89, [], by decide, h1, by omega, ?_, Or.inl ⟨Or.inl (by decide), rfl⟩⟩⟩
  rw [List.append_nil]
  rfl
theorem gap_len {a b : Nat} (hb : b < 1000000) : (hdr 52 a true ++ (fld 36 b ++ ltr 123 89)).length ≤ 99 := by
  have := @hdr_le 52 a true
  have h2 := plc_small hb
  rw [List.length_append, List.length_append, fld_len, ltr_len]
  show _ + (2 + _ + 2 + (3 + 3)) ≤ _
  omega
theorem gap_b {a b : Nat} : ∀ x ∈ hdr 52 a true ++ (fld 36 b ++ ltr 123 89), x < 128 := mem_app (hdr_b (by decide)) (mem_app (fld_b _ _) (ltr_b (by decide)))
theorem rfr_len {x : RP} {dup : Bool} (hx : x.2.1 < 1000000 ∧ x.2.2.1 < 128 ∧ x.2.2.2.1 < 1000000 ∧ x.2.2.2.2 < 1000000) : (hdr 56 x.1 dup ++ repb x).length ≤ 99 := by
  have := @hdr_le 56 x.1 dup
  have h2 := repb_len hx
  rw [List.length_append]
  omega
theorem rfr_b {x : RP} {dup : Bool} (hx : x.2.2.1 < 128) : ∀ y ∈ hdr 56 x.1 dup ++ repb x, y < 128 := mem_app (hdr_b (by decide)) (repb_b hx)
section RA
variable {K : XS → List AE → Prop} {r : List AE} {rp od : List RP} {us : List Nat} {nx e : Nat}
theorem rM_ans114 {k37 : XS → List AE → Int32 → Int32 → Prop} {S : XS} {c : Nat → Nat} {fr : List (List Nat)} {n : Nat} (hM : MM c fr rp od us S) (hnx : c 2 = nx) (hx : nx ≤ 1600) (he : e < nx) (hn : 1 ≤ n) (hne : n ≤ e) (hr : rok rp nx) (hfr : fr.length < 999999) (h : ∀ m S', n < m → m ≤ e + 1 → ago e rp n = frm (hdr 52 n true ++ (fld 36 m ++ ltr 123 89)) :: ago e rp m → MM (up c 6 (c 4)) (fr ++ [frm (hdr 52 n true ++ (fld 36 m ++ ltr 123 89))]) rp od us S' → kM S S' → k37 S' r (nI e) (nI m)) : ∀ (g m : Nat), n ≤ m → m ≤ e + 1 → m + g = e + 2 → (∀ j, n ≤ j → j < m → fnd rp j = none) → (m = n → fnd rp n = none) → w_M_answer_114 k37 K g S r (nI e) (nI n) (nI m)
  | 0, m, h1, h0, h2, h3, h4 => absurd h2 (by omega)
  | g + 1, m, h1, h0, h2, h3, h4 => by
    have fin : n < m → m ≤ e + 1 → (m = e + 1 ∨ m ≤ e ∧ ∃ x, fnd rp m = some x) → w_M_answer_136 k37 K S r (nI e) (nI n) (nI m) := by
      intro hm hm2 hh
      have hv : BD 52 (vf (nI m) (nI 89) 0 0) 4 0 (fld 36 m ++ ltr 123 89) := gap_BD (by omega) rfl rfl
      refine gM (kind := 52) true hM hfr (by decide) (by omega) hv (gap_len (by omega)) gap_b (fun S' a1 a2 => ?_)
      exact h m S' hm hm2 (ago_gap hne hm rp hr.2 h3 hh) a1 a2
    refine ⟨fun c1 => ?_, fun c1 => ⟨?_, fun c2 => ?_, fun c2 => ?_⟩⟩
    · rw [nI_ltI (by omega) (by omega)] at c1
      exact fin (by omega) (by omega) (Or.inl (by omega))
    · rw [nI_ltI (by omega) (by omega)] at c1
      exact vp_in_nI (by omega) (by decide)
    · rw [nI_ltI (by omega) (by omega)] at c1
      rw [nI_clamp (by omega)] at c2
      have h5 := hM.2.2.1 m (by omega) (by omega)
      cases e1 : fnd rp m with
      | none =>
        rw [e1] at h5
        exact absurd h5 c2
      | some x =>
        have hnm : n < m := by
          rcases Nat.lt_or_ge n m with q | q
          · exact q
          · have : m = n := by omega
            rw [this, h4 this] at e1
            cases e1
        exact fin hnm (by omega) (Or.inr ⟨by omega, x, e1⟩)
    · rw [nI_ltI (by omega) (by omega)] at c1
      rw [nI_clamp (by omega)] at c2
      have h5 := hM.2.2.1 m (by omega) (by omega)
      cases e1 : fnd rp m with
      | none =>
        rw [nI_1]
        refine rM_ans114 hM hnx hx he hn hne hr hfr h g (m + 1) (by omega) (by omega) (by omega) (fun j a b => ?_) (fun q => by omega)
        by_cases hj : j = m
        · rw [hj, e1]
        · exact h3 j a (by omega)
      | some x =>
        rw [e1] at h5
        have := h5.1
        rw [c2] at this
        exact absurd this (by decide)
theorem rM_ans37 (hx : nx ≤ 1600) (he : e < nx) (hr : rok rp nx) : ∀ (g n : Nat) (S : XS) (c : Nat → Nat) (fr : List (List Nat)), MM c fr rp od us S → c 2 = nx → 1 ≤ n → n < 1000000 → fr.length + (e + 1 - n) < 999999 → e + 1 - n < g → (∀ S', MM (sdc c (ago e rp n)) (fr ++ ago e rp n) rp od us S' → kM S S' → K S' r) → w_M_answer_37 K g S r (nI e) (nI n)
  | 0, n, S, c, fr, hM, hnx, hn, hn2, hfr, hg, h => absurd hg (by omega)
  | g + 1, n, S, c, fr, hM, hnx, hn, hn2, hfr, hg, h => by
    refine ⟨fun c1 => ?_, fun c1 => ⟨?_, fun c2 => ?_, fun c2 => ?_⟩⟩
    · rw [nI_ltI (by omega) (by omega)] at c1
      rw [ago_end rp n c1, sdc_nil, List.append_nil] at h
      exact h S hM (ke.refl _ _ _)
    · rw [nI_ltI (by omega) (by omega)] at c1
      exact vp_in_nI (by omega) (by decide)
    · rw [nI_ltI (by omega) (by omega)] at c1
      rw [nI_clamp (by omega)] at c2
      have h5 := hM.2.2.1 n (by omega) (by omega)
      cases e1 : fnd rp n with
      | some x =>
        rw [e1] at h5
        have := h5.1
        rw [c2] at this
        exact absurd this (by decide)
      | none =>
        refine ⟨e + 2 - n, rM_ans114 hM hnx hx he hn (by omega) hr (by omega) (fun m S' m1 m2 m3 m4 m5 => ?_) (e + 2 - n) n (Nat.le_refl _) (by omega) (by omega) (fun j a b => absurd b (by omega)) (fun _ => e1)⟩
        refine rM_ans37 hx he hr g m S' (up c 6 (c 4)) _ m4 hnx (by omega) (by omega) (by rw [List.length_append]; show _ + 1 + _ < _; omega) (by omega) (fun S2 b1 b2 => ?_)
        rw [sdc_up, List.append_assoc] at b1
        refine h S2 ?_ (kM.trans m5 b2)
        rw [m3, sdc_cons]
        exact b1
    · rw [nI_ltI (by omega) (by omega)] at c1
      rw [nI_clamp (by omega)] at c2
      have h5 := hM.2.2.1 n (by omega) (by omega)
      cases e1 : fnd rp n with
      | none =>
        rw [e1] at h5
        exact absurd h5 c2
      | some x =>
        rw [e1] at h5
        obtain ⟨b0, b1, b2, b3, b4⟩ := h5
        obtain ⟨q1, q2⟩ := fnd_mem e1
        have q3 := (hr.1 x q1).2.2
        rw [li_4, nI_mul, li_1, nI_add, li_2, nI_add, li_3, nI_add, nI_clamp (by omega), nI_clamp (by omega), nI_clamp (by omega), nI_clamp (by omega), b1, b2, b3, b4]
        refine ⟨vp_in_nI (by omega) (by decide), vp_in_nI (by omega) (by decide), vp_in_nI (by omega) (by decide), vp_in_nI (by omega) (by decide), ?_⟩
        have hv : BD 56 (vf (nI x.2.1) (nI x.2.2.1) (nI x.2.2.2.1) (nI x.2.2.2.2)) 4 0 (repb x) := repb_BD q3 ⟨rfl, rfl, rfl, rfl⟩
        have hl := rfr_len (dup := true) q3
        have hbb := rfr_b (dup := true) q3.2.1
        have hrf : rfr x true = frm (hdr 56 n true ++ repb x) := by unfold rfr; rw [q2]
        rw [q2] at hl hbb
        refine gM (kind := 56) true hM (by omega) (by decide) (by omega) hv hl hbb (fun S' a1 a2 => ?_)
        rw [nI_add]
        refine rM_ans37 hx he hr g (n + 1) S' (up c 6 (c 4)) _ a1 hnx (by omega) (by omega) (by rw [List.length_append]; show _ + 1 + _ < _; omega) (by omega) (fun S2 d1 d2 => ?_)
        rw [sdc_up, List.append_assoc, ← hrf] at d1
        refine h S2 ?_ (kM.trans a2 d2)
        rw [ago_hit (by omega) rp hr.2 e1, sdc_cons]
        exact d1
/-- the last number that is asked for, and what goes out -/
def lst' (nx e : Nat) : Nat := if e = 0 ∨ nx ≤ e then nx - 1 else e
def ans (nx : Nat) (rp : List RP) (b e : Nat) : List (List Nat) := ago (lst' nx e) rp (if b < 1 then 1 else b)
theorem rM_answer {S : XS} {c : Nat → Nat} {fr : List (List Nat)} {b e : Nat} (hM : MM c fr rp od us S) (hx : c 2 ≤ 1600) (h1 : 1 ≤ c 2) (hr : rok rp (c 2)) (hb : b < 1000000) (he : e < 1000000) (hfr : fr.length + 1600 < 999999) (h : ∀ S', MM (sdc c (ans (c 2) rp b e)) (fr ++ ans (c 2) rp b e) rp od us S' → kM S S' → K S' r) : w_M_answer S r (nI b) (nI e) K := by
  have hp : (gF S 821 - 1 : Int32) = nI (c 2 - 1) := by
    rw [hM.1.2.2.1, li_1, nI_sub h1]
  have go : ∀ x : Nat, x = lst' (c 2) e → w_M_answer_25 K S r (nI b) (nI x) := by
    rintro x rfl
    have hlt : lst' (c 2) e < c 2 := by unfold lst'; split <;> omega
    refine ⟨fun c1 => ⟨_, rM_ans37 hx hlt hr (lst' (c 2) e + 2) b S c fr hM rfl ?_ hb (by omega) (by omega) ?_⟩, fun c1 => ⟨_, rM_ans37 hx hlt hr (lst' (c 2) e + 2) 1 S c fr hM rfl (by omega) (by omega) (by omega) (by omega) ?_⟩⟩
    · rw [li_1, nI_leI (by omega) (by omega)] at c1
      exact c1
    · rw [li_1, nI_leI (by omega) (by omega)] at c1
      unfold ans at h
      rw [if_neg (by omega)] at h
      exact h
    · rw [li_1, nI_leI (by omega) (by omega)] at c1
      unfold ans at h
      rw [if_pos (by omega)] at h
      exact h
  refine ⟨fun c1 => ?_, fun c1 => ⟨fun c2 => ?_, fun c2 => ?_⟩⟩
  · rw [li_0, nI_eq (by omega) (by omega)] at c1
    show w_M_answer_25 K S r (nI b) (gF S 821 - 1)
    rw [hp]
    exact go _ (by unfold lst'; rw [if_pos (Or.inl c1)])
  · rw [li_0, nI_eq (by omega) (by omega)] at c1
    rw [hp, nI_leI (by omega) (by omega)] at c2
    exact go _ (by unfold lst'; rw [if_neg (by omega)])
  · rw [hp, nI_leI (by omega) (by omega)] at c2
    show w_M_answer_25 K S r (nI b) (gF S 821 - 1)
    rw [hp]
    exact go _ (by unfold lst'; rw [if_pos (Or.inr (by omega))])
end RA
