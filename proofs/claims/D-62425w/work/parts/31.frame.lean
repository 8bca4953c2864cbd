/-! ===== writing into a row of bytes; Frame ===== -/
def wr (f : Nat → Int32) (i : Nat) (bs : List Nat) : Nat → Int32 := fun j => if i ≤ j ∧ j < i + bs.length then nI (bs.getD (j - i) 0) else f j
theorem wr_nil (f : Nat → Int32) (i : Nat) : wr f i [] = f := by
  funext j
  unfold wr
  rw [if_neg (by simp)]
theorem wr_one (f : Nat → Int32) (i p : Nat) : upd f i (nI p) = wr f i [p] := by
  funext j
  unfold wr upd
  by_cases h : j = i
  · subst h
    simp
  · rw [if_neg h, if_neg (by simp; omega)]
theorem gd_r {a b : List Nat} {j : Nat} (h : a.length ≤ j) : (a ++ b).getD j 0 = b.getD (j - a.length) 0 := by
  rw [List.getD_eq_getElem?_getD, List.getD_eq_getElem?_getD, List.getElem?_append_right h]
theorem gd_l {a b : List Nat} {j : Nat} (h : j < a.length) : (a ++ b).getD j 0 = a.getD j 0 := by
  rw [List.getD_eq_getElem?_getD, List.getD_eq_getElem?_getD, List.getElem?_append_left h]
theorem wr_app (f : Nat → Int32) (i : Nat) (a b : List Nat) : wr (wr f i a) (i + a.length) b = wr f i (a ++ b) := by
  funext j
  unfold wr
  by_cases h1 : i + a.length ≤ j ∧ j < i + a.length + b.length
  · rw [if_pos h1, if_pos (by rw [List.length_append]; omega)]
    congr 1
    rw [gd_r (by omega)]
    congr 1
    omega
  · rw [if_neg h1]
    by_cases h2 : i ≤ j ∧ j < i + a.length
    · rw [if_pos h2, if_pos (by rw [List.length_append]; omega)]
      congr 1
      rw [gd_l (by omega)]
    · rw [if_neg h2, if_neg (by rw [List.length_append]; omega)]
theorem wr_app' {f : Nat → Int32} {i k : Nat} {a b : List Nat} (h : k = i + a.length) : wr (wr f i a) k b = wr f i (a ++ b) := by rw [h, wr_app]
theorem wr_at {f : Nat → Int32} {i j : Nat} {bs : List Nat} (h : i ≤ j ∧ j < i + bs.length) : wr f i bs j = nI (bs.getD (j - i) 0) := if_pos h
theorem wr_out {f : Nat → Int32} {i j : Nat} {bs : List Nat} (h : j < i ∨ i + bs.length ≤ j) : wr f i bs j = f j := if_neg (by omega)
section RF
variable {K : Int32 → Int32 → (Nat → Int32) → Prop} {B : Int32} {f : Nat → Int32}
theorem rF_put {i p : Nat} (hi : i < 120) (hp : p < 128) (k : K (nI (i + 1)) B (wr f i [p])) : w_F_put (nI i) B f (nI p) K := by
  refine ⟨vp_in_nI hi (by decide), ?_⟩
  rw [nI_byte p hp, nI_clamp (by omega), wr_one, nI_1]
  exact k
theorem rF_digits_20 {v : Nat} (hv : v < 2 ^ 31) : ∀ (k : Nat) {n i : Nat} {f : Nat → Int32}, k ≤ 8 → k + 2 ≤ n → i + (k + 1) ≤ 120 → K (nI (i + (k + 1))) B (wr f i (dgo (k + 1) v)) → w_F_digits_20 K n (nI i) B f (nI v) (nI (10 ^ k))
  | k, 0, i, f, _, h, _, _ => by omega
  | k, n + 1, i, f, hk, hn, hi, h => by
    have hp := p10 hk
    have hq := p10_pos k
    refine ⟨fun c => ?_, fun _ => ⟨nI_ne0 hq (by omega), ?_⟩⟩
    · rw [li_0, nI_leI (by omega) (by omega)] at c
      omega
    · have e : (48 : Int32) + (nI v / nI (10 ^ k) - nI v / nI (10 ^ k) / 10 * 10) = nI (48 + v / 10 ^ k % 10) := by
        have hd : v / 10 ^ k ≤ v := Nat.div_le_self _ _
        rw [nI_div hv (by omega), li_48, li_10, nI_mod (by omega) (by omega), nI_add]
      rw [e]
      refine rF_put (by omega) (by omega) ?_
      rw [li_10, nI_div (by omega) (by omega)]
      cases k with
      | zero =>
        obtain ⟨n, rfl⟩ : ∃ m, n = m + 1 := ⟨n - 1, by omega⟩
        exact ⟨fun _ => h, fun c => absurd (by decide : nI (10 ^ 0 / 10) ≤ 0) c⟩
      | succ k =>
        rw [show 10 ^ (k + 1) / 10 = 10 ^ k by rw [Nat.pow_succ]; omega]
        refine rF_digits_20 hv k (by omega) (by omega) (by omega) ?_
        rw [show i + 1 + (k + 1) = i + (k + 1 + 1) by omega, wr_app' (by simp)]
        exact h
theorem rF_digits_2 {v p : Nat} (hv : v < 2 ^ 31) (hp1 : 1 ≤ p) (hp8 : p ≤ 8) (hu : v < 10 ^ p) (hd : p = 1 ∨ 10 ^ (p - 1) ≤ v) {i : Nat} {f : Nat → Int32} (hi : i + p ≤ 120) (h : K (nI (i + p)) B (wr f i (dgo p v))) : ∀ (g j : Nat), j + g = p - 1 → w_F_digits_2 K (g + 1) (nI i) B f (nI v) (nI (10 ^ j))
  | 0, j, hj => by
    have h1 := p10 (show j ≤ 8 by omega)
    have h2 := p10_pos j
    obtain ⟨q, rfl⟩ : ∃ q, p = q + 1 := ⟨p - 1, by omega⟩
    obtain rfl : j = q := by omega
    refine ⟨nI_ne0 h2 (by omega), fun _ => ⟨j + 2, rF_digits_20 hv j (by omega) (Nat.le_refl _) hi h⟩, fun c => ?_⟩
    rw [nI_div hv (by omega), li_10, nI_ltI (Nat.lt_of_le_of_lt (Nat.div_le_self _ _) hv) (by omega), Nat.div_lt_iff_lt_mul h2, Nat.mul_comm, ← Nat.pow_succ] at c
    exact absurd hu c
  | g + 1, j, hj => by
    have h1 := p10 (show j ≤ 8 by omega)
    have h2 := p10_pos j
    have h3 : 10 ^ (j + 1) ≤ v := by
      rcases hd with hd | hd
      · omega
      · exact Nat.le_trans (Nat.pow_le_pow_right (by decide) (by omega)) hd
    refine ⟨nI_ne0 h2 (by omega), fun c => ?_, fun _ => ?_⟩
    · rw [nI_div hv (by omega), li_10, nI_ltI (Nat.lt_of_le_of_lt (Nat.div_le_self _ _) hv) (by omega), Nat.div_lt_iff_lt_mul h2, Nat.mul_comm, ← Nat.pow_succ] at c
      omega
    · rw [li_10, nI_mul, ← Nat.pow_succ]
      exact rF_digits_2 hv hp1 hp8 hu hd hi h g (j + 1) (by omega)
theorem rF_digits {v i : Nat} (hv : v < 10000000) (hi : i + plc v ≤ 120) (h : K (nI (i + plc v)) B (wr f i (digs v))) : w_F_digits (nI i) B f (nI v) K :=
  ⟨plc v - 1 + 1, rF_digits_2 (by omega) (plc_pos v).1 (by have := (plc_pos v).2; omega) (plc_up hv) plc_dn hi h (plc v - 1) 0 (by omega)⟩
theorem rF_field {t v i : Nat} (ht : t < 10000000) (hv : v < 10000000) (hi : i + (fld t v).length ≤ 120) (h : K (nI (i + (fld t v).length)) B (wr f i (fld t v))) : w_F_field (nI i) B f (nI t) (nI v) K := by
  rw [fld_len] at hi
  refine rF_digits ht (by omega) (rF_put (p := 61) (by omega) (by decide) (rF_digits hv (by omega) (rF_put (p := 1) (by omega) (by decide) ?_)))
  rw [wr_app' (by simp [digs_len]), wr_app' (by simp [digs_len] <;> omega), wr_app' (by simp [digs_len] <;> omega)]
  have e : i + plc t + 1 + plc v + 1 = i + (fld t v).length := by rw [fld_len]; omega
  rw [e]
  have e2 : digs t ++ ([61] ++ (digs v ++ [1])) = fld t v := by simp [fld]
  rw [e2]
  exact h
theorem rF_letter {t c i : Nat} (ht : t < 10000000) (hc : c < 128) (hi : i + (ltr t c).length ≤ 120) (h : K (nI (i + (ltr t c).length)) B (wr f i (ltr t c))) : w_F_letter (nI i) B f (nI t) (nI c) K := by
  rw [ltr_len] at hi
  refine rF_digits ht (by omega) (rF_put (p := 61) (by omega) (by decide) (rF_put (by omega) hc (rF_put (p := 1) (by omega) (by decide) ?_)))
  rw [wr_app' (by simp [digs_len]), wr_app' (by simp [digs_len] <;> omega), wr_app' (by simp [digs_len] <;> omega)]
  have e : i + plc t + 1 + 1 + 1 = i + (ltr t c).length := by rw [ltr_len]; omega
  rw [e]
  have e2 : digs t ++ ([61] ++ ([c] ++ [1])) = ltr t c := by simp [ltr]
  rw [e2]
  exact h
/-- the head of a message: type, number, whether again -/
def hdr (kind n : Nat) (dup : Bool) : List Nat := ltr 35 kind ++ fld 34 n ++ (if dup then ltr 43 89 else [])
theorem hdr_len (kind n : Nat) (dup : Bool) : (hdr kind n dup).length = 5 + (4 + plc n) + (if dup then 5 else 0) := by
  unfold hdr
  rw [List.length_append, List.length_append, ltr_len, fld_len]
  cases dup
  · show plc 35 + 3 + (plc 34 + plc n + 2) + 0 = 5 + (4 + plc n) + 0
    have : plc 35 = 2 := rfl
    have : plc 34 = 2 := rfl
    omega
  · show plc 35 + 3 + (plc 34 + plc n + 2) + 5 = 5 + (4 + plc n) + 5
    have : plc 35 = 2 := rfl
    have : plc 34 = 2 := rfl
    omega
theorem rF_begin {L : Int32} {kind n : Nat} {dup : Bool} (hk : kind < 128) (hn : n < 10000000) (h : K (nI (4 + (hdr kind n dup).length)) (nI 4) (wr f 0 (ltr 8 70 ++ hdr kind n dup))) : w_F_begin L B f (nI kind) (nI n) (if dup then 1 else 0) K := by
  have hpn := (plc_pos n).2
  have h34 : (fld 34 n).length = 4 + plc n := by rw [fld_len]; show 2 + _ + 2 = _; omega
  refine rF_letter (i := 0) (t := 8) (c := 70) (by decide) (by decide) (by decide) ?_
  refine rF_letter (i := 4) (t := 35) (by decide) hk (by rw [ltr_len]; decide) ?_
  rw [ltr_len]
  refine rF_field (i := 4 + 5) (t := 34) (by decide) hn (by omega) ?_
  have e8 : (ltr 8 70).length = 4 := rfl
  have e35 : (ltr 35 kind).length = 5 := rfl
  have ew : wr (wr (wr f 0 (ltr 8 70)) 4 (ltr 35 kind)) (4 + 5) (fld 34 n) = wr f 0 (ltr 8 70 ++ (ltr 35 kind ++ fld 34 n)) := by
    rw [wr_app' (by rw [e35]), wr_app' (by rw [e8])]
  have hl := hdr_len kind n dup
  rw [ew, h34, show nI (0 + (ltr 8 70).length) = nI 4 from rfl]
  cases dup
  · refine ⟨fun _ => ?_, fun c => absurd rfl c⟩
    rw [hl] at h
    simp only [hdr, Bool.false_eq_true, if_false, List.append_nil] at h ⊢
    rw [show 4 + 5 + (4 + plc n) = 4 + (5 + (4 + plc n) + 0) by omega]
    exact h
  · refine ⟨fun c => absurd c (by decide), fun _ => ?_⟩
    refine rF_letter (i := 4 + 5 + (4 + plc n)) (t := 43) (c := 89) (by decide) (by decide) (by show _ + 5 ≤ _; omega) ?_
    rw [wr_app' (by simp [e8, e35, h34] <;> omega)]
    rw [hl] at h
    simp only [hdr, if_true] at h
    rw [show 4 + 5 + (4 + plc n) + (ltr 43 89).length = 4 + (5 + (4 + plc n) + 5) by show _ + 5 = _; omega]
    simp only [List.append_assoc] at h ⊢
    exact h
end RF
/-- sums -/
def ssum (b : Nat → Nat) : Nat → Nat
  | 0 => 0
  | n + 1 => ssum b n + b n
theorem ssum_le {b : Nat → Nat} {n : Nat} (h : ∀ i < n, b i < 128) : ssum b n ≤ 127 * n := by
  induction n with
  | zero => exact Nat.le_refl _
  | succ n ih =>
    have h1 := ih (fun i hi => h i (by omega))
    have h2 := h n (by omega)
    show ssum b n + b n ≤ _
    omega
theorem ssum_eq {b c : Nat → Nat} {n : Nat} (h : ∀ i < n, b i = c i) : ssum b n = ssum c n := by
  induction n with
  | zero => rfl
  | succ n ih =>
    show ssum b n + b n = ssum c n + c n
    rw [ih (fun i hi => h i (by omega)), h n (by omega)]
theorem rF_sum_4 {K : Int32 → Int32 → Int32 → (Nat → Int32) → Prop} {L B : Int32} {f : Nat → Int32} {b : Nat → Nat} {n : Nat} (hn : n ≤ 120) (hf : ∀ i < n, f i = nI (b i)) (hb : ∀ i < n, b i < 128) (h : K (nI (ssum b n % 256)) L B f) : ∀ (g k : Nat), k + g = n → w_F_sum_4 K (g + 1) L B f (nI n) (nI (ssum b k)) (nI k)
  | 0, k, hk => by
    obtain rfl : k = n := by omega
    refine ⟨fun _ => ?_, fun c => absurd (nI_le (Nat.le_refl _) (by omega)) c⟩
    rw [li_255, nI_and255]
    exact h
  | g + 1, k, hk => by
    refine ⟨fun c => ?_, fun _ => ⟨vp_in_nI (by omega) (by decide), ?_⟩⟩
    · rw [nI_leI (by omega) (by omega)] at c
      omega
    · rw [nI_clamp (by omega), hf k (by omega), nI_add, nI_1]
      exact rF_sum_4 hn hf hb h g (k + 1) (by omega)
theorem rF_sum {K : Int32 → Int32 → Int32 → (Nat → Int32) → Prop} {L B : Int32} {f : Nat → Int32} {b : Nat → Nat} {n : Nat} (hn : n ≤ 120) (hf : ∀ i < n, f i = nI (b i)) (hb : ∀ i < n, b i < 128) (h : K (nI (ssum b n % 256)) L B f) : w_F_sum L B f (nI n) K := ⟨n + 1, rF_sum_4 hn hf hb h n 0 (by omega)⟩
/-- a whole frame out of its inner part -/
def frm0 (bd : List Nat) : List Nat := ltr 8 70 ++ (fld 9 bd.length ++ bd)
def tot (bs : List Nat) : Nat := ssum (fun i => bs.getD i 0) bs.length % 256
def tail (s : Nat) : List Nat := [49, 48, 61, 48 + s / 100, 48 + s / 10 % 10, 48 + s % 10, 1]
def frm (bd : List Nat) : List Nat := frm0 bd ++ tail (tot (frm0 bd))
theorem gd_lt {bs : List Nat} (h : ∀ x ∈ bs, x < 128) (i : Nat) : bs.getD i 0 < 128 := by
  rw [List.getD_eq_getElem?_getD]
  cases e : bs[i]? with
  | none => decide
  | some x => exact h x (List.mem_of_getElem? e)
theorem mem_app {a b : List Nat} (h1 : ∀ x ∈ a, x < 128) (h2 : ∀ x ∈ b, x < 128) : ∀ x ∈ a ++ b, x < 128 := fun x hx => (List.mem_append.mp hx).elim (h1 x) (h2 x)
theorem digs_b (v : Nat) : ∀ x ∈ digs v, x < 128 := dgo_byte _ _
theorem fld_b (t v : Nat) : ∀ x ∈ fld t v, x < 128 := by
  intro x hx
  simp only [fld, List.append_assoc, List.mem_append, List.mem_cons, List.not_mem_nil, or_false, List.cons_append] at hx
  rcases hx with h | rfl | h | rfl
  · exact digs_b _ x h
  · decide
  · exact digs_b _ x h
  · decide
theorem ltr_b {t c : Nat} (hc : c < 128) : ∀ x ∈ ltr t c, x < 128 := by
  intro x hx
  simp only [ltr, List.mem_append, List.mem_cons, List.not_mem_nil, or_false] at hx
  rcases hx with h | rfl | rfl | rfl
  · exact digs_b _ x h
  · decide
  · exact hc
  · decide
theorem frm0_b {bd : List Nat} (h : ∀ x ∈ bd, x < 128) : ∀ x ∈ frm0 bd, x < 128 := mem_app (ltr_b (by decide)) (mem_app (fld_b _ _) h)
theorem tail_b {s : Nat} (h : s < 256) : ∀ x ∈ tail s, x < 128 := by
  intro x hx
  simp only [tail, List.mem_cons, List.not_mem_nil, or_false] at hx
  omega
theorem tot_lt (bs : List Nat) : tot bs < 256 := Nat.mod_lt _ (by decide)
theorem frm_b {bd : List Nat} (h : ∀ x ∈ bd, x < 128) : ∀ x ∈ frm bd, x < 128 := mem_app (frm0_b h) (tail_b (tot_lt _))
theorem frm0_len (bd : List Nat) : (frm0 bd).length = 4 + (3 + plc bd.length) + bd.length := by
  unfold frm0
  rw [List.length_append, List.length_append, fld_len, show (ltr 8 70).length = 4 from rfl, show plc 9 = 1 from rfl]
  omega
theorem frm_len (bd : List Nat) : (frm bd).length = 4 + (3 + plc bd.length) + bd.length + 7 := by
  unfold frm
  rw [List.length_append, frm0_len]
  rfl
def xrow (bs : List Nat) (f : Nat → Int32) : Prop := ∀ i < bs.length, f i = nI (bs.getD i 0)
theorem xrow_wr {a b : List Nat} {f : Nat → Int32} (h : xrow a f) : xrow (a ++ b) (wr f a.length b) := by
  intro i hi
  rw [List.length_append] at hi
  by_cases hl : i < a.length
  · rw [wr_out (Or.inl hl), gd_l hl, h i hl]
  · rw [wr_at (by omega), gd_r (by omega)]
theorem xrow_wr0 (b : List Nat) (f : Nat → Int32) : xrow b (wr f 0 b) := fun i hi => by rw [wr_at (by omega), Nat.sub_zero]
def kF (K : Int32 → Int32 → (Nat → Int32) → Prop) : Int32 → Int32 → Int32 → (Nat → Int32) → Prop := fun x6 L7 B8 f9 => (w_F_digits L7 B8 f9 10 (fun L11 B12 f13 => (w_F_put L11 B12 f13 61 (fun L15 B16 f17 => (w_F_put L15 B16 f17 (48 + (x6 / 100)) (fun L19 B20 f21 => (w_F_put L19 B20 f21 (48 + ((x6 / 10) - (x6 / 10) / 10 * 10)) (fun L23 B24 f25 => (w_F_put L23 B24 f25 (48 + (x6 - x6 / 10 * 10)) (fun L27 B28 f29 => (w_F_put L27 B28 f29 1 (fun L31 B32 f33 => (K L31 B32 f33)))))))))))))
section RE
variable {K : Int32 → Int32 → (Nat → Int32) → Prop} {f : Nat → Int32}
theorem rF_close {bs : List Nat} {B : Int32} (hb : ∀ x ∈ bs, x < 128) (hl : bs.length + 7 ≤ 120) (hf : xrow bs f) (h : ∀ f', xrow (bs ++ tail (tot bs)) f' → K (nI (bs.length + 7)) B f') : w_F_sum (nI bs.length) B f (nI bs.length) (kF K) := by
  refine rF_sum (b := fun i => bs.getD i 0) (by omega) hf (fun i _ => gd_lt hb i) ?_
  show w_F_digits _ _ _ (nI 10) _
  have ht := tot_lt bs
  rw [show ssum (fun i => bs.getD i 0) bs.length % 256 = tot bs from rfl]
  refine rF_digits (by decide) (by show _ + 2 ≤ _; omega) ?_
  refine rF_put (p := 61) (by show _ + 2 < _; omega) (by decide) ?_
  have e1 : (48 : Int32) + nI (tot bs) / 100 = nI (48 + tot bs / 100) := by rw [li_48, li_100, nI_div (by omega) (by omega), nI_add]
  have e2 : (48 : Int32) + (nI (tot bs) / 10 - nI (tot bs) / 10 / 10 * 10) = nI (48 + tot bs / 10 % 10) := by rw [li_48, li_10, nI_div (by omega) (by omega), nI_mod (by omega) (by omega), nI_add]
  have e3 : (48 : Int32) + (nI (tot bs) - nI (tot bs) / 10 * 10) = nI (48 + tot bs % 10) := by rw [li_48, li_10, nI_mod (by omega) (by omega), nI_add]
  rw [e1, e2, e3, show plc 10 = 2 from rfl]
  refine rF_put (by omega) (by omega) (rF_put (by omega) (by omega) (rF_put (by omega) (by omega) (rF_put (p := 1) (by omega) (by decide) ?_)))
  refine h _ ?_
  have e : wr (wr (wr (wr (wr (wr f bs.length (digs 10)) (bs.length + 2) [61]) (bs.length + 2 + 1) [48 + tot bs / 100]) (bs.length + 2 + 1 + 1) [48 + tot bs / 10 % 10]) (bs.length + 2 + 1 + 1 + 1) [48 + tot bs % 10]) (bs.length + 2 + 1 + 1 + 1 + 1) [1] = wr f bs.length (tail (tot bs)) := by
    rw [wr_app' (by rfl), wr_app' (by rfl), wr_app' (by rfl), wr_app' (by rfl), wr_app' (by rfl)]
    rfl
  rw [e]
  exact xrow_wr hf
theorem rF_end_40 {n wd v1 : Nat} {f0 : Nat → Int32} {b : Nat → Nat} (hw : 4 + n + wd ≤ 120) (hb : ∀ i < 4 + n, f0 i = nI (b i) ∧ b i < 128)
    (h : ∀ g, (∀ j < 4 + wd, g j = f0 j) → (∀ j, 4 ≤ j → j < 4 + n → g (j + wd) = f0 j) → (w_F_field (nI 4) (nI 4) g 9 (nI v1) (fun L3 B4 f5 => (w_F_sum (L3 + nI v1) B4 f5 (L3 + nI v1) (kF K))))) : ∀ (m k : Nat) (g : Nat → Int32) (L : Int32), k = 4 + m → k ≤ 4 + n → (∀ j < k + wd, g j = f0 j) → (∀ j, k ≤ j → j < 4 + n → g (j + wd) = f0 j) → w_F_end_40 K (m + 1) L (nI 4) g (nI v1) (nI wd) (nI k + (-1))
  | 0, k, g, L, hk, hk2, h1, h2 => by
    obtain rfl : k = 4 := by omega
    refine ⟨fun _ => h g h1 h2, fun c => absurd (by decide) c⟩
  | m + 1, k, g, L, hk, hk2, h1, h2 => by
    obtain ⟨q, rfl⟩ : ∃ q, k = q + 1 := ⟨k - 1, by omega⟩
    have e : nI (q + 1) + (-1) = nI q := by
      rw [← nI_1, Int32.add_assoc]
      exact Int32.add_zero _
    rw [e]
    refine ⟨fun c => ?_, fun _ => ⟨vp_in_nI (by omega) (by decide), ?_, ?_⟩⟩
    · rw [nI_ltI (by omega) (by omega)] at c
      omega
    · rw [nI_add]
      exact vp_in_nI (by omega) (by decide)
    · rw [nI_add, nI_clamp (by omega), nI_clamp (by omega), h1 q (by omega), (hb q (by omega)).1, nI_byte1 _ (hb q (by omega)).2]
      refine rF_end_40 hw hb h m q _ L (by omega) (by omega) (fun j hj => ?_) (fun j hj1 hj2 => ?_)
      · rw [upd_ne _ _ (by omega), h1 j (by omega)]
      · by_cases hq : j = q
        · subst hq
          rw [upd_at, (hb j (by omega)).1]
        · rw [upd_ne _ _ (by omega), h2 j (by omega) hj2]
theorem rF_end {bd : List Nat} (hb : ∀ x ∈ bd, x < 128) (hl : 1 ≤ bd.length ∧ bd.length ≤ 99) (hf : xrow (ltr 8 70 ++ bd) f) (h : ∀ f', xrow (frm bd) f' → K (nI (frm bd).length) (nI 4) f') : w_F_end (nI (4 + bd.length)) (nI 4) f K := by
  have e4 : (ltr 8 70).length = 4 := rfl
  have hpl : plc bd.length ≤ 2 := by unfold plc; (repeat' split) <;> omega
  have key : ∀ wd, wd = 3 + plc bd.length → w_F_end_33 K (nI (4 + bd.length)) (nI 4) f (nI bd.length) (nI wd) := by
    intro wd hwd
    refine ⟨bd.length + 1, ?_⟩
    rw [show nI (4 + bd.length) - 1 = nI (4 + bd.length) + (-1) from Int32.sub_eq_add_neg _ _]
    refine rF_end_40 (n := bd.length) (f0 := f) (b := fun i => (ltr 8 70 ++ bd).getD i 0) (by omega) (fun i hi => ⟨hf i (by rw [List.length_append, e4]; exact hi), gd_lt (mem_app (ltr_b (by decide)) hb) i⟩) (fun g hg1 hg2 => ?_) bd.length (4 + bd.length) f _ rfl (Nat.le_refl _) (fun _ _ => rfl) (fun j h1 h2 => by omega)
    have h9 : (fld 9 bd.length).length = wd := by rw [fld_len, hwd]; show 1 + _ + 2 = _; omega
    refine rF_field (i := 4) (t := 9) (by decide) (by omega) (by omega) ?_
    rw [h9, nI_add, show 4 + wd + bd.length = (frm0 bd).length by rw [frm0_len]; omega]
    refine rF_close (frm0_b hb) (by rw [frm0_len]; omega) ?_ (fun f' hf' => ?_)
    · intro i hi
      rw [frm0_len] at hi
      unfold frm0
      by_cases c1 : i < 4
      · rw [gd_l (by omega), wr_out (Or.inl c1), hg1 i (by omega), hf i (by rw [List.length_append]; omega), gd_l (by omega)]
      · by_cases c2 : i < 4 + wd
        · rw [gd_r (by omega), gd_l (by omega), wr_at (by omega), e4]
        · rw [gd_r (by omega), gd_r (by omega), wr_out (by omega)]
          have h3 := hg2 (i - wd) (by omega) (by omega)
          rw [show i - wd + wd = i by omega] at h3
          rw [h3, hf (i - wd) (by rw [List.length_append]; omega), gd_r (by omega)]
          congr 2
          omega
    · rw [show (frm0 bd).length + 7 = (frm bd).length by rw [frm_len, frm0_len]]
      exact h f' hf'
  unfold w_F_end
  rw [nI_sub (by omega), show 4 + bd.length - 4 = bd.length by omega]
  refine ⟨fun _ => ⟨fun c => ?_, fun c => ?_⟩, fun c => ?_⟩
  · rw [li_9, nI_leI (by omega) (by omega)] at c
    exact key 4 (by unfold plc; rw [if_pos (by omega)])
  · rw [li_9, nI_leI (by omega) (by omega)] at c
    exact key 5 (by unfold plc; rw [if_neg (by omega), if_pos (by omega)])
  · rw [li_99, nI_leI (by omega) (by omega)] at c
    omega
end RE
