/-! ===== the scanner: a whole frame (printed by gen54.py) ===== -/
def ty (x : Nat) : Nat := if x = 48 then 1 else if x = 49 then 2 else if x = 50 then 3 else if x = 52 then 4 else if x = 53 then 5 else if x = 65 then 6 else if x = 68 then 7 else if x = 70 then 8 else if x = 71 then 9 else if x = 56 then 10 else 0
theorem ty_m {x : Nat} (h : x ∈ mkinds) : ty x = tno x := by
  refine mcase (P := fun x => ty x = tno x) h ?_ ?_ ?_ ?_ ?_ ?_ ?_ ?_ ?_ <;> rfl
theorem ty_no {x : Nat} (h : x ∉ mkinds) : ty x = 10 ∨ ty x = 0 := by
  simp only [mkinds, List.mem_cons, List.not_mem_nil, or_false] at h
  unfold ty
  (repeat' split) <;> first | omega | exact Or.inl rfl | exact Or.inr rfl
theorem rT_typeOf {K : Nat → Prop} {x : Nat} (hx : x < 128) (h : K (ty x)) : w_T_typeOf (nI x) K := by
  unfold w_T_typeOf
  rw [nI_toInt (by omega)]
  refine ⟨fun e => ?_, fun e => ?_, fun e => ?_, fun e => ?_, fun e => ?_, fun e => ?_, fun e => ?_, fun e => ?_, fun e => ?_, fun e => ?_, fun e => ?_, fun e => ?_, fun e => ?_, fun e => ?_, fun e => ?_, fun e => ?_, fun e => ?_, fun e => ?_, fun e => ?_, fun e => ?_, fun e => ?_, fun e => ?_, fun e => ?_, fun e => ?_, fun e => ?_⟩
  · have : ty x = 0 := by
      unfold ty
      (repeat' split) <;> omega
    rw [this] at h
    exact h
  · obtain rfl : x = 48 := by omega
    exact h
  · obtain rfl : x = 49 := by omega
    exact h
  · obtain rfl : x = 50 := by omega
    exact h
  · obtain rfl : x = 51 := by omega
    exact h
  · obtain rfl : x = 52 := by omega
    exact h
  · obtain rfl : x = 53 := by omega
    exact h
  · obtain rfl : x = 54 := by omega
    exact h
  · obtain rfl : x = 55 := by omega
    exact h
  · obtain rfl : x = 56 := by omega
    exact h
  · obtain rfl : x = 57 := by omega
    exact h
  · obtain rfl : x = 58 := by omega
    exact h
  · obtain rfl : x = 59 := by omega
    exact h
  · obtain rfl : x = 60 := by omega
    exact h
  · obtain rfl : x = 61 := by omega
    exact h
  · obtain rfl : x = 62 := by omega
    exact h
  · obtain rfl : x = 63 := by omega
    exact h
  · obtain rfl : x = 64 := by omega
    exact h
  · obtain rfl : x = 65 := by omega
    exact h
  · obtain rfl : x = 66 := by omega
    exact h
  · obtain rfl : x = 67 := by omega
    exact h
  · obtain rfl : x = 68 := by omega
    exact h
  · obtain rfl : x = 69 := by omega
    exact h
  · obtain rfl : x = 70 := by omega
    exact h
  · obtain rfl : x = 71 := by omega
    exact h
def pK : Nat → Nat → List Nat → Option Nat
  | 0, sum, s => if s = [1] then some sum else none
  | _ + 1, _, [] => none
  | k + 1, sum, x :: s => if 48 ≤ x ∧ x ≤ 57 then pK k (10 * sum + (x - 48)) s else none
def prs3 (bs s6 : List Nat) (m : Nat × Nat × Nat × Nat × Nat × Nat) : Option (Nat × Nat × Nat × Nat × Nat × Nat) :=
  if pst 10 s6 then (match pK 3 0 (s6.drop 3) with
    | none => none
    | some sum => if sum = ssum (fun i => bs.getD i 0) (bs.length - s6.length) % 256 then some m else none) else none
def prs2 (bs : List Nat) (len : Nat) (s2 : List Nat) (t n d : Nat) (s5 : List Nat) : Option (Nat × Nat × Nat × Nat × Nat × Nat) :=
  match pB t s5 with
    | none => none
    | some (a, b, v, s6) => if s2.length - s6.length = len then prs3 bs s6 (t, n, d, a, b, v) else none
def prs1 (bs : List Nat) (len : Nat) (s2 : List Nat) (t : Nat) (s3 : List Nat) : Option (Nat × Nat × Nat × Nat × Nat × Nat) :=
  match pN 34 s3 with
    | none => none
    | some (n, s4) => if pst 43 s4 then (match pL 43 s4 with
        | none => none
        | some (y, s5) => if y = 89 then prs2 bs len s2 t n 1 s5 else none) else prs2 bs len s2 t n 0 s4
def prs0 (bs s1 : List Nat) : Option (Nat × Nat × Nat × Nat × Nat × Nat) :=
  match pN 9 s1 with
    | none => none
    | some (len, s2) => match pL 35 s2 with
      | none => none
      | some (t, s3) => if t ∈ mkinds then prs1 bs len s2 t s3 else none
def prs (bs : List Nat) : Option (Nat × Nat × Nat × Nat × Nat × Nat) :=
  match pL 8 bs with
    | none => none
    | some (x, s1) => if x = 70 then prs0 bs s1 else none
theorem sc_len {bs s : List Nat} {S : XS} (h : sc bs s S) : s.length ≤ bs.length ∧ gF S 401 = nI (bs.length - s.length) ∧ bs.length ≤ 120 := by
  obtain ⟨⟨pre, a1, a2⟩, a3, a4, a5, a6, a7⟩ := h
  have hl : bs.length = pre.length + s.length := by rw [a1, List.length_append]
  exact ⟨by omega, by rw [a2]; congr 1; omega, a5⟩
theorem pD_len : ∀ (s : List Nat) (c v n : Nat) {w : Nat} {s' : List Nat}, pD s c v n = some (w, s') → s'.length ≤ s.length
  | [], c, v, n, w, s', h => by
    unfold pD at h
    split at h
    · cases h
    · unfold pEnd at h
      split at h
      · cases h; exact Nat.le_refl _
      · cases h
  | c' :: s, c, v, n, w, s', h => by
    unfold pD at h
    split at h
    · exact Nat.le_succ_of_le (pD_len s _ _ _ h)
    · unfold pEnd at h
      split at h
      · cases h; exact Nat.le_refl _
      · cases h
theorem pN_len {tag : Nat} {s s' : List Nat} {v : Nat} (h : pN tag s = some (v, s')) : s'.length ≤ s.length := by
  unfold pN at h
  split at h
  · have hd : (s.drop (plc tag + 1)).length ≤ s.length := by rw [List.length_drop]; omega
    cases e : s.drop (plc tag + 1) with
    | nil => rw [e] at h; cases h
    | cons c s2 =>
      rw [e] at h hd
      have := pD_len s2 c 0 0 h
      simp only [List.length_cons] at hd
      omega
  · cases h
theorem pL_len {tag : Nat} {s s' : List Nat} {v : Nat} (h : pL tag s = some (v, s')) : s'.length ≤ s.length := by
  unfold pL at h
  split at h
  · have hd : (s.drop (plc tag + 1)).length ≤ s.length := by rw [List.length_drop]; omega
    cases e : s.drop (plc tag + 1) with
    | nil => rw [e] at h; cases h
    | cons c s2 =>
      cases s2 with
      | nil => rw [e] at h; cases h
      | cons y s3 =>
        rw [e] at h hd
        have h2 : (if (32 < c ∧ c < 127) ∧ y = 1 then some (c, s3) else none) = some (v, s') := h
        split at h2
        · cases h2
          simp only [List.length_cons] at hd
          omega
        · cases h2
  · cases h
theorem pB3_len {t a b : Nat} {s s' : List Nat} {x y v : Nat} (h : pB3 t a b s = some (x, y, v, s')) : s'.length ≤ s.length := by
  unfold pB3 at h
  split at h
  · cases h; exact Nat.le_refl _
  · split at h
    · cases h
    · rename_i e
      cases h
      exact pN_len e
theorem pB_len {t : Nat} {s s' : List Nat} {x y v : Nat} (h : pB t s = some (x, y, v, s')) : s'.length ≤ s.length := by
  unfold pB at h
  split at h
  · cases h; exact Nat.le_refl _
  · split at h
    · cases h
    · rename_i e
      have h1 := pN_len e
      unfold pB2 at h
      split at h
      · split at h
        · cases h
        · rename_i e2
          have h2 := pL_len e2
          split at h
          · have := pB3_len h; omega
          · cases h
      · split at h
        · have := pB3_len h; omega
        · split at h
          · cases h
          · rename_i e2
            have h2 := pN_len e2
            have := pB3_len h
            omega
section SC3
variable {S : XS} {r : List AE} {KT : Nat → XS → List AE → Prop} {bs s : List Nat} {K : XS → List AE → Prop}
theorem rS_181 {e : Nat} (hb : bud r) (he : e ≤ bs.length) : ∀ (g k sum : Nat) (s : List Nat) (S : XS), k + g = 3 → sum < 10 ^ k → sc bs s S → (∀ w, pK g sum s = some w → w ≠ ssum (fun i => bs.getD i 0) e % 256 → FL KT S r) → (pK g sum s = none → FL KT S r) → (∀ w, pK g sum s = some w → w = ssum (fun i => bs.getD i 0) e % 256 → ∀ S', (∀ k, k ≠ 401 → gF S' k = gF S k) → kS S S' → gR S' 300 = gR S 300 → K S' r) → w_S_scan_181 K KT (g + 1) S r (nI e) (nI sum) (nI k)
  | 0, k, sum, s, S, hk, hs6, hs, h0, h1, h2 => by
    have hp : 10 ^ k ≤ 1000 := Nat.pow_le_pow_right (n := 10) (by decide) (show k ≤ 3 by omega)
    refine ⟨fun _ => ?_, fun c => absurd (by rw [li_3]; exact nI_le (by omega) (by omega)) c⟩
    refine rS_next hs hb (fun w => ?_) (fun x s' w hx S1 p1 p2 => ?_)
    · subst w
      exact h1 rfl S (kS.refl S)
    · subst w
      obtain ⟨l1, l2, l3⟩ := sc_len p1
      have a4 : gF S1 101 = nI bs.length := p1.2.2.1
      have bad : ¬ (x :: s' = [1]) → w_S_scan_268 K KT S1 r := by
        intro w
        exact need0 hb (h1 (if_neg w) S1 p2.s)
      refine ⟨fun i => bad (fun w => ?_), fun i => ⟨fun j => bad (fun w => ?_), fun j => ?_⟩⟩
      · cases w
        exact i rfl
      · cases w
        rw [l2, a4] at j
        exact j rfl
      · rw [li_1, nI_eq (by omega) (by omega)] at i
        rw [l2, a4, nI_eq (by omega) (by omega)] at j
        have hnil : s' = [] := by
          cases s' with
          | nil => rfl
          | cons y ys => simp at l1 j; omega
        have e1 : pK 0 sum (x :: s') = some sum := by
          rw [i, hnil]
          rfl
        obtain ⟨-, a3, a4', a5, a6, a7⟩ := p1
        refine rF_sum (b := fun i => bs.getD i 0) (by omega) (fun i hi => a7 i (by omega)) (fun i _ => gd_lt a6 i) ?_
        have kz : kS S (sA (sF (sF S1 101 (gF S1 101)) 102 (gF S1 102)) 2 (gA S1 2)) := by
          refine p2.s.trans ⟨fun k hk => ?_, fun j => ?_, fun _ _ _ => rfl, fun _ => rfl, rfl⟩
          · rw [gF_sA, gF_sF]
            split
            · rename_i w; rw [w]
            · rw [gF_sF]
              split
              · rename_i w; rw [w]
              · rfl
          · rw [gA_sA]
            split
            · rename_i w; rw [w]
            · rfl
        have hlt : ssum (fun i => bs.getD i 0) e % 256 < 256 := Nat.mod_lt _ (by decide)
        refine ⟨fun w => need0 hb (h0 sum e1 (fun z => w (by rw [z])) _ kz), fun w => need1 (h2 sum e1 ?_ _ (fun k hk => ?_) kz (p2.2.2.1 300))⟩
        · rw [nI_eq (by omega) (by omega)] at w
          exact w
        · rw [gF_sA, gF_sF]
          split
          · rename_i w; rw [w]; exact p2.1 102 (by decide)
          · rw [gF_sF]
            split
            · rename_i w; rw [w]; exact p2.1 101 (by decide)
            · exact p2.1 k hk
  | g + 1, k, sum, s, S, hk, hs6, hs, h0, h1, h2 => by
    have hp : 10 ^ k ≤ 100 := Nat.pow_le_pow_right (n := 10) (by decide) (show k ≤ 2 by omega)
    refine ⟨fun c => ?_, fun _ => rS_next hs hb (fun w => ?_) (fun x s' w hx S1 p1 p2 => ?_)⟩
    · rw [li_3, nI_leI (by omega) (by omega)] at c
      omega
    · subst w
      exact h1 rfl S (kS.refl S)
    · subst w
      have bad : ¬ (48 ≤ x ∧ x ≤ 57) → FL KT S r := fun w => h1 (if_neg w)
      refine ⟨fun i => need0 hb (bad ?_ S1 p2.s), fun i => ⟨fun j => need0 hb (bad ?_ S1 p2.s), fun j => need1 ?_⟩⟩
      · rw [li_48, nI_ltI (by omega) (by omega)] at i; omega
      · rw [li_57, nI_ltI (by omega) (by omega)] at j; omega
      · rw [li_48, nI_ltI (by omega) (by omega)] at i
        rw [li_57, nI_ltI (by omega) (by omega)] at j
        have e2 : pK (g + 1) sum (x :: s') = pK g (10 * sum + (x - 48)) s' := if_pos (by omega)
        rw [e2] at h0 h1 h2
        have e3 : (10 : Int32) * nI sum + nI x - 48 = nI (10 * sum + (x - 48)) := by
          rw [li_10, nI_mul, nI_add, li_48, nI_sub (by omega)]
          congr 1
          omega
        show w_S_scan_181 K KT (g + 1) S1 r (nI e) ((10 : Int32) * nI sum + nI x - 48) (nI k + 1)
        rw [e3, nI_1]
        exact rS_181 hb he g (k + 1) _ s' S1 (by omega) (by rw [Nat.pow_succ]; omega) p1 (fun w q1 q2 => (h0 w q1 q2).go p2.s) (fun w => (h1 w).go p2.s) (fun w q1 q2 S' q3 q4 q5 => h2 w q1 q2 S' (fun k hk => (q3 k hk).trans (p2.1 k hk)) (p2.s.trans q4) (q5.trans (p2.2.2.1 300)))
theorem rS_169 {m : Nat × Nat × Nat × Nat × Nat × Nat} (hs : sc bs s S) (hb : bud r) (h0 : prs3 bs s m = none → FL KT S r) (h1 : prs3 bs s m = some m → ∀ S', (∀ k, k ≠ 401 → gF S' k = gF S k) → kS S S' → gR S' 300 = gR S 300 → K S' r) : w_S_scan_169 K KT S r (nI (bs.length - s.length)) := by
  unfold prs3 at h0 h1
  refine rS_tag (tag := 10) (by decide) hs hb (fun w => ?_) (fun s' w S1 p1 p2 => ?_)
  · rw [w] at h0
    exact h0 rfl S (kS.refl S)
  · have hd : s.drop 3 = s' := by rw [w]; exact drop_tag (tag := 10)
    have hp : pst 10 s = true := by rw [w]; exact pst_tag
    rw [hp, hd] at h0 h1
    simp only [if_true] at h0 h1
    refine ⟨4, rS_181 hb (Nat.sub_le _ _) 3 0 0 s' S1 rfl (by decide) p1 (fun x q1 q2 => ?_) (fun q1 => ?_) (fun x q1 q2 S' q3 q4 q5 => ?_)⟩
    · rw [q1] at h0
      simp only [if_neg q2] at h0
      exact (h0 trivial).go p2.s
    · rw [q1] at h0
      exact (h0 rfl).go p2.s
    · rw [q1] at h1
      simp only [if_pos q2] at h1
      exact h1 trivial S' (fun k hk => (q3 k hk).trans (p2.1 k hk)) (p2.s.trans q4) (q5.trans (p2.2.2.1 300))
theorem rS_141 {len t n d : Nat} {s2 : List Nat} (ht : t ∈ mkinds) (hs : sc bs s S) (hb : bud r) (hl2 : s2.length ≤ bs.length) (hl3 : s.length ≤ s2.length) (hlen : len < 1000000) (hn : n < 1000000) (hd : d ≤ 1) (g0 : gR S 300 = tno t) (g1 : gF S 301 = nI n) (g2 : gF S 302 = nI d) (g3 : gF S 303 = 0) (g4 : gF S 304 = 0) (g5 : gF S 305 = 0) (h0 : prs2 bs len s2 t n d s = none → FL KT S r) (h1 : ∀ a b v, prs2 bs len s2 t n d s = some (t, n, d, a, b, v) → mok t n d a b v → ∀ S', kS S S' → msgT t n d a b v S' → K S' r) : w_S_scan_141 K KT S r (nI len) (nI (bs.length - s2.length)) := by
  unfold prs2 at h0 h1
  have hlq := sc_len hs
  refine rS_type ht hs hb g0 g3 g4 g5 (fun w => ?_) (fun a b v s6 w hab S1 p1 p2 p3 p4 p5 p6 p7 p8 => ?_)
  · rw [w] at h0
    exact h0 rfl
  · rw [w] at h0 h1
    simp only at h0 h1
    obtain ⟨l1, l2, l3⟩ := sc_len p1
    rw [l2]
    have hfin : s2.length - s6.length = len → w_S_scan_169 K KT S1 r (nI (bs.length - s6.length)) := by
      intro hq
      rw [if_pos hq] at h0 h1
      refine rS_169 (m := (t, n, d, a, b, v)) p1 hb (fun w => (h0 w).go p2) (fun w S' q1 q2 q3 => h1 a b v w ⟨ht, hn, hd, hab.1, hab.2.1, hab.2.2.1, hab.2.2.2⟩ S' (p2.trans q2) ⟨q3.trans (p3.trans g0), ?_, ?_, ?_, ?_, ?_⟩)
      · exact (q1 301 (by decide)).trans (p4.trans g1)
      · exact (q1 302 (by decide)).trans (p5.trans g2)
      · exact (q1 303 (by decide)).trans p6
      · exact (q1 304 (by decide)).trans p7
      · exact (q1 305 (by decide)).trans p8
    have hle : s6.length ≤ s2.length := by
      have := pB_len w
      omega
    rw [nI_sub (by omega)]
    refine ⟨fun e => need0 hb ?_, fun e => need1 (hfin ?_)⟩
    · rw [nI_eq (by omega) (by omega)] at e
      rw [if_neg (by omega)] at h0
      exact h0 rfl S1 p2
    · rw [nI_eq (by omega) (by omega)] at e
      omega
theorem bool_ok : ∀ b : Bool, narrow .boolean (.int (if b then 1 else 0)) = .int (if b then 1 else 0) ∧ fits .boolean (.int (if b then 1 else 0)) = true := by
  intro b
  cases b <;> exact ⟨rfl, rfl⟩
theorem rS_95 {len t : Nat} {s2 : List Nat} (ht : t ∈ mkinds) (hs : sc bs s S) (hb : bud r) (hl2 : s2.length ≤ bs.length) (hl3 : s.length ≤ s2.length) (hlen : len < 1000000) (g0 : gR S 300 = tno t) (g3 : gF S 303 = 0) (g4 : gF S 304 = 0) (g5 : gF S 305 = 0) (h0 : prs1 bs len s2 t s = none → FL KT S r) (h1 : ∀ n d a b v, prs1 bs len s2 t s = some (t, n, d, a, b, v) → mok t n d a b v → ∀ S', kS S S' → msgT t n d a b v S' → K S' r) : w_S_scan_95 K KT S r (nI len) (nI (bs.length - s2.length)) := by
  unfold prs1 at h0 h1
  refine rS_number (tag := 34) (by decide) hs hb (fun w => ?_) (fun n s4 w hn S1 p1 p2 => ?_)
  · rw [w] at h0
    exact h0 rfl
  · have hl4 := pN_len w
    rw [w] at h0 h1
    simp only at h0 h1
    have p1' : sc bs s4 (sF S1 301 (nI n)) := p1.keep (by decide) (by decide)
    have k1 : kS S (sF S1 301 (nI n)) := p2.s.trans (kS_sF (by decide))
    have q0 : gR (sF S1 301 (nI n)) 300 = tno t := (p2.2.2.1 300).trans g0
    have q1 : gF (sF S1 301 (nI n)) 301 = nI n := by rw [gF_sF, if_pos rfl]
    have q3 : gF (sF S1 301 (nI n)) 303 = 0 := by rw [gF_sF, if_neg (by decide)]; exact (p2.1 303 (by decide)).trans g3
    have q4 : gF (sF S1 301 (nI n)) 304 = 0 := by rw [gF_sF, if_neg (by decide)]; exact (p2.1 304 (by decide)).trans g4
    have q5 : gF (sF S1 301 (nI n)) 305 = 0 := by rw [gF_sF, if_neg (by decide)]; exact (p2.1 305 (by decide)).trans g5
    generalize sF S1 301 (nI n) = S2 at *
    refine rS_stands (tag := 43) (by decide) p1' ⟨bool_ok _, ?_⟩
    have k2 : ∀ x : Int32, kS S (sF S2 302 x) := fun x => k1.trans (kS_sF (by decide))
    cases e : pst 43 s4
    · rw [e] at h0 h1
      simp only [Bool.false_eq_true, if_false] at h0 h1
      refine ⟨fun _ => ?_, fun w => absurd rfl w⟩
      exact rS_141 (d := 0) ht (p1'.keep (by decide) (by decide)) hb hl2 (by omega) hlen hn (by decide) q0 (by rw [gF_sF, if_neg (by decide)]; exact q1) (by rw [gF_sF, if_pos rfl]; rfl) (by rw [gF_sF, if_neg (by decide)]; exact q3) (by rw [gF_sF, if_neg (by decide)]; exact q4) (by rw [gF_sF, if_neg (by decide)]; exact q5) (fun w => (h0 w).go (k2 _)) (fun a b v z1 z2 S' z3 z4 => h1 n 0 a b v z1 z2 S' ((k2 _).trans z3) z4)
    · rw [e] at h0 h1
      simp only [if_true] at h0 h1
      refine ⟨fun w => absurd w (by decide), fun _ => ?_⟩
      refine rS_letter (tag := 43) (by decide) (p1'.keep (k := 302) (by decide) (by decide)) hb (fun w => ?_) (fun y s5 w hy S3 y1 y2 => ?_)
      · rw [w] at h0
        exact (h0 rfl).go (k2 _)
      · have hl5 := pL_len w
        rw [w] at h0 h1
        simp only at h0 h1
        have k3 : kS S S3 := (k2 _).trans y2.s
        refine ⟨fun i => need0 hb ?_, fun i => need1 ?_⟩
        · rw [li_89, nI_eq (by omega) (by omega)] at i
          rw [if_neg i] at h0
          exact h0 rfl S3 k3
        · rw [li_89, nI_eq (by omega) (by omega)] at i
          rw [if_pos i] at h0 h1
          refine rS_141 (d := 1) ht y1 hb hl2 (by omega) hlen hn (by decide) ((y2.2.2.1 300).trans q0) ?_ ?_ ?_ ?_ ?_ (fun w => (h0 w).go k3) (fun a b v z1 z2 S' z3 z4 => h1 n 1 a b v z1 z2 S' (k3.trans z3) z4)
          · rw [y2.1 301 (by decide), gF_sF, if_neg (by decide)]; exact q1
          · rw [y2.1 302 (by decide), gF_sF, if_pos rfl]; rfl
          · rw [y2.1 303 (by decide), gF_sF, if_neg (by decide)]; exact q3
          · rw [y2.1 304 (by decide), gF_sF, if_neg (by decide)]; exact q4
          · rw [y2.1 305 (by decide), gF_sF, if_neg (by decide)]; exact q5
theorem rS_44 (hs : sc bs s S) (hb : bud r) (g3 : gF S 303 = 0) (g4 : gF S 304 = 0) (g5 : gF S 305 = 0) (h0 : prs0 bs s = none → FL KT S r) (h1 : ∀ t n d a b v, prs0 bs s = some (t, n, d, a, b, v) → mok t n d a b v → ∀ S', kS S S' → msgT t n d a b v S' → K S' r) : w_S_scan_44 K KT S r := by
  unfold prs0 at h0 h1
  refine rS_number (tag := 9) (by decide) hs hb (fun w => ?_) (fun len s2 w hlen S1 p1 p2 => ?_)
  · rw [w] at h0
    exact h0 rfl
  · rw [w] at h0 h1
    simp only at h0 h1
    obtain ⟨l1, l2, l3⟩ := sc_len p1
    rw [l2]
    refine rS_letter (tag := 35) (by decide) p1 hb (fun w => ?_) (fun t s3 w ht S2 y1 y2 => ?_)
    · rw [w] at h0
      exact (h0 rfl).go p2.s
    · have hl5 := pL_len w
      rw [w] at h0 h1
      simp only at h0 h1
      have k2 : ∀ x, kS S (sR S2 300 x) := fun x => (p2.s.trans y2.s).trans (kS_sR (Or.inl rfl))
      refine rT_typeOf (by omega) ?_
      by_cases hm : t ∈ mkinds
      · have hty := ty_m hm
        have hr := @tno_r t
        rw [hty]
        simp only [if_pos hm] at h0 h1
        refine ⟨fun e => absurd e (by omega), fun _ => ⟨by omega, fun e => absurd e (by omega), fun _ => need1 ?_⟩⟩
        refine rS_95 hm y1.keepR hb l1 (by omega) hlen (by rw [gR_sR, if_pos rfl]) ?_ ?_ ?_ (fun w => (h0 w).go (k2 _)) (fun n d a b v z1 z2 S' z3 z4 => h1 t n d a b v z1 z2 S' ((k2 _).trans z3) z4)
        · exact (y2.1 303 (by decide)).trans ((p2.1 303 (by decide)).trans g3)
        · exact (y2.1 304 (by decide)).trans ((p2.1 304 (by decide)).trans g4)
        · exact (y2.1 305 (by decide)).trans ((p2.1 305 (by decide)).trans g5)
      · simp only [if_neg hm] at h0
        have bad := h0 trivial
        rcases ty_no hm with e | e
        · rw [e]
          exact ⟨fun w => absurd w (by decide), fun _ => ⟨by decide, fun _ => need0 hb (bad _ (k2 _)), fun w => absurd rfl w⟩⟩
        · rw [e]
          exact ⟨fun _ => need0 hb (bad _ (k2 _)), fun w => absurd rfl w⟩
/-- the inbox of the component -/
def TI (ib : List Nat) (S : XS) : Prop := gF S 101 = nI ib.length ∧ ib.length ≤ 120 ∧ (∀ x ∈ ib, x < 128) ∧ xrow ib (gA S 2)
theorem rT_garbled {K : Int32 → XS → List AE → Prop} {ib : List Nat} (hI : TI ib S) (hb : bud r) (h0 : prs ib = none → ∀ S', kS S S' → K 1 S' (r ++ [xO 7 []])) (h1 : ∀ t n d a b v, prs ib = some (t, n, d, a, b, v) → mok t n d a b v → ∀ S', kS S S' → msgT t n d a b v S' → K 0 S' r) : w_T_garbled S r K := by
  obtain ⟨i1, i2, i3, i4⟩ := hI
  have h0' : prs ib = none → FL (fun ci S r => ci = 7 ∧ K 1 S r) S r := fun w S' k => ⟨rfl, h0 w S' k⟩
  unfold w_T_garbled w_S_scan
  have k0 : kS S (sF (sF (sF (sF (sR S 400 17) 401 0) 303 0) 304 0) 305 0) := ((((kS_sR (Or.inr rfl)).trans (kS_sF (by decide))).trans (kS_sF (by decide))).trans (kS_sF (by decide))).trans (kS_sF (by decide))
  have hs : sc ib ib (sF (sF (sF (sF (sR S 400 17) 401 0) 303 0) 304 0) 305 0) := ⟨⟨[], rfl, rfl⟩, rfl, i1, i2, i3, i4⟩
  have q3 : gF (sF (sF (sF (sF (sR S 400 17) 401 0) 303 0) 304 0) 305 0) 303 = 0 := rfl
  have q4 : gF (sF (sF (sF (sF (sR S 400 17) 401 0) 303 0) 304 0) 305 0) 304 = 0 := rfl
  have q5 : gF (sF (sF (sF (sF (sR S 400 17) 401 0) 303 0) 304 0) 305 0) 305 = 0 := rfl
  generalize sF (sF (sF (sF (sR S 400 17) 401 0) 303 0) 304 0) 305 0 = S1 at *
  unfold prs at h0' h1
  refine rS_letter (tag := 8) (by decide) hs hb (fun w => ?_) (fun x s1 w hx S2 p1 p2 => ?_)
  · rw [w] at h0'
    exact (h0' rfl).go k0
  · rw [w] at h0' h1
    simp only at h0' h1
    refine ⟨fun i => need0 hb ?_, fun i => need1 ?_⟩
    · rw [li_70, nI_eq (by omega) (by omega)] at i
      rw [if_neg i] at h0'
      exact h0' rfl S2 (k0.trans p2.s)
    · rw [li_70, nI_eq (by omega) (by omega)] at i
      rw [if_pos i] at h0' h1
      exact rS_44 p1 hb ((p2.1 303 (by decide)).trans q3) ((p2.1 304 (by decide)).trans q4) ((p2.1 305 (by decide)).trans q5) (fun w => (h0' w).go (k0.trans p2.s)) (fun t n d a b v z1 z2 S' z3 z4 => h1 t n d a b v z1 z2 S' ((k0.trans p2.s).trans z3) z4)
end SC3
