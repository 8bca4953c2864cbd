/-! ===== the scanner ===== -/
def kS (S S' : XS) : Prop := (∀ k, k ∉ [301, 302, 303, 304, 305, 401] → gF S' k = gF S k) ∧ (∀ j, gA S' j = gA S j) ∧ (∀ k, k ≠ 300 → k ≠ 400 → gR S' k = gR S k) ∧ (∀ j, gB S' j = gB S j) ∧ gO S' = gO S
theorem kS.refl (S : XS) : kS S S := ⟨fun _ _ => rfl, fun _ => rfl, fun _ _ _ => rfl, fun _ => rfl, rfl⟩
theorem kS.trans {S T U : XS} (h : kS S T) (g : kS T U) : kS S U := ⟨fun k hk => (g.1 k hk).trans (h.1 k hk), fun j => (g.2.1 j).trans (h.2.1 j), fun k h1 h2 => (g.2.2.1 k h1 h2).trans (h.2.2.1 k h1 h2), fun j => (g.2.2.2.1 j).trans (h.2.2.2.1 j), g.2.2.2.2.trans h.2.2.2.2⟩
theorem kS_sF {S : XS} {k : Nat} {v : Int32} (hk : k ∈ [301, 302, 303, 304, 305, 401]) : kS S (sF S k v) := ⟨fun j hj => by rw [gF_sF, if_neg (by rintro rfl; exact hj hk)], fun _ => rfl, fun _ _ _ => rfl, fun _ => rfl, rfl⟩
theorem kS_sR {S : XS} {k : Nat} {v : Nat} (hk : k = 300 ∨ k = 400) : kS S (sR S k v) := ⟨fun _ _ => rfl, fun _ => rfl, fun j h1 h2 => by rw [gR_sR, if_neg (by omega)], fun _ => rfl, rfl⟩
/-- the scanner's place alone differs -/
def kA (S S' : XS) : Prop := (∀ k, k ≠ 401 → gF S' k = gF S k) ∧ (∀ j, gA S' j = gA S j) ∧ (∀ k, gR S' k = gR S k) ∧ (∀ j, gB S' j = gB S j) ∧ gO S' = gO S
theorem kA.refl (S : XS) : kA S S := ⟨fun _ _ => rfl, fun _ => rfl, fun _ => rfl, fun _ => rfl, rfl⟩
theorem kA.trans {S T U : XS} (h : kA S T) (g : kA T U) : kA S U := ⟨fun k hk => (g.1 k hk).trans (h.1 k hk), fun j => (g.2.1 j).trans (h.2.1 j), fun k => (g.2.2.1 k).trans (h.2.2.1 k), fun j => (g.2.2.2.1 j).trans (h.2.2.2.1 j), g.2.2.2.2.trans h.2.2.2.2⟩
theorem kA_sF {S : XS} {v : Int32} : kA S (sF S 401 v) := ⟨fun j hj => by rw [gF_sF, if_neg hj], fun _ => rfl, fun _ => rfl, fun _ => rfl, rfl⟩
theorem kA.s {S S' : XS} (h : kA S S') : kS S S' := ⟨fun k hk => h.1 k (by rintro rfl; exact hk (by decide)), h.2.1, fun k _ _ => h.2.2.1 k, h.2.2.2.1, h.2.2.2.2⟩
/-- the scanner stands before s -/
def sc (bs s : List Nat) (S : XS) : Prop := (∃ pre, bs = pre ++ s ∧ gF S 401 = nI pre.length) ∧ gR S 400 = 17 ∧ gF S 101 = nI bs.length ∧ bs.length ≤ 120 ∧ (∀ x ∈ bs, x < 128) ∧ xrow bs (gA S 2)
theorem sc.keep {bs s : List Nat} {S : XS} {k : Nat} {v : Int32} (h : sc bs s S) (h1 : k ≠ 401) (h2 : k ≠ 101) : sc bs s (sF S k v) := by
  obtain ⟨⟨pre, a1, a2⟩, a3, a4, a5⟩ := h
  exact ⟨⟨pre, a1, by rw [gF_sF, if_neg (Ne.symm h1)]; exact a2⟩, a3, by rw [gF_sF, if_neg (Ne.symm h2)]; exact a4, a5⟩
theorem sc.keepR {bs s : List Nat} {S : XS} {v : Nat} (h : sc bs s S) : sc bs s (sR S 300 v) := by
  obtain ⟨⟨pre, a1, a2⟩, a3, a4, a5⟩ := h
  exact ⟨⟨pre, a1, a2⟩, by rw [gR_sR, if_neg (by decide)]; exact a3, a4, a5⟩
section SCN
variable {S : XS} {r : List AE} {KT : Nat → XS → List AE → Prop} {bs s : List Nat}
theorem need0 {K : XS → List AE → Prop} (hb : bud r) (h : KT 7 S (r ++ [xO 7 []])) : w_S_need S r 0 K KT := ⟨fun e => absurd rfl e, fun _ => ⟨hb, h⟩⟩
theorem need1 {K : XS → List AE → Prop} (h : K S r) : w_S_need S r 1 K KT := ⟨fun _ => h, fun e => absurd e (by decide)⟩
theorem rS_next {K : Int32 → XS → List AE → Prop} (hs : sc bs s S) (hb : bud r) (h0 : s = [] → KT 7 S (r ++ [xO 7 []])) (h1 : ∀ x s', s = x :: s' → x < 128 → ∀ S', sc bs s' S' → kA S S' → K (nI x) S' r) : w_S_next S r K KT := by
  obtain ⟨⟨pre, a1, a2⟩, a3, a4, a5, a6, a7⟩ := hs
  have hl : bs.length = pre.length + s.length := by rw [a1, List.length_append]
  refine ⟨a3, fun e => need0 hb (h0 ?_), fun e => need1 ⟨a3, ?_⟩⟩
  · rw [a4, a2, nI_leI (by omega) (by omega)] at e
    exact List.eq_nil_of_length_eq_zero (by omega)
  · rw [a4, a2, nI_leI (by omega) (by omega)] at e
    have e2 : (gF S 401 + 1 - 1 : Int32) = nI pre.length := by rw [a2, Int32.add_sub_cancel]
    rw [e2, nI_clamp (by omega), a7 pre.length (by omega), a2, nI_1]
    refine ⟨vp_in_nI (by omega) (by decide), ?_⟩
    cases s with
    | nil => simp at hl; omega
    | cons x s' =>
      have hx : bs.getD pre.length 0 = x := by
        rw [a1, gd_r (Nat.le_refl _), Nat.sub_self]
        rfl
      rw [hx]
      refine h1 x s' rfl (a6 x (by rw [a1]; simp)) _ ⟨⟨pre ++ [x], by rw [a1]; simp, ?_⟩, a3, a4, a5, a6, a7⟩ kA_sF
      rw [gF_sF, if_pos rfl, List.length_append]
      rfl
def pfx : List Nat → List Nat → Bool
  | [], _ => true
  | _ :: _, [] => false
  | a :: as, b :: bs => a == b && pfx as bs
theorem rS_st98 {K : Int32 → XS → List AE → Prop} {k : Nat} {s' : List Nat} (hs : sc bs s S) (hk : ∃ pre, bs = pre ++ s' ∧ pre.length = k) (h : K (if pfx [61] s' then 1 else 0) S r) : w_S_stands_98 K S r (nI k) 1 := by
  obtain ⟨-, a3, a4, a5, a6, a7⟩ := hs
  obtain ⟨pre, b1, b2⟩ := hk
  have hl : bs.length = pre.length + s'.length := by rw [b1, List.length_append]
  refine ⟨fun e => absurd e (by decide), fun _ => ⟨a3, fun e => ?_, fun e => ⟨a3, ?_, ?_⟩⟩⟩
  · rw [a4, nI_leI (by omega) (by omega)] at e
    have : s' = [] := List.eq_nil_of_length_eq_zero (by omega)
    rw [this] at h
    exact h
  · rw [a4, nI_leI (by omega) (by omega)] at e
    exact vp_in_nI (by omega) (by decide)
  · rw [a4, nI_leI (by omega) (by omega)] at e
    rw [nI_clamp (by omega), a7 k (by omega)]
    cases s' with
    | nil => simp at hl; omega
    | cons x s' =>
      have hx : bs.getD k 0 = x := by
        rw [b1, gd_r (by omega), b2, Nat.sub_self]
        rfl
      have hxb : x < 128 := a6 x (by rw [b1]; simp)
      rw [hx]
      refine ⟨fun f => ?_, fun f => ?_⟩
      · rw [li_61, nI_eq (by omega) (by omega)] at f
        have : pfx [61] (x :: s') = false := by simp [pfx]; omega
        rw [this] at h
        exact h
      · rw [li_61, nI_eq (by omega) (by omega)] at f
        have : pfx [61] (x :: s') = true := by simp [pfx, f]
        rw [this] at h
        exact h
theorem rS_st0 {K : Int32 → XS → List AE → Prop} (h : K 0 S r) {tag u k : Int32} : ∀ g : Nat, w_S_stands_35 K (g + 1) S r tag k 0 u := fun g => ⟨fun _ => ⟨fun _ => h, fun e => absurd rfl e⟩, fun _ => ⟨fun _ => ⟨fun _ => h, fun e => absurd rfl e⟩, fun e => absurd rfl e⟩⟩
theorem rS_st35 {K : Int32 → XS → List AE → Prop} {tag : Nat} (ht : tag < 1000) (hs : sc bs s S) : ∀ (j : Nat) (g k : Nat) (s' : List Nat), j ≤ 2 → j + 2 ≤ g → (∃ pre, bs = pre ++ s' ∧ pre.length = k) → K (if pfx (dgo (j + 1) tag ++ [61]) s' then 1 else 0) S r → w_S_stands_35 K (g + 1) S r (nI tag) (nI k) 1 (nI (10 ^ j)) := by
  intro j g k s' hj hg hk h
  have hs' := hs
  obtain ⟨-, a3, a4, a5, a6, a7⟩ := hs
  obtain ⟨pre, b1, b2⟩ := hk
  have hl : bs.length = pre.length + s'.length := by rw [b1, List.length_append]
  have hp := p10 (show j ≤ 8 by omega)
  have hq := p10_pos j
  refine ⟨fun e => ?_, fun _ => ⟨fun e => absurd e (by decide), fun _ => ⟨a3, fun e => ?_, fun e => ⟨a3, ?_, nI_ne0 hq (by omega), ?_⟩⟩⟩⟩
  · rw [li_0, nI_leI (by omega) (by omega)] at e
    omega
  · rw [a4, nI_leI (by omega) (by omega)] at e
    have : s' = [] := List.eq_nil_of_length_eq_zero (by omega)
    rw [this] at h
    obtain ⟨g', rfl⟩ : ∃ g', g = g' + 1 := ⟨g - 1, by omega⟩
    exact rS_st0 h g'
  · rw [a4, nI_leI (by omega) (by omega)] at e
    exact vp_in_nI (by omega) (by decide)
  · rw [a4, nI_leI (by omega) (by omega)] at e
    have e48 : (48 : Int32) + (nI tag / nI (10 ^ j) - nI tag / nI (10 ^ j) / 10 * 10) = nI (48 + tag / 10 ^ j % 10) := by
      have hd : tag / 10 ^ j ≤ tag := Nat.div_le_self _ _
      rw [nI_div (by omega) (by omega), li_48, li_10, nI_mod (by omega) (by omega), nI_add]
    rw [e48, nI_clamp (by omega), a7 k (by omega)]
    cases s' with
    | nil => simp at hl; omega
    | cons x s' =>
      have hx : bs.getD k 0 = x := by
        rw [b1, gd_r (by omega), b2, Nat.sub_self]
        rfl
      have hxb : x < 128 := a6 x (by rw [b1]; simp)
      rw [hx]
      have hdg : dgo (j + 1) tag = (48 + tag / 10 ^ j % 10) :: dgo j tag := rfl
      obtain ⟨g', rfl⟩ : ∃ g', g = g' + 1 := ⟨g - 1, by omega⟩
      refine ⟨fun f => ?_, fun f => ?_⟩
      · rw [nI_eq (by omega) (by omega)] at f
        have : pfx (dgo (j + 1) tag ++ [61]) (x :: s') = false := by
          rw [hdg]
          simp [pfx]
          intro w
          omega
        rw [this] at h
        exact rS_st0 h g'
      · rw [nI_eq (by omega) (by omega)] at f
        have hpf : pfx (dgo (j + 1) tag ++ [61]) (x :: s') = pfx (dgo j tag ++ [61]) s' := by
          rw [hdg, ← f]
          simp [pfx]
        rw [hpf] at h
        show w_S_stands_35 K (g' + 1) S r (nI tag) (nI k + 1) 1 (nI (10 ^ j) / 10)
        rw [nI_1, li_10, nI_div (by omega) (by omega)]
        have hk' : ∃ pre, bs = pre ++ s' ∧ pre.length = k + 1 := ⟨pre ++ [x], by rw [b1]; simp, by rw [List.length_append]; show _ + 1 = _; omega⟩
        cases j with
        | zero => exact ⟨fun _ => rS_st98 hs' hk' h, fun c => absurd (by decide : nI (10 ^ 0 / 10) ≤ 0) c⟩
        | succ j =>
          rw [show 10 ^ (j + 1) / 10 = 10 ^ j by rw [Nat.pow_succ]; omega]
          exact rS_st35 ht hs' j g' (k + 1) s' (by omega) (by omega) hk' h
def pst (tag : Nat) (s : List Nat) : Bool := pfx (digs tag ++ [61]) s
theorem rS_stands {K : Int32 → XS → List AE → Prop} {tag : Nat} (ht : tag < 1000) (hs : sc bs s S) (h : K (if pst tag s then 1 else 0) S r) : w_S_stands S r (nI tag) K := by
  have hs' := hs
  obtain ⟨⟨pre, a1, a2⟩, -⟩ := hs
  have key : ∀ j, j ≤ 2 → plc tag = j + 1 → w_S_stands_24 K S r (nI tag) (nI (10 ^ j)) := by
    intro j hj hp
    refine ⟨6, ?_⟩
    rw [a2]
    refine rS_st35 ht hs' j 5 pre.length s hj (by omega) ⟨pre, a1, rfl⟩ ?_
    unfold pst digs at h
    rw [hp] at h
    exact h
  refine ⟨fun e => ⟨fun f => key 0 (by decide) ?_, fun f => key 1 (by decide) ?_⟩, fun e => key 2 (by decide) ?_⟩
  · rw [li_9, nI_leI (by omega) (by omega)] at f
    unfold plc
    rw [if_pos (by omega)]
  · rw [li_9, nI_leI (by omega) (by omega)] at f
    rw [li_99, nI_leI (by omega) (by omega)] at e
    unfold plc
    rw [if_neg (by omega), if_pos (by omega)]
  · rw [li_99, nI_leI (by omega) (by omega)] at e
    unfold plc
    rw [if_neg (by omega), if_neg (by omega), if_pos (by omega)]
theorem pfx_iff : ∀ (a s : List Nat), pfx a s = true ↔ ∃ s', s = a ++ s'
  | [], s => ⟨fun _ => ⟨s, rfl⟩, fun _ => rfl⟩
  | a :: as, [] => ⟨(fun h => by cases h), (fun ⟨s', h⟩ => by cases h)⟩
  | a :: as, b :: bs => by
    have ih := pfx_iff as bs
    simp only [pfx, Bool.and_eq_true, beq_iff_eq, ih, List.cons_append, List.cons.injEq]
    constructor
    · rintro ⟨rfl, s', rfl⟩
      exact ⟨s', rfl, rfl⟩
    · rintro ⟨s', rfl, rfl⟩
      exact ⟨rfl, s', rfl⟩
theorem rS_tag {K : XS → List AE → Prop} {tag : Nat} (ht : tag < 1000) (hs : sc bs s S) (hb : bud r) (h0 : pst tag s = false → KT 7 S (r ++ [xO 7 []])) (h1 : ∀ s', s = digs tag ++ [61] ++ s' → ∀ S', sc bs s' S' → kA S S' → K S' r) : w_S_tag S r (nI tag) K KT := by
  refine rS_stands ht hs ?_
  cases e : pst tag s
  · exact need0 hb (h0 e)
  · refine need1 ?_
    obtain ⟨s', e2⟩ := (pfx_iff _ _).mp e
    have hl : (digs tag ++ [61]).length = plc tag + 1 := by rw [List.length_append, digs_len]; rfl
    have key : ∀ n, n = plc tag + 1 → K (sF S 401 (gF S 401 + nI n)) r := by
      intro n hn
      refine h1 s' e2 _ ?_ kA_sF
      obtain ⟨⟨pre, a1, a2⟩, a3, a4, a5⟩ := hs
      refine ⟨⟨pre ++ (digs tag ++ [61]), by rw [a1, e2]; simp, ?_⟩, a3, a4, a5⟩
      rw [gF_sF, if_pos rfl, a2, nI_add, List.length_append, hl, hn]
    refine ⟨fun e => ⟨fun f => key 2 ?_, fun f => key 3 ?_⟩, fun e => key 4 ?_⟩
    · rw [li_9, nI_leI (by omega) (by omega)] at f
      unfold plc
      rw [if_pos (by omega)]
    · rw [li_9, nI_leI (by omega) (by omega)] at f
      rw [li_99, nI_leI (by omega) (by omega)] at e
      unfold plc
      rw [if_neg (by omega), if_pos (by omega)]
    · rw [li_99, nI_leI (by omega) (by omega)] at e
      unfold plc
      rw [if_neg (by omega), if_neg (by omega), if_pos (by omega)]
def dig (c : Nat) : Prop := 48 ≤ c ∧ c ≤ 57
def pEnd (c v n : Nat) (s : List Nat) : Option (Nat × List Nat) := if 0 < n ∧ c = 1 then some (v, s) else none
def pD : List Nat → Nat → Nat → Nat → Option (Nat × List Nat)
  | [], c, v, n => if (48 ≤ c ∧ c ≤ 57) ∧ n < 6 then none else pEnd c v n []
  | c' :: s', c, v, n => if (48 ≤ c ∧ c ≤ 57) ∧ n < 6 then pD s' c' (10 * v + (c - 48)) (n + 1) else pEnd c v n (c' :: s')
def pN0 : List Nat → Option (Nat × List Nat)
  | [] => none
  | c :: s => pD s c 0 0
def pN (tag : Nat) (s : List Nat) : Option (Nat × List Nat) := if pst tag s then pN0 (s.drop (plc tag + 1)) else none
def pL0 : List Nat → Option (Nat × List Nat)
  | x :: y :: s => if (32 < x ∧ x < 127) ∧ y = 1 then some (x, s) else none
  | _ => none
def pL (tag : Nat) (s : List Nat) : Option (Nat × List Nat) := if pst tag s then pL0 (s.drop (plc tag + 1)) else none
/-- failing, from any state that differs in the scanner's and the message's fields alone -/
def FL (KT : Nat → XS → List AE → Prop) (S : XS) (r : List AE) : Prop := ∀ S', kS S S' → KT 7 S' (r ++ [xO 7 []])
theorem FL.go {S' : XS} (h : FL KT S r) (k : kS S S') : FL KT S' r := fun S2 k2 => h S2 (k.trans k2)
theorem rS_num58 {K : Int32 → XS → List AE → Prop} {c v n : Nat} (hb : bud r) (hc : c < 128) (hn : n ≤ 6) (h0 : ¬ (0 < n ∧ c = 1) → FL KT S r) (h1 : (0 < n ∧ c = 1) → K (nI v) S r) : w_S_number_58 K KT S r (nI v) (nI n) (nI c) := by
  refine ⟨fun e => need0 hb ?_, fun e => ⟨fun f => need0 hb ?_, fun f => need1 (h1 ?_)⟩⟩
  · rw [li_0, nI_leI (by omega) (by omega)] at e
    exact h0 (by omega) S (kS.refl S)
  · rw [li_1, nI_eq (by omega) (by omega)] at f
    exact h0 (by omega) S (kS.refl S)
  · rw [li_1, nI_eq (by omega) (by omega)] at f
    rw [li_0, nI_leI (by omega) (by omega)] at e
    omega
theorem rS_num15 {K : Int32 → XS → List AE → Prop} (hb : bud r) : ∀ (g n v c : Nat) (s : List Nat) (S : XS), n + g = 8 → n ≤ 6 → v < 10 ^ n → c < 128 → sc bs s S → (pD s c v n = none → FL KT S r) → (∀ w s', pD s c v n = some (w, s') → w < 1000000 → ∀ S', sc bs s' S' → kA S S' → K (nI w) S' r) → w_S_number_15 K KT g S r (nI v) (nI n) (nI c)
  | 0, n, v, c, s, S, hg, hn, hv, hc, hs, h0, h1 => absurd hg (by omega)
  | g + 1, n, v, c, s, S, hg, hn, hv, hc, hs, h0, h1 => by
    have hp6 : 10 ^ n ≤ 10 ^ 6 := Nat.pow_le_pow_right (by decide) hn
    have fin : ¬ ((48 ≤ c ∧ c ≤ 57) ∧ n < 6) → w_S_number_58 K KT S r (nI v) (nI n) (nI c) := by
      intro hno
      have e : pD s c v n = pEnd c v n s := by
        cases s with
        | nil => exact if_neg hno
        | cons c' s' => exact if_neg hno
      rw [e] at h0 h1
      refine rS_num58 hb hc hn (fun w => h0 (if_neg w)) (fun w => h1 v s (if_pos w) (by omega) S hs (kA.refl S))
    refine ⟨fun e => fin ?_, fun e => ⟨fun f => fin ?_, fun f => ⟨fun i => fin ?_, fun i => ?_⟩⟩⟩
    · rw [li_48, nI_ltI (by omega) (by omega)] at e; omega
    · rw [li_57, nI_ltI (by omega) (by omega)] at f; omega
    · rw [li_6, nI_leI (by omega) (by omega)] at i; omega
    · rw [li_48, nI_ltI (by omega) (by omega)] at e
      rw [li_57, nI_ltI (by omega) (by omega)] at f
      rw [li_6, nI_leI (by omega) (by omega)] at i
      have hyes : (48 ≤ c ∧ c ≤ 57) ∧ n < 6 := by omega
      refine rS_next hs hb (fun w => ?_) (fun x s' w hx S' p1 p2 => ?_)
      · subst w
        exact h0 (if_pos hyes) S (kS.refl S)
      · subst w
        have e2 : pD (x :: s') c v n = pD s' x (10 * v + (c - 48)) (n + 1) := if_pos hyes
        rw [e2] at h0 h1
        have e3 : (10 : Int32) * nI v + nI c - 48 = nI (10 * v + (c - 48)) := by
          rw [li_10, nI_mul, nI_add, li_48, nI_sub (by omega)]
          congr 1
          omega
        rw [e3, nI_1]
        exact rS_num15 hb g (n + 1) _ x s' S' (by omega) (by omega) (by rw [Nat.pow_succ]; omega) hx p1 (fun w => (h0 w).go p2.s) (fun w s2 q1 q2 S2 q3 q4 => h1 w s2 q1 q2 S2 q3 (p2.trans q4))
theorem drop_tag {tag : Nat} {s' : List Nat} : (digs tag ++ [61] ++ s').drop (plc tag + 1) = s' := by
  have hl : (digs tag ++ [61]).length = plc tag + 1 := by rw [List.length_append, digs_len]; rfl
  rw [← hl, List.drop_left]
theorem pst_tag {tag : Nat} {s' : List Nat} : pst tag (digs tag ++ [61] ++ s') = true := (pfx_iff _ _).mpr ⟨s', rfl⟩
theorem rS_number {K : Int32 → XS → List AE → Prop} {tag : Nat} (ht : tag < 1000) (hs : sc bs s S) (hb : bud r) (h0 : pN tag s = none → FL KT S r) (h1 : ∀ v s', pN tag s = some (v, s') → v < 1000000 → ∀ S', sc bs s' S' → kA S S' → K (nI v) S' r) : w_S_number S r (nI tag) K KT := by
  refine rS_tag ht hs hb (fun e => ?_) (fun s' e S1 p1 p2 => ?_)
  · refine h0 ?_ S (kS.refl S)
    unfold pN
    rw [e]
    rfl
  · subst e
    unfold pN at h0 h1
    rw [pst_tag, drop_tag] at h0 h1
    refine rS_next p1 hb (fun w => ?_) (fun x s2 w hx S2 q1 q2 => ?_)
    · subst w
      exact h0 rfl S1 p2.s
    · subst w
      exact ⟨8, rS_num15 hb 8 0 0 x s2 S2 rfl (by decide) (by decide) hx q1 (fun w => (h0 w).go (p2.trans q2).s) (fun w s3 z1 z2 S3 z3 z4 => h1 w s3 z1 z2 S3 z3 ((p2.trans q2).trans z4))⟩
theorem chr128 : ∀ x : Nat, x < 128 → ((nI x).toUInt32 % 65536).toInt32 = nI x := by decide +kernel
theorem rS_letter {K : Int32 → XS → List AE → Prop} {tag : Nat} (ht : tag < 1000) (hs : sc bs s S) (hb : bud r) (h0 : pL tag s = none → FL KT S r) (h1 : ∀ x s', pL tag s = some (x, s') → x < 127 → ∀ S', sc bs s' S' → kA S S' → K (nI x) S' r) : w_S_letter S r (nI tag) K KT := by
  refine rS_tag ht hs hb (fun e => ?_) (fun s' e S1 p1 p2 => ?_)
  · refine h0 ?_ S (kS.refl S)
    unfold pL
    rw [e]
    rfl
  · subst e
    unfold pL at h0 h1
    rw [pst_tag, drop_tag] at h0 h1
    simp only [if_true] at h0 h1
    refine rS_next p1 hb (fun w => ?_) (fun x s2 w hx S2 q1 q2 => ?_)
    · subst w
      exact h0 rfl S1 p2.s
    · subst w
      have hno : ¬ (32 < x ∧ x < 127) → FL KT S r := by
        intro w
        refine h0 ?_
        cases s2 with
        | nil => rfl
        | cons y s3 => exact if_neg (fun z => w z.1)
      refine ⟨fun f => need0 hb (hno ?_ S2 (p2.trans q2).s), fun f => ⟨fun i => need0 hb (hno ?_ S2 (p2.trans q2).s), fun i => need1 ?_⟩⟩
      · rw [li_32, nI_leI (by omega) (by omega)] at f; omega
      · rw [li_127, nI_leI (by omega) (by omega)] at i; omega
      · rw [li_32, nI_leI (by omega) (by omega)] at f
        rw [li_127, nI_leI (by omega) (by omega)] at i
        refine rS_next q1 hb (fun w => ?_) (fun y s3 w hy S3 z1 z2 => ?_)
        · subst w
          exact h0 rfl S2 (p2.trans q2).s
        · subst w
          refine ⟨fun j => need0 hb (h0 ?_ S3 ((p2.trans q2).trans z2).s), fun j => need1 ?_⟩
          · rw [li_1, nI_eq (by omega) (by omega)] at j
            exact if_neg (fun z => j z.2)
          · rw [li_1, nI_eq (by omega) (by omega)] at j
            show K ((nI x).toUInt32 % 65536).toInt32 S3 r
            rw [chr128 x hx]
            exact h1 x s3 (if_pos ⟨by omega, j⟩) (by omega) S3 z1 ((p2.trans q2).trans z2)
end SCN
