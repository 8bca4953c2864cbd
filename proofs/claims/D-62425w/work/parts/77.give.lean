/-! ===== give ===== -/
def gvb (t a b v : Nat) : List Nat := (if nm t 0 = 0 ∨ (t = 48 ∧ a = 0) then [] else fld (nm t 0) a) ++ ((if t = 52 then ltr 123 (if b = 0 then 78 else 89) else if nm t 1 = 0 then [] else fld (nm t 1) b) ++ (if nm t 2 = 0 then [] else fld (nm t 2) v))
theorem ite_b {c : Prop} [Decidable c] {x y : List Nat} (h1 : ∀ z ∈ x, z < 128) (h2 : ∀ z ∈ y, z < 128) : ∀ z ∈ (if c then x else y), z < 128 := by
  split
  · exact h1
  · exact h2
theorem nil_b : ∀ z ∈ ([] : List Nat), z < 128 := fun z hz => by cases hz
theorem ite_le {c : Prop} [Decidable c] {x y : List Nat} {m : Nat} (h1 : x.length ≤ m) (h2 : y.length ≤ m) : (if c then x else y).length ≤ m := by
  split
  · exact h1
  · exact h2
theorem gvb_b (t a b v : Nat) : ∀ x ∈ gvb t a b v, x < 128 := by
  unfold gvb
  refine mem_app (ite_b nil_b (fld_b _ _)) (mem_app (ite_b (ltr_b ?_) (ite_b nil_b (fld_b _ _))) (ite_b nil_b (fld_b _ _)))
  split <;> decide
theorem gvb_parts {t a b v : Nat} (ha : a < 1000000) (hb : b < 1000000) (hv : v < 1000000) : (if nm t 0 = 0 ∨ (t = 48 ∧ a = 0) then [] else fld (nm t 0) a).length ≤ 11 ∧ (if t = 52 then ltr 123 (if b = 0 then 78 else 89) else if nm t 1 = 0 then [] else fld (nm t 1) b).length ≤ 11 ∧ (if nm t 2 = 0 then [] else fld (nm t 2) v).length ≤ 11 := by
  have n0 := nm_lt t 0
  have n1 := nm_lt t 1
  have n2 := nm_lt t 2
  refine ⟨ite_le (by decide) (fld_le (by omega) ha), ite_le ?_ (ite_le (by decide) (fld_le (by omega) hb)), ite_le (by decide) (fld_le (by omega) hv)⟩
  rw [ltr_len]
  decide
/-- a number that may stand in a field -/
def okn (p : Int32) (n : Nat) : Prop := p = nI n ∧ n < 1000000
theorem okn_no {p : Int32} (h : ∀ n, ¬ okn p n) : p < 0 ∨ (¬ p < 0 ∧ 999999 < p) := by
  by_cases c : p < 0
  · exact Or.inl c
  · obtain ⟨j, hj, rfl⟩ := nI_of c
    refine Or.inr ⟨c, ?_⟩
    rw [li_999999, nI_ltI (by decide) hj]
    exact Classical.byContradiction (fun e => h j ⟨rfl, by omega⟩)
theorem okn_yes {p : Int32} {n : Nat} (h : okn p n) : ¬ p < 0 ∧ ¬ 999999 < p ∧ p ≤ 999999 := by
  obtain ⟨rfl, h⟩ := h
  rw [li_999999, nI_ltI (by decide) (by omega), nI_leI (by omega) (by decide)]
  exact ⟨nI_pos (by omega), by omega, by omega⟩
theorem off_yes {p : Int32} {n : Nat} {K : Int32 → Prop} (h : okn p n) (k : K 0) : w_T_off p K := by
  obtain ⟨a, b, c⟩ := okn_yes h
  exact ⟨fun z => absurd z a, fun _ => ⟨fun _ => k, fun z => absurd c z⟩⟩
theorem off_no {p : Int32} {K : Int32 → Prop} (h : ∀ n, ¬ okn p n) (k : K 1) : w_T_off p K := by
  rcases okn_no h with a | ⟨a, b⟩
  · exact ⟨fun _ => k, fun z => absurd a z⟩
  · refine ⟨fun z => absurd z a, fun _ => ⟨fun z => ?_, fun _ => k⟩⟩
    rw [Int32.lt_iff_toInt_lt] at b
    rw [Int32.le_iff_toInt_le] at z
    omega
theorem wn_yes {p : Int32} {n : Nat} {K : Int32 → Prop} (h : okn p n) (k : K 1) : w_M_within p 0 999999 K := wi_yes (okn_yes h).1 (okn_yes h).2.1 k
theorem wn_no {p : Int32} {K : Int32 → Prop} (h : ∀ n, ¬ okn p n) (k : K 0) : w_M_within p 0 999999 K := by
  rcases okn_no h with a | ⟨a, b⟩
  · exact wi_no (Or.inl a) k
  · exact wi_no (Or.inr b) k
/-- the inbox while it is written -/
def FSt (x : List Nat) (S S' : XS) : Prop := ke [101, 102] [2] S S' ∧ gF S' 101 = nI (4 + x.length) ∧ gF S' 102 = nI 4 ∧ ∃ f, gA S' 2 = wr f 0 (ltr 8 70 ++ x)
theorem GS_ke (S : XS) (L B : Int32) (f : Nat → Int32) : ke [101, 102] [2] S (sA (sF (sF S 101 L) 102 B) 2 f) := ((ke_sF (by decide)).trans (ke_sF (by decide))).trans (ke_sA (by decide))
section GV
variable {K : Int32 → XS → List AE → Prop} {KT : Nat → XS → List AE → Prop} {S S' : XS} {r : List AE} {x : List Nat} {t n a b v : Nat} {W : XS → Prop}
theorem FS_field {tag v : Nat} (h : FSt x S S') (ht : tag < 10000000) (hv : v < 10000000) (hl : (x ++ fld tag v).length ≤ 116) (k : ∀ S2, FSt (x ++ fld tag v) S S2 → W S2) : w_F_field (gF S' 101) (gF S' 102) (gA S' 2) (nI tag) (nI v) (fun L B f => W (sA (sF (sF S' 101 L) 102 B) 2 f)) := by
  obtain ⟨h1, h2, h3, f, h4⟩ := h
  rw [h2, h3, h4]
  exact xF_field ht hv hl (k _ ⟨h1.trans (GS_ke _ _ _ _), rfl, rfl, f, rfl⟩)
theorem FS_letter {tag c : Nat} (h : FSt x S S') (ht : tag < 10000000) (hv : c < 128) (hl : (x ++ ltr tag c).length ≤ 116) (k : ∀ S2, FSt (x ++ ltr tag c) S S2 → W S2) : w_F_letter (gF S' 101) (gF S' 102) (gA S' 2) (nI tag) (nI c) (fun L B f => W (sA (sF (sF S' 101 L) 102 B) 2 f)) := by
  obtain ⟨h1, h2, h3, f, h4⟩ := h
  rw [h2, h3, h4]
  exact xF_letter ht hv hl (k _ ⟨h1.trans (GS_ke _ _ _ _), rfl, rfl, f, rfl⟩)
theorem rT_203 (h : FSt x S S') (hb : ∀ y ∈ x, y < 128) (hl : 1 ≤ x.length ∧ x.length ≤ 99) (k : ∀ S3, ke [101, 102] [2] S S3 → gF S3 101 = nI (frm x).length → xrow (frm x) (gA S3 2) → K (nI (frm x).length) (sF S3 4 0) r) : w_T_give_203 K KT S' r := by
  obtain ⟨h1, h2, h3, f, h4⟩ := h
  unfold w_T_give_203
  rw [h2, h3, h4]
  exact rF_end hb hl (xrow_wr0 _ _) (fun f' hf' => k _ (h1.trans (GS_ke _ _ _ _)) rfl hf')
theorem rT_181 (ht : t ∈ mkinds) (h : FSt x S S') (hv : v < 1000000) (hb : ∀ y ∈ x, y < 128) (hl : 1 ≤ x.length ∧ x.length ≤ 60) (k : ∀ S3, ke [101, 102] [2] S S3 → gF S3 101 = nI (frm (x ++ (if nm t 2 = 0 then [] else fld (nm t 2) v))).length → xrow (frm (x ++ (if nm t 2 = 0 then [] else fld (nm t 2) v))) (gA S3 2) → K (nI (frm (x ++ (if nm t 2 = 0 then [] else fld (nm t 2) v))).length) (sF S3 4 0) r) : w_T_give_181 K KT S' r (nI v) (tno t) := by
  have hp := @tno_r t
  have hlt := nm_lt t 2
  unfold w_T_give_181
  rw [(xcf_k ht).2.2, li_0, nI_leI (by omega) (by omega)]
  refine ⟨⟨hp.1, by omega⟩, fun c => ?_, fun c => ⟨⟨hp.1, by omega⟩, ?_⟩⟩
  · rw [if_pos (by omega), List.append_nil] at k
    exact rT_203 h hb ⟨hl.1, by omega⟩ k
  · rw [if_neg (by omega)] at k
    have hf := fld_le (t := nm t 2) (a := v) (by omega) hv
    exact FS_field h (by omega) (by omega) (by rw [List.length_append]; omega) (fun S2 h2 => rT_203 h2 (mem_app hb (fld_b _ _)) (by rw [List.length_append]; omega) k)
theorem rT_124 (ht : t ∈ mkinds) (h : FSt x S S') (hb1 : b < 1000000) (hv : v < 1000000) (hb : ∀ y ∈ x, y < 128) (hl : 1 ≤ x.length ∧ x.length ≤ 40) (k : ∀ S3, ke [101, 102] [2] S S3 → gF S3 101 = nI (frm (x ++ ((if t = 52 then ltr 123 (if b = 0 then 78 else 89) else if nm t 1 = 0 then [] else fld (nm t 1) b) ++ (if nm t 2 = 0 then [] else fld (nm t 2) v)))).length → xrow (frm (x ++ ((if t = 52 then ltr 123 (if b = 0 then 78 else 89) else if nm t 1 = 0 then [] else fld (nm t 1) b) ++ (if nm t 2 = 0 then [] else fld (nm t 2) v)))) (gA S3 2) → K (nI (frm (x ++ ((if t = 52 then ltr 123 (if b = 0 then 78 else 89) else if nm t 1 = 0 then [] else fld (nm t 1) b) ++ (if nm t 2 = 0 then [] else fld (nm t 2) v)))).length) (sF S3 4 0) r) : w_T_give_124 K KT S' r (nI b) (nI v) (tno t) := by
  have hp := @tno_r t
  have hlt := nm_lt t 1
  have h52 : tno t = 4 ↔ t = 52 := by
    refine mcase (P := fun t => tno t = 4 ↔ t = 52) ht ?_ ?_ ?_ ?_ ?_ ?_ ?_ ?_ ?_ <;> decide
  have l123 : ∀ c, (ltr 123 c).length ≤ 11 := fun c => by rw [ltr_len]; decide
  unfold w_T_give_124
  refine ⟨by omega, fun c => ?_, fun c => ?_⟩
  · rw [h52] at c
    rw [if_neg c] at k
    rw [(xcf_k ht).2.1, li_0, nI_leI (by omega) (by omega)]
    refine ⟨⟨hp.1, by omega⟩, fun c1 => ?_, fun c1 => ⟨⟨hp.1, by omega⟩, ?_⟩⟩
    · rw [if_pos (by omega), List.nil_append] at k
      exact rT_181 ht h hv hb (by omega) k
    · rw [if_neg (by omega), ← List.append_assoc] at k
      have hf := fld_le (t := nm t 1) (a := b) (by omega) hb1
      exact FS_field h (by omega) (by omega) (by rw [List.length_append]; omega) (fun S2 h2 => rT_181 ht h2 hv (mem_app hb (fld_b _ _)) (by rw [List.length_append]; omega) k)
  · rw [h52] at c
    rw [if_pos c, ← List.append_assoc] at k
    have e2 : xcf 2 (tno t) = nI 123 := by rw [(xcf_k ht).2.1, c]; rfl
    rw [e2, li_0, nI_leI (by omega) (by omega)]
    refine ⟨⟨hp.1, by omega⟩, fun c1 => ?_, fun c1 => ?_⟩
    · rw [if_pos (show b = 0 by omega)] at k
      have := l123 78
      exact FS_letter (c := 78) h (by decide) (by decide) (by rw [List.length_append]; omega) (fun S2 h2 => rT_181 ht h2 hv (mem_app hb (ltr_b (by decide))) (by rw [List.length_append]; omega) k)
    · rw [if_neg (show ¬ b = 0 by omega)] at k
      have := l123 89
      exact FS_letter (c := 89) h (by decide) (by decide) (by rw [List.length_append]; omega) (fun S2 h2 => rT_181 ht h2 hv (mem_app hb (ltr_b (by decide))) (by rw [List.length_append]; omega) k)
/-- what is given, all good -/
def gok (p1 p2 p4 p5 p6 : Int32) (t n a b v : Nat) : Prop := p1 = nI t ∧ t ∈ mkinds ∧ okn p2 n ∧ okn p4 a ∧ okn p5 b ∧ okn p6 v
theorem mk_b {t : Nat} (ht : t ∈ mkinds) : 33 ≤ t ∧ t ≤ 126 := by
  refine mcase (P := fun t => 33 ≤ t ∧ t ≤ 126) ht ?_ ?_ ?_ ?_ ?_ ?_ ?_ ?_ ?_ <;> decide
theorem rT_23 {p2 p4 p5 p6 : Int32} {dup : Bool} (ht : t ∈ mkinds) (hb : bud r) (h0 : (∀ n a b v, ¬ (okn p2 n ∧ okn p4 a ∧ okn p5 b ∧ okn p6 v)) → KT 7 S (r ++ [xO 7 []])) (k : ∀ n a b v, okn p2 n → okn p4 a → okn p5 b → okn p6 v → ∀ S3, ke [101, 102] [2] S S3 → gF S3 101 = nI (frm (hdr t n dup ++ gvb t a b v)).length → xrow (frm (hdr t n dup ++ gvb t a b v)) (gA S3 2) → K (nI (frm (hdr t n dup ++ gvb t a b v)).length) (sF S3 4 0) r) : w_T_give_23 K KT S r p2 (if dup then 1 else 0) p4 p5 p6 (tno t) := by
  have hp := @tno_r t
  have bad : (∀ n a b v, ¬ (okn p2 n ∧ okn p4 a ∧ okn p5 b ∧ okn p6 v)) → w_T_give_67 K KT S r := fun w => ⟨hb, h0 w⟩
  have hlt := nm_lt t 0
  refine ⟨fun c => absurd c (by omega), fun _ => ⟨by omega, fun c => absurd c (by omega), fun _ => ?_⟩⟩
  by_cases k2 : ∃ n, okn p2 n
  · obtain ⟨n, k2⟩ := k2
    refine off_yes k2 ⟨fun z => absurd rfl z, fun _ => ?_⟩
    by_cases k4 : ∃ n, okn p4 n
    · obtain ⟨a, k4⟩ := k4
      refine off_yes k4 ⟨fun z => absurd rfl z, fun _ => ?_⟩
      by_cases k5 : ∃ n, okn p5 n
      · obtain ⟨b, k5⟩ := k5
        refine off_yes k5 ⟨fun z => absurd rfl z, fun _ => ?_⟩
        by_cases k6 : ∃ n, okn p6 n
        · obtain ⟨v, k6⟩ := k6
          refine off_yes k6 ⟨fun _ => ⟨⟨hp.1, by omega⟩, ?_⟩, fun z => absurd rfl z⟩
          have kk := k n a b v k2 k4 k5 k6
          obtain ⟨rfl, b2⟩ := k2
          obtain ⟨rfl, b4⟩ := k4
          obtain ⟨rfl, b5⟩ := k5
          obtain ⟨rfl, b6⟩ := k6
          have e0 : xcf 0 (tno t) = nI t := by
            rw [tkind_x ⟨hp.1, by omega⟩]
            congr 1
            refine mcase (P := fun t => tkind (tno t) = t) ht ?_ ?_ ?_ ?_ ?_ ?_ ?_ ?_ ?_ <;> decide
          have h48 : tno t = 1 ↔ t = 48 := by
            refine mcase (P := fun t => tno t = 1 ↔ t = 48) ht ?_ ?_ ?_ ?_ ?_ ?_ ?_ ?_ ?_ <;> decide
          rw [e0]
          have htb := mk_b ht
          have hh := @hdr_le t n dup
          have hh1 : 1 ≤ (hdr t n dup).length := by rw [hdr_len]; omega
          have hhb : ∀ y ∈ hdr t n dup, y < 128 := hdr_b (by omega)
          refine rF_begin (kind := t) (n := n) (dup := dup) (by omega) (by omega) ⟨⟨hp.1, by omega⟩, ?_⟩
          have fs : FSt (hdr t n dup) S (sA (sF (sF S 101 (nI (4 + (hdr t n dup).length))) 102 (nI 4)) 2 (wr (gA S 2) 0 (ltr 8 70 ++ hdr t n dup))) := ⟨GS_ke _ _ _ _, rfl, rfl, _, rfl⟩
          generalize sA (sF (sF S 101 (nI (4 + (hdr t n dup).length))) 102 (nI 4)) 2 (wr (gA S 2) 0 (ltr 8 70 ++ hdr t n dup)) = S1 at *
          unfold gvb at kk
          have c124 : (nm t 0 = 0 ∨ (t = 48 ∧ a = 0)) → w_T_give_124 K KT S1 r (nI b) (nI v) (tno t) := by
            intro w
            rw [if_pos w, List.nil_append] at kk
            exact rT_124 ht fs b5 b6 hhb (by omega) kk
          have c110 : ¬ (nm t 0 = 0 ∨ (t = 48 ∧ a = 0)) → w_T_give_110 K KT S1 r (nI a) (nI b) (nI v) (tno t) := by
            intro w
            rw [if_neg w, ← List.append_assoc] at kk
            unfold w_T_give_110
            rw [(xcf_k ht).1]
            have hf := fld_le (t := nm t 0) (a := a) (by omega) b4
            exact ⟨⟨hp.1, by omega⟩, FS_field fs (by omega) (by omega) (by rw [List.length_append]; omega) (fun S2 h2 => rT_124 ht h2 b5 b6 (mem_app hhb (fld_b _ _)) (by rw [List.length_append]; omega) kk)⟩
          rw [(xcf_k ht).1]
          refine ⟨fun c => c124 ?_, fun c => ⟨by omega, fun d => c110 ?_, fun d => ⟨fun e => c124 ?_, fun e => c110 ?_⟩⟩⟩
          · rw [li_0, nI_leI (by omega) (by omega)] at c
            omega
          · rw [li_0, nI_leI (by omega) (by omega)] at c
            rw [h48] at d
            omega
          · rw [li_0, nI_leI (by omega) (by omega)] at e
            rw [h48] at d
            omega
          · rw [li_0, nI_leI (by omega) (by omega)] at e c
            omega
        · exact off_no (fun n w => k6 ⟨n, w⟩) ⟨fun z => absurd z (by decide), fun _ => bad (fun n a b v w => k6 ⟨v, w.2.2.2⟩)⟩
      · exact off_no (fun n w => k5 ⟨n, w⟩) ⟨fun _ => bad (fun n a b v w => k5 ⟨b, w.2.2.1⟩), fun z => absurd z (by decide)⟩
    · exact off_no (fun n w => k4 ⟨n, w⟩) ⟨fun _ => bad (fun n a b v w => k4 ⟨a, w.2.1⟩), fun z => absurd z (by decide)⟩
  · exact off_no (fun n w => k2 ⟨n, w⟩) ⟨fun _ => bad (fun n a b v w => k2 ⟨n, w.1⟩), fun z => absurd z (by decide)⟩
theorem char_id : ∀ p : Nat, p < 128 → ((nI p).toUInt32 % 65536).toInt32 = nI p := by decide +kernel
theorem rT_give {p1 p2 p4 p5 p6 : Int32} {dup : Bool} (hb : bud r) (h0 : (∀ t n a b v, ¬ gok p1 p2 p4 p5 p6 t n a b v) → KT 7 S (r ++ [xO 7 []])) (k : ∀ t n a b v, gok p1 p2 p4 p5 p6 t n a b v → ∀ S3, ke [101, 102] [2] S S3 → gF S3 101 = nI (frm (hdr t n dup ++ gvb t a b v)).length → xrow (frm (hdr t n dup ++ gvb t a b v)) (gA S3 2) → K (nI (frm (hdr t n dup ++ gvb t a b v)).length) (sF S3 4 0) r) : w_T_give S r p1 p2 (if dup then 1 else 0) p4 p5 p6 K KT := by
  have bad0 : (∀ t n a b v, ¬ gok p1 p2 p4 p5 p6 t n a b v) → w_T_give_12 K KT S r p2 (if dup then 1 else 0) p4 p5 p6 := fun w => ⟨fun _ => ⟨hb, h0 w⟩, fun z => absurd rfl z⟩
  refine ⟨fun c => bad0 (fun t n a b v w => ?_), fun c => ⟨fun d => ?_, fun d => bad0 (fun t n a b v w => ?_)⟩⟩
  · have := mk_b w.2.1
    rw [w.1, li_33, nI_ltI (by omega) (by omega)] at c
    omega
  · have c0 : ¬ p1 < 0 := by
      intro z
      rw [lt0_ti] at z
      rw [Int32.lt_iff_toInt_lt, show (33 : Int32).toInt = 33 by decide] at c
      omega
    obtain ⟨t, htt, rfl⟩ := nI_of c0
    rw [li_126, nI_leI htt (by omega)] at d
    rw [char_id t (by omega)]
    refine rT_typeOf (by omega) ?_
    by_cases hm : t ∈ mkinds
    · rw [ty_m hm]
      exact rT_23 hm hb (fun w => h0 (fun t' n a b v z => w n a b v z.2.2)) (fun n a b v q1 q2 q3 q4 => k t n a b v ⟨rfl, hm, q1, q2, q3, q4⟩)
    · have no : ∀ t' n a b v, ¬ gok (nI t) p2 p4 p5 p6 t' n a b v := by
        intro t' n a b v w
        have := mk_b w.2.1
        have e := w.1
        rw [nI_eq htt (by omega)] at e
        rw [e] at hm
        exact hm w.2.1
      rcases ty_no hm with e | e
      · rw [e]
        exact ⟨fun z => absurd z (by decide), fun _ => ⟨by decide, fun _ => ⟨hb, h0 no⟩, fun z => absurd rfl z⟩⟩
      · rw [e]
        exact ⟨fun _ => ⟨hb, h0 no⟩, fun z => absurd rfl z⟩
  · have := mk_b w.2.1
    rw [w.1, li_126, nI_leI (by omega) (by omega)] at d
    omega
end GV
