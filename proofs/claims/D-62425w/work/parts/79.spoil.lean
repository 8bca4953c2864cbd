/-! ===== spoil, add ===== -/
theorem nI_xor (b x : Nat) : nI b ^^^ nI x = nI (b ^^^ x) := by
  apply Int32.toBitVec_inj.1
  show BitVec.ofNat 32 b ^^^ BitVec.ofNat 32 x = BitVec.ofNat 32 (b ^^^ x)
  apply BitVec.eq_of_getLsbD_eq
  intro i hi
  simp [hi]
theorem xor_lt {b x : Nat} (hb : b < 128) (hx : x < 128) : b ^^^ x < 128 := Nat.xor_lt_two_pow (n := 7) hb hx
def spl (ib : List Nat) (i x : Nat) : List Nat := ib.set i (ib.getD i 0 ^^^ x)
theorem spl_len (ib : List Nat) (i x : Nat) : (spl ib i x).length = ib.length := List.length_set
theorem at_lt {ib : List Nat} {i : Nat} (h : ∀ x ∈ ib, x < 128) (hi : i < ib.length) : ib.getD i 0 < 128 := by
  refine h _ ?_
  rw [List.getD_eq_getElem?_getD, List.getElem?_eq_getElem hi]
  exact List.getElem_mem _
theorem spl_b {ib : List Nat} {i x : Nat} (h : ∀ x ∈ ib, x < 128) (hi : i < ib.length) (hx : x < 128) : ∀ y ∈ spl ib i x, y < 128 := by
  intro y hy
  rcases List.mem_or_eq_of_mem_set hy with w | w
  · exact h y w
  · rw [w]
    exact xor_lt (at_lt h hi) hx
theorem spl_row {ib : List Nat} {i x : Nat} {f : Nat → Int32} (h : xrow ib f) (hi : i < ib.length) : xrow (spl ib i x) (upd f i (nI (ib.getD i 0 ^^^ x))) := by
  intro j hj
  rw [spl_len] at hj
  unfold spl
  by_cases e : j = i
  · subst e
    rw [upd_at]
    generalize ib.getD j 0 ^^^ x = w
    rw [List.getD_eq_getElem?_getD, List.getElem?_set_self hj]
    rfl
  · rw [upd_ne _ _ e, List.getD_eq_getElem?_getD, List.getElem?_set_ne (Ne.symm e), ← List.getD_eq_getElem?_getD]
    exact h j hj
section SP
variable {K : Int32 → XS → List AE → Prop} {KT : Nat → XS → List AE → Prop} {S : XS} {r : List AE} {A : AS} {p1 p2 : Int32} {N : Nat} {C : XS → List AE → Prop} {Q : Int32 → XS → List AE → Prop} {ib : List Nat}
def at1 (ib : List Nat) (p1 : Int32) (i : Nat) : Prop := p1 = nI i ∧ i < ib.length
def by1 (p2 : Int32) (x : Nat) : Prop := p2 = nI x ∧ 1 ≤ x ∧ x ≤ 127
theorem at1_no (hl : ib.length ≤ 120) (h : ∀ i, ¬ at1 ib p1 i) : p1 < 0 ∨ (¬ p1 < 0 ∧ ¬ p1 < nI ib.length ∧ nI ib.length - 1 < p1) := by
  by_cases c : p1 < 0
  · exact Or.inl c
  · obtain ⟨j, hj, rfl⟩ := nI_of c
    have : ¬ j < ib.length := fun w => h j ⟨rfl, w⟩
    refine Or.inr ⟨c, ?_, ?_⟩
    · rw [nI_ltI hj (by omega)]; omega
    · rw [pr_lt (by omega) hj]; omega
theorem at1_yes {i : Nat} (hl : ib.length ≤ 120) (h : at1 ib p1 i) : ¬ p1 < 0 ∧ p1 < nI ib.length ∧ ¬ nI ib.length - 1 < p1 ∧ vp_in p1 120 ∧ p1.toNatClampNeg = i := by
  obtain ⟨rfl, h⟩ := h
  refine ⟨nI_pos (by omega), ?_, ?_, vp_in_nI (by omega) (by decide), nI_clamp (by omega)⟩
  · rw [nI_ltI (by omega) (by omega)]; exact h
  · rw [pr_lt (by omega) (by omega)]; omega
theorem by1_no (h : ∀ i, ¬ by1 p2 i) : p2 < 1 ∨ (¬ p2 < 1 ∧ ¬ p2 ≤ 127 ∧ 127 < p2) := by
  by_cases c : p2 < 1
  · exact Or.inl c
  · have c0 : ¬ p2 < 0 := by
      intro z
      rw [lt0_ti] at z
      rw [Int32.lt_iff_toInt_lt, show (1 : Int32).toInt = 1 by decide] at c
      omega
    obtain ⟨j, hj, rfl⟩ := nI_of c0
    rw [li_1, nI_ltI hj (by omega)] at c
    have : ¬ j ≤ 127 := fun w => h j ⟨rfl, by omega, w⟩
    refine Or.inr ⟨?_, ?_, ?_⟩
    · rw [li_1, nI_ltI hj (by omega)]; exact c
    · rw [li_127, nI_leI hj (by omega)]; exact this
    · rw [li_127, nI_ltI (by omega) hj]; omega
theorem by1_yes {x : Nat} (h : by1 p2 x) : ¬ p2 < 1 ∧ p2 ≤ 127 ∧ ¬ 127 < p2 := by
  obtain ⟨rfl, h1, h2⟩ := h
  rw [li_1, nI_ltI (by omega) (by omega), li_127, nI_leI (by omega) (by omega), nI_ltI (by omega) (by omega)]
  omega
theorem rT_spoil (hI : TI ib S) (hb : bud r) (h9 : (∀ i, ¬ at1 ib p1 i) → KT 9 S (r ++ [xO 9 []])) (h7 : ∀ i, at1 ib p1 i → (∀ x, ¬ by1 p2 x) → KT 7 S (r ++ [xO 7 []])) (h : ∀ i x, at1 ib p1 i → by1 p2 x → ∀ f, xrow (spl ib i x) f → K (nI (ib.getD i 0 ^^^ x)) (sA (sF S 4 0) 2 f) r) : w_T_spoil S r p1 p2 K KT := by
  obtain ⟨i1, i2, i3, i4⟩ := hI
  unfold w_T_spoil
  rw [i1]
  by_cases hi : ∃ i, at1 ib p1 i
  · obtain ⟨i, hi⟩ := hi
    obtain ⟨a1, a2, a3, a4, a5⟩ := at1_yes i2 hi
    refine ⟨fun z => absurd z a1, fun _ => ⟨fun _ => ?_, fun z => absurd a2 z⟩⟩
    by_cases hx : ∃ x, by1 p2 x
    · obtain ⟨x, hx⟩ := hx
      obtain ⟨b1, b2, b3⟩ := by1_yes hx
      refine ⟨fun z => absurd z b1, fun _ => ⟨fun _ => ⟨a4, a4, a4, ?_⟩, fun z => absurd b2 z⟩⟩
      have hx2 := hx.2.2
      have hlt := xor_lt (at_lt i3 hi.2) (show x < 128 by omega)
      have e : vp_nar .byte (((gA S 2 i) ^^^ p2.toInt8.toInt32).toInt8.toInt32) = nI (ib.getD i 0 ^^^ x) := by
        rw [i4 i hi.2, hx.1, nI_byte2 x (by omega), nI_xor, nI_byte _ hlt]
      rw [a5, e, upd_at]
      exact h i x hi hx _ (spl_row i4 hi.2)
    · have bad : w_T_spoil_34 K KT S r := ⟨hb, h7 i hi (fun x w => hx ⟨x, w⟩)⟩
      rcases by1_no (fun x w => hx ⟨x, w⟩) with w | ⟨w1, w2, w3⟩
      · exact ⟨fun _ => bad, fun z => absurd w z⟩
      · exact ⟨fun z => absurd z w1, fun _ => ⟨fun z => absurd z w2, fun _ => bad⟩⟩
  · have bad : w_T_spoil_15 K KT S r := ⟨hb, h9 (fun i w => hi ⟨i, w⟩)⟩
    rcases at1_no i2 (fun i w => hi ⟨i, w⟩) with w | ⟨w1, w2, w3⟩
    · exact ⟨fun _ => bad, fun z => absurd w z⟩
    · exact ⟨fun z => absurd z w1, fun _ => ⟨fun z => absurd z w2, fun _ => bad⟩⟩
theorem rM_spoil (hI : MI ib S) (h9 : (∀ i, ¬ at1 ib p1 i) → K 0 (sF (sF S 800 0) 800 1) r) (h7 : ∀ i, at1 ib p1 i → (∀ x, ¬ by1 p2 x) → K 0 (sF (sF S 800 0) 800 2) r) (h : ∀ i x, at1 ib p1 i → by1 p2 x → ∀ f, xrow (spl ib i x) f → gF S 801 = 1 → MB ib S → K (nI (ib.getD i 0 ^^^ x)) (sF (sA (sF S 800 0) 9 f) 815 0) r) : w_M_spoil S r p1 p2 K := by
  unfold w_M_spoil
  by_cases hne : ib = []
  · have e := hI.1
    rw [if_pos hne] at e
    rw [e]
    exact ⟨fun _ => h9 (fun i w => by have := w.2; rw [hne] at this; exact absurd this (Nat.not_lt_zero _)), fun z => absurd rfl z⟩
  · have e := hI.1
    rw [if_neg hne] at e
    have hB := hI.2 hne
    have hB' := hB
    obtain ⟨i1, i2, i3, i4⟩ := hB
    rw [i1]
    refine ⟨fun z => absurd (e.symm.trans z) (by decide), fun _ => ?_⟩
    by_cases hi : ∃ i, at1 ib p1 i
    · obtain ⟨i, hi⟩ := hi
      obtain ⟨a1, a2, a3, a4, a5⟩ := at1_yes i2 hi
      refine wi_yes a1 a3 ⟨fun _ => ?_, fun z => absurd z (by decide)⟩
      by_cases hx : ∃ x, by1 p2 x
      · obtain ⟨x, hx⟩ := hx
        obtain ⟨b1, b2, b3⟩ := by1_yes hx
        refine wi_yes b1 b3 ⟨fun _ => ⟨a4, a4, a4, ?_⟩, fun z => absurd z (by decide)⟩
        have e2 : (gA S 9 i) ^^^ p2 = nI (ib.getD i 0 ^^^ x) := by
          rw [i4 i hi.2, hx.1, nI_xor]
        rw [a5, e2, upd_at]
        exact h i x hi hx _ (spl_row i4 hi.2) e hB'
      · have bad := h7 i hi (fun x w => hx ⟨x, w⟩)
        refine wi_no ?_ ⟨fun z => absurd rfl z, fun _ => bad⟩
        rcases by1_no (fun x w => hx ⟨x, w⟩) with w | ⟨w1, w2, w3⟩
        · exact Or.inl w
        · exact Or.inr w3
    · have bad := h9 (fun i w => hi ⟨i, w⟩)
      refine wi_no ?_ ⟨fun z => absurd rfl z, fun _ => bad⟩
      rcases at1_no i2 (fun i w => hi ⟨i, w⟩) with w | ⟨w1, w2, w3⟩
      · exact Or.inl w
      · exact Or.inr w3
theorem rJ_spoil (hJ : J N S r) (hN : N ≤ 512) (hC : ∀ S' r', J (N + 1) S' r' → C S' r') (hQ : ∀ k S1 r1, w_M_spoil S1 r1 p1 p2 (fun b S2 r2 => chk K C k b S2 r2) → Q k S1 r1) : w_L_spoil S r p1 p2 Q := by
  have hJ' := hJ
  have hb := hJ.bud hN
  obtain ⟨A, ib, q, h1, h2, h3, h4, h5, h6⟩ := hJ
  refine rT_spoil h4 hb (fun hn => Or.inl ⟨rfl, hQ _ _ _ ?_⟩) (fun i hi hn => Or.inr ⟨rfl, hQ _ _ _ ?_⟩) (fun i x hi hx f hf => hQ _ _ _ ?_)
  · exact rM_spoil h5 (fun _ => chk_err rfl (by decide) (hC _ _ (hJ'.err (by decide)))) (fun i hi => absurd hi (hn i)) (fun i x hi => absurd hi (hn i))
  · exact rM_spoil h5 (fun hn' => absurd hi (hn' i)) (fun _ _ _ => chk_err rfl (by decide) (hC _ _ (hJ'.err (by decide)))) (fun i x hi hx => absurd hx (hn x))
  · generalize hv : vp_updL (gO (sA (sF S 4 0) 2 f)) (0 : Int32).toNatClampNeg ((nI (ib.getD i 0 ^^^ x)).toInt64) = gv
    have x1 : kX S (sO (sA (sF S 4 0) 2 f) gv) := ((kX_sF (by decide)).trans (kX_sA (by decide))).trans kX_sO
    have hx2 := hx.2.2
    have hl := h4.2.1
    have hii := hi.2
    have t1 : TA (fr0 A) q (sO (sA (sF S 4 0) 2 f) gv) r := TA.o ((TA_fr0 h2).same (fun _ _ => rfl) (by rw [gA_sA, if_neg (by decide)]) (fun _ _ => rfl) (fun _ => rfl))
    have sb := spl_b (x := x) h4.2.2.1 hi.2 (by omega)
    have ti : TI (spl ib i x) (sO (sA (sF S 4 0) 2 f) gv) := ⟨by rw [spl_len]; exact h4.1, by rw [spl_len]; exact hl, sb, by show xrow _ (gA (sA (sF S 4 0) 2 f) 2); rw [gA_sA, if_pos rfl]; exact hf⟩
    refine rM_spoil (h5.x x1) (fun hn => absurd hi (hn i)) (fun _ _ hn => absurd hx (hn x)) (fun i' x' hi' hx' f' hf' e8 hB => ?_)
    have ei : i' = i := by
      have e := hi'.1.symm.trans hi.1
      have := hi'.2
      rw [nI_eq (by omega) (by omega)] at e
      exact e
    have ex : x' = x := by
      have e := hx'.1.symm.trans hx.1
      have := hx'.2.2
      rw [nI_eq (by omega) (by omega)] at e
      exact e
    subst ei ex
    generalize hS1 : sO (sA (sF S 4 0) 2 f) gv = S1 at *
    have hne : spl ib i' x' ≠ [] := fun e => by
      have := spl_len ib i' x'
      rw [e, List.length_nil] at this
      omega
    have y1 : kY S1 (sF (sA (sF S1 800 0) 9 f') 815 0) := ((kY_sF (by decide)).trans (kY_sA (by decide))).trans (kY_sF (by decide))
    have m1 : MA (fr0 A) (sF (sA (sF S1 800 0) 9 f') 815 0) := MA_fr0 ((MA_800 (h3.x x1)).same (fun _ _ => rfl) (fun j hj => by rw [gA_sA, if_neg (by rintro rfl; revert hj; decide)]))
    have mb : MB (spl ib i' x') (sF (sA (sF S1 800 0) 9 f') 815 0) := ⟨by rw [spl_len]; exact hB.1, by rw [spl_len]; exact hl, sb, by show xrow _ (gA (sA (sF S1 800 0) 9 f') 9); rw [gA_sA, if_pos rfl]; exact hf'⟩
    refine chk_ok rfl ?_ (hC _ _ ⟨fr0 A, spl ib i' x', q, inv_w (inv_fr0 h1) (by omega) (by omega), t1.y y1, m1, ti.y y1, MI_some hne e8 mb, by omega⟩)
    rw [y1.2.2.2.2, ← hS1, ← hv]
    exact gO_set _ _
def b127 (p : Int32) (x : Nat) : Prop := p = nI x ∧ x ≤ 127
theorem b127_no (h : ∀ i, ¬ b127 p1 i) : p1 < 0 ∨ (¬ p1 < 0 ∧ ¬ p1 ≤ 127 ∧ 127 < p1) := by
  by_cases c : p1 < 0
  · exact Or.inl c
  · obtain ⟨j, hj, rfl⟩ := nI_of c
    have : ¬ j ≤ 127 := fun w => h j ⟨rfl, w⟩
    refine Or.inr ⟨c, ?_, ?_⟩
    · rw [li_127, nI_leI hj (by omega)]; exact this
    · rw [li_127, nI_ltI (by omega) hj]; omega
theorem b127_yes {x : Nat} (h : b127 p1 x) : ¬ p1 < 0 ∧ p1 ≤ 127 ∧ ¬ 127 < p1 := by
  obtain ⟨rfl, h1⟩ := h
  rw [li_127, nI_leI (by omega) (by omega), nI_ltI (by omega) (by omega)]
  exact ⟨nI_pos (by omega), by omega, by omega⟩
theorem rT_add (hI : TI ib S) (hb : bud r) (h7 : (∀ x, ¬ b127 p1 x) → KT 7 S (r ++ [xO 7 []])) (h8 : ∀ x, b127 p1 x → ib.length = 120 → KT 8 S (r ++ [xO 8 []])) (h : ∀ x, b127 p1 x → ib.length < 120 → ∀ f, xrow (ib ++ [x]) f → ∀ B, K (nI (ib.length + 1)) (sA (sF (sF (sF S 4 0) 101 (nI (ib.length + 1))) 102 B) 2 f) r) : w_T_add S r p1 K KT := by
  obtain ⟨i1, i2, i3, i4⟩ := hI
  by_cases hx : ∃ x, b127 p1 x
  · obtain ⟨x, hx⟩ := hx
    obtain ⟨b1, b2, b3⟩ := b127_yes hx
    have h120 : gF S 101 = 120 ↔ ib.length = 120 := by rw [i1, li_120, nI_eq (by omega) (by omega)]
    refine ⟨fun z => absurd z b1, fun _ => ⟨fun _ => ⟨fun c => ?_, fun c => ⟨hb, h8 x hx (h120.mp c)⟩⟩, fun z => absurd b2 z⟩⟩
    rw [h120] at c
    have h127 := hx.2
    rw [i1, hx.1]
    exact rF_put (by omega) (by omega) (h x hx (by omega) _ (xrow_wr i4) _)
  · have bad : w_T_add_10 K KT S r := ⟨hb, h7 (fun x w => hx ⟨x, w⟩)⟩
    rcases b127_no (fun x w => hx ⟨x, w⟩) with w | ⟨w1, w2, w3⟩
    · exact ⟨fun _ => bad, fun z => absurd w z⟩
    · exact ⟨fun z => absurd z w1, fun _ => ⟨fun z => absurd z w2, fun _ => bad⟩⟩
theorem rM_add (hI : MI ib S) (hl : ib.length ≤ 120) (h7 : (∀ x, ¬ b127 p1 x) → K 0 (sF (sF S 800 0) 800 1) r) (h8 : ∀ x, b127 p1 x → ib.length = 120 → K 0 (sF (sF S 800 0) 800 2) r) (h : ∀ x, b127 p1 x → ib.length < 120 → ∀ f, xrow (ib ++ [x]) f → K (nI (ib.length + 1)) (sF (sF (sA (sF (sF S 800 0) 801 1) 9 f) 802 (nI (ib.length + 1))) 815 0) r) : w_M_add S r p1 K := by
  by_cases hx : ∃ x, b127 p1 x
  · obtain ⟨x, hx⟩ := hx
    obtain ⟨b1, b2, b3⟩ := b127_yes hx
    refine wi_yes b1 b3 ⟨fun _ => ?_, fun z => absurd z (by decide)⟩
    have go : xrow ib (gA S 9) → w_M_add_37 K (sF S 800 0) r p1 (nI ib.length) := by
      intro hrow
      unfold w_M_add_37
      rw [li_120, nI_eq (by omega) (by omega)]
      refine ⟨fun c => ⟨vp_in_nI (by omega) (by decide), ?_⟩, fun c => h8 x hx c⟩
      rw [nI_clamp (by omega), nI_1, hx.1]
      refine h x hx (by omega) _ ?_
      show xrow (ib ++ [x]) (upd (gA S 9) ib.length (nI x))
      rw [wr_one]
      exact xrow_wr hrow
    by_cases hne : ib = []
    · have e := hI.1
      rw [if_pos hne] at e
      rw [e]
      refine ⟨fun _ => ?_, fun z => absurd rfl z⟩
      have g := go (by rw [hne]; exact fun i hi => absurd hi (Nat.not_lt_zero _))
      rw [hne] at g
      exact g
    · have e := hI.1
      rw [if_neg hne] at e
      have hB := hI.2 hne
      refine ⟨fun z => absurd (e.symm.trans z) (by decide), fun _ => ?_⟩
      rw [hB.1]
      exact go hB.2.2.2
  · refine wi_no ?_ ⟨fun z => absurd rfl z, fun _ => h7 (fun x w => hx ⟨x, w⟩)⟩
    rcases b127_no (fun x w => hx ⟨x, w⟩) with w | ⟨w1, w2, w3⟩
    · exact Or.inl w
    · exact Or.inr w3
theorem rJ_add (hJ : J N S r) (hN : N ≤ 512) (hC : ∀ S' r', J (N + 1) S' r' → C S' r') (hQ : ∀ k S1 r1, w_M_add S1 r1 p1 (fun b S2 r2 => chk K C k b S2 r2) → Q k S1 r1) : w_L_add S r p1 Q := by
  have hJ' := hJ
  have hb := hJ.bud hN
  obtain ⟨A, ib, q, h1, h2, h3, h4, h5, h6⟩ := hJ
  have hl := h4.2.1
  refine rT_add h4 hb (fun hn => Or.inl ⟨rfl, hQ _ _ _ ?_⟩) (fun x hx hf => Or.inr ⟨rfl, hQ _ _ _ ?_⟩) (fun x hx hlt f hf B => hQ _ _ _ ?_)
  · exact rM_add h5 hl (fun _ => chk_err rfl (by decide) (hC _ _ (hJ'.err (by decide)))) (fun i hi => absurd hi (hn i)) (fun x hi => absurd hi (hn x))
  · exact rM_add h5 hl (fun hn => absurd hx (hn x)) (fun _ _ _ => chk_err rfl (by decide) (hC _ _ (hJ'.err (by decide)))) (fun _ _ hlt => by omega)
  · generalize hv : vp_updL (gO (sA (sF (sF (sF S 4 0) 101 (nI (ib.length + 1))) 102 B) 2 f)) (0 : Int32).toNatClampNeg ((nI (ib.length + 1)).toInt64) = gv
    have hx2 := hx.2
    have hlen : (ib ++ [x]).length = ib.length + 1 := by rw [List.length_append, List.length_singleton]
    have sb : ∀ y ∈ ib ++ [x], y < 128 := mem_app h4.2.2.1 (fun y hy => by rw [List.mem_singleton.mp hy]; omega)
    have x1 : kX S (sO (sA (sF (sF (sF S 4 0) 101 (nI (ib.length + 1))) 102 B) 2 f) gv) := ((((kX_sF (by decide)).trans (kX_sF (by decide))).trans (kX_sF (by decide))).trans (kX_sA (by decide))).trans kX_sO
    have t1 : TA (fr0 A) q (sO (sA (sF (sF (sF S 4 0) 101 (nI (ib.length + 1))) 102 B) 2 f) gv) r := TA.o ((TA_fr0 h2).same (fun j hj => by rw [gF_sA, gF_sF, if_neg (by rintro rfl; revert hj; decide), gF_sF, if_neg (by rintro rfl; revert hj; decide)]) (by rw [gA_sA, if_neg (by decide)]; rfl) (fun _ _ => rfl) (fun _ => rfl))
    have ti : TI (ib ++ [x]) (sO (sA (sF (sF (sF S 4 0) 101 (nI (ib.length + 1))) 102 B) 2 f) gv) := ⟨by rw [hlen]; rfl, by rw [hlen]; omega, sb, by show xrow _ (gA (sA (sF (sF (sF S 4 0) 101 (nI (ib.length + 1))) 102 B) 2 f) 2); rw [gA_sA, if_pos rfl]; exact hf⟩
    refine rM_add (h5.x x1) hl (fun hn => absurd hx (hn x)) (fun _ _ hn => by omega) (fun x' hx' _ f' hf' => ?_)
    have ex : x' = x := by
      have e := hx'.1.symm.trans hx.1
      have := hx'.2
      rw [nI_eq (by omega) (by omega)] at e
      exact e
    subst ex
    generalize hS1 : sO (sA (sF (sF (sF S 4 0) 101 (nI (ib.length + 1))) 102 B) 2 f) gv = S1 at *
    have y1 : kY S1 (sF (sF (sA (sF (sF S1 800 0) 801 1) 9 f') 802 (nI (ib.length + 1))) 815 0) := ((((kY_sF (by decide)).trans (kY_sF (by decide))).trans (kY_sA (by decide))).trans (kY_sF (by decide))).trans (kY_sF (by decide))
    have m1 : MA (fr0 A) (sF (sF (sA (sF (sF S1 800 0) 801 1) 9 f') 802 (nI (ib.length + 1))) 815 0) := MA_fr0 ((MA_800 (h3.x x1)).same (fun j hj => by rw [gF_sF, if_neg (by rintro rfl; revert hj; decide), gF_sA, gF_sF, if_neg (by rintro rfl; revert hj; decide)]) (fun j hj => by rw [gA_sF, gA_sA, if_neg (by rintro rfl; revert hj; decide)]; rfl))
    have mb : MB (ib ++ [x']) (sF (sF (sA (sF (sF S1 800 0) 801 1) 9 f') 802 (nI (ib.length + 1))) 815 0) := ⟨by rw [hlen]; rfl, by rw [hlen]; omega, sb, by show xrow _ (gA (sA (sF (sF S1 800 0) 801 1) 9 f') 9); rw [gA_sA, if_pos rfl]; exact hf'⟩
    refine chk_ok rfl ?_ (hC _ _ ⟨fr0 A, ib ++ [x'], q, inv_w (inv_fr0 h1) (by omega) (by omega), t1.y y1, m1, ti.y y1, MI_some (by simp) rfl mb, by omega⟩)
    rw [y1.2.2.2.2, ← hS1, ← hv]
    exact gO_set _ _
end SP
