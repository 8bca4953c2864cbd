/-! ===== the model cuts a frame into fields ===== -/
def MB (bs : List Nat) (S : XS) : Prop := gF S 802 = nI bs.length ∧ bs.length ≤ 120 ∧ (∀ x ∈ bs, x < 128) ∧ xrow bs (gA S 9)
def prn (x : Nat) : Prop := 33 ≤ x ∧ x ≤ 126
theorem MB_at {bs pre s' : List Nat} {x : Nat} {S : XS} (h : MB bs S) (e : bs = pre ++ x :: s') : gA S 9 pre.length = nI x ∧ x < 128 ∧ pre.length < 120 ∧ pre.length < bs.length := by
  obtain ⟨h1, h2, h3, h4⟩ := h
  have hl : bs.length = pre.length + (s'.length + 1) := by rw [e, List.length_append]; rfl
  refine ⟨?_, h3 x (by rw [e]; simp), by omega, by omega⟩
  rw [h4 pre.length (by omega), e, gd_r (Nat.le_refl _), Nat.sub_self]
  rfl
section CUT
variable {K : Int32 → XS → List AE → Prop} {k7 : XS → List AE → Int32 → Prop} {S : XS} {r : List AE} {bs : List Nat}
theorem rM_110 {v2 : Int32} {st : Nat} (hB : MB bs S) (h804 : vp_in (gF S 804) 41) : ∀ (s pre vs : List Nat) (g : Nat), bs = pre ++ s → s.length < g → pre.length = st + vs.length → ((¬ ∃ us s2, s = us ++ 1 :: s2 ∧ (∀ x ∈ us, prn x) ∧ vs ++ us ≠ []) → K 0 S r) → (∀ us s2, s = us ++ 1 :: s2 → (∀ x ∈ us, prn x) → vs ++ us ≠ [] → k7 (sF (sA (sA (sA S 10 (upd (gA S 10) (gF S 804).toNatClampNeg v2)) 11 (upd (gA S 11) (gF S 804).toNatClampNeg (nI st))) 12 (upd (gA S 12) (gF S 804).toNatClampNeg (nI (pre.length + us.length)))) 804 ((gF S 804) + 1)) r (nI (pre.length + us.length + 1))) → w_M_cut_110 k7 K g S r (nI pre.length) v2 (nI st)
  | s, pre, vs, 0, e, hg, hp, h0, h1 => absurd hg (Nat.not_lt_zero _)
  | [], pre, vs, g + 1, e, hg, hp, h0, h1 => by
    have hl : bs.length = pre.length := by rw [e, List.append_nil]
    have hb := hB.2.1
    refine ⟨fun _ => ⟨fun _ => h0 ?_, fun w => absurd (by rw [hB.1, hl]) w⟩, fun w => absurd (by rw [hB.1, hl]; exact nI_le (Nat.le_refl _) (by omega)) w⟩
    rintro ⟨us, s2, w, -⟩
    cases us <;> cases w
  | x :: s, pre, vs, g + 1, e, hg, hp, h0, h1 => by
    obtain ⟨a1, a2, a3, a4⟩ := MB_at hB e
    have hb := hB.2.1
    have hin : vp_in (nI pre.length) 120 := vp_in_nI a3 (by decide)
    have c146 : ¬ prn x → w_M_cut_146 k7 K S r (nI pre.length) v2 (nI st) := by
      intro hx
      refine ⟨fun w => ?_, fun _ => ⟨hin, fun w => ?_, fun w => ⟨fun z => ⟨h804, h804, h804, ?_⟩, fun z => ?_⟩⟩⟩
      · rw [hB.1, nI_eq (by omega) (by omega)] at w
        omega
      · rw [nI_clamp (by omega), a1, li_1, nI_eq (by omega) (by omega)] at w
        refine h0 ?_
        rintro ⟨us, s2, q1, q2, -⟩
        cases us with
        | nil => cases q1; exact w rfl
        | cons u us => cases q1; exact hx (q2 x (by simp))
      · rw [nI_clamp (by omega), a1, li_1, nI_eq (by omega) (by omega)] at w
        rw [nI_eq (by omega) (by omega)] at z
        rw [nI_1]
        refine h1 [] s (by rw [w]; rfl) (fun _ q => by cases q) ?_
        rw [List.append_nil]
        intro q
        rw [q] at hp
        exact z hp
      · rw [nI_clamp (by omega), a1, li_1, nI_eq (by omega) (by omega)] at w
        rw [nI_eq (by omega) (by omega)] at z
        refine h0 ?_
        rintro ⟨us, s2, q1, q2, q3⟩
        cases us with
        | nil =>
          have : vs = [] := List.eq_nil_of_length_eq_zero (by omega)
          rw [this] at q3
          exact q3 rfl
        | cons u us => cases q1; exact hx (q2 x (by simp))
    refine ⟨fun w => ?_, fun _ => ⟨hin, ?_⟩⟩
    · rw [hB.1, nI_leI (by omega) (by omega)] at w
      omega
    · rw [nI_clamp (by omega), a1]
      refine ⟨fun w => c146 (fun q => ?_), fun w => ⟨hin, fun z => c146 (fun q => ?_), fun z => ?_⟩⟩
      · rw [li_33, nI_ltI (by omega) (by omega)] at w
        exact absurd q.1 (by omega)
      · rw [li_126, nI_ltI (by omega) (by omega)] at z
        exact absurd q.2 (by omega)
      · rw [li_33, nI_ltI (by omega) (by omega)] at w
        rw [li_126, nI_ltI (by omega) (by omega)] at z
        have hx : prn x := ⟨by omega, by omega⟩
        have hpl : (pre ++ [x]).length = pre.length + 1 := by rw [List.length_append]; rfl
        rw [nI_1, ← hpl]
        refine rM_110 hB h804 s (pre ++ [x]) (vs ++ [x]) g (by rw [e]; simp) (by simp only [List.length_cons] at hg; omega) (by rw [hpl, List.length_append]; show _ = st + (_ + 1); omega) (fun hn => h0 ?_) (fun us s2 q1 q2 q3 => ?_)
        · rintro ⟨us, s2, q1, q2, q3⟩
          cases us with
          | nil => cases q1; exact absurd hx.1 (by omega)
          | cons u us =>
            cases q1
            exact hn ⟨us, s2, rfl, fun y hy => q2 y (by simp [hy]), by simp⟩
        · have := h1 (x :: us) s2 (by rw [q1]; rfl) (fun y hy => by
            rcases List.mem_cons.mp hy with rfl | hy
            · exact hx
            · exact q2 y hy) (by simp)
          rw [hpl, show pre.length + 1 + us.length = pre.length + (x :: us).length by simp only [List.length_cons]; omega]
          exact this
theorem pre_dig {ds s w : List Nat} {t : Nat} (hd : ∀ x ∈ ds, 48 ≤ x ∧ x ≤ 57) (h : ds ++ s = digs t ++ 61 :: w) : ∃ d2, digs t = ds ++ d2 ∧ s = d2 ++ 61 :: w := by
  rcases List.append_eq_append_iff.mp h with ⟨a, h1, h2⟩ | ⟨c, h1, h2⟩
  · exact ⟨a, h1, h2⟩
  · cases c with
    | nil => exact ⟨[], by rw [h1, List.append_nil, List.append_nil], h2.symm⟩
    | cons y c =>
      simp only [List.cons_append, List.cons.injEq] at h2
      have := hd y (by rw [h1]; simp)
      omega
/-- the state behind a field -/
def cst (S : XS) (j : Nat) (tag from_ to_ : Nat) : XS := sF (sA (sA (sA S 10 (upd (gA S 10) j (nI tag))) 11 (upd (gA S 11) j (nI from_))) 12 (upd (gA S 12) j (nI to_))) 804 (nI (j + 1))
theorem rM_67 {j : Nat} {pre0 ds s : List Nat} (hB : MB bs S) (h804 : gF S 804 = nI j) (hj : j < 41) (e : bs = pre0 ++ (ds ++ s)) (hd : ∀ x ∈ ds, 48 ≤ x ∧ x ≤ 57) (hl : ds.length ≤ 4) (hstop : ∀ x s1, s = x :: s1 → (48 ≤ x ∧ x ≤ 57) → ds.length = 4) (h0 : (¬ ∃ f s', ds ++ s = fb f ++ s' ∧ gdf f) → K 0 S r) (h1 : ∀ f s', ds ++ s = fb f ++ s' → gdf f → k7 (cst S j f.1 (pre0.length + (digs f.1).length + 1) (pre0.length + (digs f.1).length + 1 + f.2.length)) r (nI (pre0.length + (fb f).length))) : w_M_cut_67 k7 K S r (nI (pre0 ++ ds).length) (nI (num ds 0)) (nI pre0.length) := by
  have hb := hB.2.1
  have hlen : bs.length = pre0.length + (ds.length + s.length) := by rw [e, List.length_append, List.length_append]
  have hpl : (pre0 ++ ds).length = pre0.length + ds.length := List.length_append ..
  -- a field here begins with the digits read, and ends them
  have key : ∀ f s', ds ++ s = fb f ++ s' → gdf f → digs f.1 = ds ∧ s = 61 :: (f.2 ++ 1 :: s') := by
    intro f s' q1 q2
    unfold fb at q1
    simp only [List.append_assoc, List.cons_append, List.nil_append] at q1
    obtain ⟨d2, w1, w2⟩ := pre_dig hd q1
    have hh := digs_head q2.1 q2.2.1
    cases d2 with
    | nil => exact ⟨by rw [w1, List.append_nil], w2⟩
    | cons y d2 =>
      have hy := digs_dig f.1 y (by rw [w1]; simp)
      have h4 := hstop y _ w2 hy
      have := hh.2.1
      rw [w1, List.length_append] at this
      simp only [List.length_cons] at this
      omega
  rw [hpl]
  refine ⟨fun w => h0 ?_, fun w => ?_⟩
  · rw [nI_eq (by omega) (by omega)] at w
    rintro ⟨f, s', q1, q2⟩
    obtain ⟨z1, -⟩ := key f s' q1 q2
    have := (plc_pos f.1).1
    rw [← digs_len, z1] at this
    omega
  · rw [nI_eq (by omega) (by omega)] at w
    cases ds with
    | nil => simp at w
    | cons d0 dt =>
      obtain ⟨a1, a2, a3, a4⟩ := MB_at hB (pre := pre0) (x := d0) (s' := dt ++ s) e
      refine ⟨vp_in_nI a3 (by decide), ?_⟩
      rw [nI_clamp (by omega), a1]
      refine ⟨fun z => h0 ?_, fun z => ⟨fun y => h0 ?_, fun y => ?_⟩⟩
      · rw [li_48, nI_eq (by omega) (by omega)] at z
        rintro ⟨f, s', q1, q2⟩
        obtain ⟨z1, -⟩ := key f s' q1 q2
        have := (digs_head q2.1 q2.2.1).1
        rw [z1, z] at this
        exact this rfl
      · rw [hB.1, nI_eq (by omega) (by omega)] at y
        rintro ⟨f, s', q1, q2⟩
        obtain ⟨-, z2⟩ := key f s' q1 q2
        rw [z2] at hlen
        simp only [List.length_cons] at hlen y
        omega
      · rw [hB.1, nI_eq (by omega) (by omega)] at y
        rw [li_48, nI_eq (by omega) (by omega)] at z
        cases s with
        | nil => simp only [List.length_nil] at hlen; omega
        | cons x s1 =>
          have e2 : bs = (pre0 ++ (d0 :: dt)) ++ x :: s1 := by rw [e]; simp
          obtain ⟨b1, b2, b3, b4⟩ := MB_at hB e2
          rw [hpl] at b1 b3 b4
          refine ⟨vp_in_nI b3 (by decide), ?_⟩
          rw [nI_clamp (by omega), b1]
          refine ⟨fun u => ?_, fun u => h0 ?_⟩
          · rw [li_61, nI_eq (by omega) (by omega)] at u
            subst u
            obtain ⟨n1, n2, n3⟩ := digs_num hl hd (by simp) (by intro q; cases q; exact z rfl)
            have e3 : bs = (pre0 ++ (d0 :: dt) ++ [61]) ++ s1 := by rw [e]; simp
            have hp3 : (pre0 ++ (d0 :: dt) ++ [61]).length = pre0.length + (d0 :: dt).length + 1 := by rw [List.length_append, hpl]; rfl
            refine ⟨s1.length + 1, ?_⟩
            rw [nI_1]
            have hgo := rM_110 (K := K) (k7 := k7) (r := r) (v2 := nI (num (d0 :: dt) 0)) (st := pre0.length + (d0 :: dt).length + 1) hB (by rw [h804]; exact vp_in_nI hj (by decide)) s1 (pre0 ++ (d0 :: dt) ++ [61]) [] (s1.length + 1) e3 (by omega) (by rw [hp3]; rfl) (fun hn => h0 ?_) (fun us s2 q1 q2 q3 => ?_)
            · rw [hp3] at hgo
              exact hgo
            · rintro ⟨f, s', q1, q2⟩
              obtain ⟨-, z2⟩ := key f s' q1 q2
              simp only [List.cons.injEq, true_and] at z2
              exact hn ⟨f.2, s', z2, fun x hx => q2.2.2.2 x hx, by rw [List.nil_append]; exact q2.2.2.1⟩
            · have hg : gdf (num (d0 :: dt) 0, us) := ⟨n2, n3, by rw [List.nil_append] at q3; exact q3, q2⟩
              have hfb : (d0 :: dt) ++ 61 :: s1 = fb (num (d0 :: dt) 0, us) ++ s2 := by
                unfold fb
                rw [n1, q1]
                simp
              have := h1 _ s2 hfb hg
              unfold cst at this
              rw [n1] at this
              rw [h804, nI_clamp (by omega), nI_1, hp3]
              have hfl : pre0.length + (fb (num (d0 :: dt) 0, us)).length = pre0.length + (d0 :: dt).length + 1 + us.length + 1 := by
                unfold fb
                rw [n1, List.length_append]
                simp only [List.length_cons, List.length_append, List.length_nil]
                omega
              rw [hfl] at this
              exact this
          · rw [li_61, nI_eq (by omega) (by omega)] at u
            rintro ⟨f, s', q1, q2⟩
            obtain ⟨-, z2⟩ := key f s' q1 q2
            simp only [List.cons.injEq] at z2
            exact u z2.1
end CUT
