/-! ===== what stays true ===== -/
def invc (z N : Nat) (c : Nat → Nat) : Prop := c 0 ≤ 1 ∧ 1 ≤ c 1 ∧ c 1 ≤ 1000000 ∧ 1 ≤ c 2 ∧ c 2 ≤ z ∧ (c 3 = 0 ∨ c 1 ≤ c 3 ∧ c 0 = 1 ∧ c 3 < 1000000) ∧ c 4 ≤ N ∧ (c 0 = 1 → c 5 ≤ c 4) ∧ c 6 ≤ c 4 ∧ c 7 ≤ c 4 ∧ c 8 ≤ N
theorem invc.w {z z' N N' : Nat} {c : Nat → Nat} (h : invc z N c) (h1 : z ≤ z') (h2 : N ≤ N') : invc z' N' c := by
  unfold invc at *
  omega
theorem invc_snd {z N : Nat} {c : Nat → Nat} (h : invc z N c) : invc (z + 1) N (sndc c) := by
  simp [invc, sndc, up] at *
  omega
theorem invc_out {z N : Nat} {c : Nat → Nat} (h : invc z N c) : invc z N (outA c) := by
  simp [invc, outA, up] at *
  omega
theorem invc_mv {z N : Nat} {c : Nat → Nat} {n : Nat} (h : invc z N c) (hn : n ≤ 1000000) : invc z N (mvA c n) := by
  simp [invc, mvA, up] at *
  generalize hw : (if c 1 < n then n else c 1) = w
  have : 1 ≤ w ∧ w ≤ 1000000 ∧ c 1 ≤ w := by
    rw [← hw]
    split <;> omega
  split <;> omega
theorem invc_sdc {z N : Nat} {c : Nat → Nat} (h : invc z N c) (fs : List (List Nat)) : invc z N (sdc c fs) := by
  unfold sdc
  split
  · exact h
  · simp [invc, up] at *
    omega
theorem invc_hc {z N : Nat} {c : Nat → Nat} (h : invc z N c) : invc z N (hc1 c) := by
  unfold hc1
  split
  · simp [invc, up] at *
    omega
  · exact h
theorem invc_lg {z N : Nat} {c : Nat → Nat} (h : invc z N c) : invc z N (lgc c) := by
  simp [invc, lgc, up] at *
  omega
theorem invc_8 {z N : Nat} {c : Nat → Nat} (h : invc z N c) : invc z (N + 1) (up c 8 (c 8 + 1)) := by
  simp [invc, up] at *
  omega
theorem invc_cR {z N : Nat} {c : Nat → Nat} (h : invc z N c) : invc (z + 1) N (cR c) := by
  unfold cR
  split
  · exact invc_snd h
  · simp [invc, up] at *
    omega
theorem invc_lv {z N : Nat} {c : Nat → Nat} (h : invc z N c) : invc (z + 1) N (lvc c) := by
  unfold lvc
  split
  · exact invc_out (invc_snd h)
  · exact (invc_out h).w (by omega) (Nat.le_refl _)
theorem invc_ask {z N n : Nat} {c : Nat → Nat} (h : invc z N c) (h0 : c 0 = 1) (hn : c 1 < n) (hn2 : n < 1000000) : invc (z + 1) N (up (up (sndc c) 7 (c 4)) 3 n) := by
  simp [invc, sndc, up] at *
  omega
theorem invc_ms {z N n : Nat} {c : Nat → Nat} (h : invc z N c) (h0 : c 0 = 1) (hn : c 1 < n) (hn2 : n < 1000000) : invc z N (up c 3 (if c 3 < n then n else c 3)) := by
  simp [invc, up] at *
  split <;> omega
/-- the whole state -/
def inv (z N : Nat) (A : AS) : Prop := invc z N A.1 ∧ rok A.2.2.1 (A.1 2) ∧ A.2.2.1.length ≤ N ∧ ook A.2.2.2.1 A.2.2.2.2 ∧ uok A.2.2.2.2 ∧ A.2.2.2.2.length ≤ N ∧ A.2.2.2.1.length ≤ 40 ∧ A.2.1.length < 20000
theorem inv_aok {z N : Nat} {A : AS} (h : inv z N A) (hz : z < 1590) (hN : N ≤ 515) : aok A ∧ A.1 2 < 1590 ∧ A.2.1.length < 90000 ∧ (A.1 0 = 0 → A.1 3 = 0) := by
  obtain ⟨⟨c0, c1, c2, c3, c4, c5, c6, c7, c8, c9, c10⟩, h2, h3, h4, h5, h6, h7, h8⟩ := h
  exact ⟨⟨c0, c2, c1, c3, by omega, by omega, h2, h4, h5, by omega, h7, by omega, by omega⟩, by omega, by omega, fun e => by omega⟩
theorem inv_w {z z' N N' : Nat} {A : AS} (h : inv z N A) (h1 : z ≤ z') (h2 : N ≤ N') : inv z' N' A := by
  obtain ⟨a, b, c, d, e, f, g, i⟩ := h
  exact ⟨a.w h1 h2, b, by omega, d, e, by omega, g, i⟩
/-- settling commutes -/
theorem sn3 (c : Nat → Nat) (x : Nat) : sndc (up c 3 x) = up (sndc c) 3 x := by
  funext j
  simp only [sndc, up]
  (repeat' split) <;> first | rfl | omega
theorem sd3 (c : Nat → Nat) (x : Nat) (fs : List (List Nat)) : sdc (up c 3 x) fs = up (sdc c fs) 3 x := by
  unfold sdc
  split
  · rfl
  · funext j
    simp only [up]
    (repeat' split) <;> first | rfl | omega
theorem lv3 (c : Nat → Nat) (x : Nat) : lvc (up c 3 x) = lvc c := by
  have h0 : up c 3 x 0 = c 0 := up_ne _ _ (by decide)
  unfold lvc
  rw [h0, sn3]
  unfold outA
  split
  · funext j
    simp only [up]
    (repeat' split) <;> first | rfl | omega
  · funext j
    simp only [up]
    (repeat' split) <;> first | rfl | omega
theorem cR3 (c : Nat → Nat) (x : Nat) : cR (up c 3 x) = up (cR c) 3 x := by
  have h0 : up c 3 x 0 = c 0 := up_ne _ _ (by decide)
  unfold cR
  rw [h0]
  split
  · exact sn3 c x
  · funext j
    simp only [up]
    (repeat' split) <;> first | rfl | omega
/-- a message in its turn: both ways agree when missing is settled -/
theorem in_eq {t a b : Nat} {c : Nat → Nat} {R : List (List Nat) × List RP × List RP × List Nat} {o : List RP × List Nat × (Nat × Nat × Nat × Nat)} {w : Nat} (h0 : c 0 = 1) (hw : c 1 ≤ w) (ht : t ∈ mkinds) (h3 : c 3 = 0 ∨ c 1 ≤ c 3) (hw1 : 1 ≤ w) : (stl (inM t a b (up c 1 w, R) o).1, (inM t a b (up c 1 w, R) o).2) = inT t a b (up (up c 1 w) 3 (if w ≤ c 3 then c 3 else 0), R) o := by
  have z0 : ∀ (x y : Nat), up (up c 1 x) 3 y 0 = c 0 := fun x y => by rw [up_ne _ _ (by decide), up_ne _ _ (by decide)]
  have q2 : ∀ (x y : Nat), up (up c 1 x) 3 y 2 = c 2 := fun x y => by rw [up_ne _ _ (by decide), up_ne _ _ (by decide)]
  have p2 : ∀ (x : Nat), up c 1 x 2 = c 2 := fun x => by rw [up_ne _ _ (by decide)]
  have key : ∀ d : Nat → Nat, d 1 = w → d 3 = c 3 → d 0 = 1 → stl d = up d 3 (if w ≤ c 3 then c 3 else 0) := by
    intro d e1 e3 e0
    unfold stl
    rw [e1, e3, e0]
    simp
  unfold inM inT
  by_cases h49 : t = 49
  · subst h49
    simp only [Nat.reduceEqDiff, if_false, if_true, msgf, q2, p2]
    rw [key (sndc (up c 1 w)) rfl rfl h0, sn3]
  · by_cases h50 : t = 50
    · subst h50
      simp only [Nat.reduceEqDiff, if_false, if_true, q2, p2]
      rw [key (sdc (up c 1 w) _) (by rw [sdc_ne _ _ (by decide)]; rfl) (by rw [sdc_ne _ _ (by decide)]; rfl) (by rw [sdc_ne _ _ (by decide)]; exact h0), sd3]
    · by_cases h52 : t = 52
      · subst h52
        simp only [Nat.reduceEqDiff, if_false, if_true]
        have e1 : up c 1 w 1 = w := up_at _ _ _
        have e2 : up (up c 1 w) 3 (if w ≤ c 3 then c 3 else 0) 1 = w := by rw [up_ne _ _ (by decide)]; exact e1
        have e3 : up (up c 1 w) 3 (if w ≤ c 3 then c 3 else 0) 3 = (if w ≤ c 3 then c 3 else 0) := up_at _ _ _
        unfold mvA
        rw [e1, e2, e3]
        generalize hx : (if w < a then a else w) = x
        have hxw : w ≤ x := by rw [← hx]; split <;> omega
        have hs : stl (up (up c 1 w) 1 x) = up (up c 1 x) 3 (if x ≤ c 3 then c 3 else 0) := by
          rw [up_up]
          unfold stl
          rw [up_at, up_ne c x (show (3 : Nat) ≠ 1 by decide), up_ne c x (show (0 : Nat) ≠ 1 by decide), h0]
          simp
        rw [hs]
        have hz : (if x ≤ (if w ≤ c 3 then c 3 else 0) then (if w ≤ c 3 then c 3 else 0) else 0) = (if x ≤ c 3 then c 3 else 0) := by
          by_cases u : w ≤ c 3
          · rw [if_pos u]
          · rw [if_neg u, if_neg (show ¬ x ≤ c 3 by omega)]
            split <;> rfl
        rw [hz]
        have hf : up (up c 1 x) 3 (if x ≤ c 3 then c 3 else 0) = up (up (up (up c 1 w) 3 (if w ≤ c 3 then c 3 else 0)) 1 x) 3 (if x ≤ c 3 then c 3 else 0) := by
          funext j
          simp only [up]
          (repeat' split) <;> first | rfl | omega
        rw [hf]
      · simp only [if_neg h49, if_neg h50, if_neg h52]
        by_cases h53 : t = 53
        · simp only [if_pos h53]
          rw [lv3]
          have e1 : lvc (up c 1 w) 3 = 0 := by
            unfold lvc
            split <;> rfl
          have e0 : lvc (up c 1 w) 0 = 0 := by
            unfold lvc
            split <;> rfl
          have hs : stl (lvc (up c 1 w)) = lvc (up c 1 w) := by
            unfold stl
            rw [e0, if_neg (by omega)]
            have := up_self (lvc (up c 1 w)) 3
            rw [e1] at this
            exact this
          rw [hs]
          have hl : lvf (up c 1 w) R.1 = lvf (up (up c 1 w) 3 (if w ≤ c 3 then c 3 else 0)) R.1 := by
            unfold lvf msgf
            rw [z0, q2, p2, up_ne c w (show (0 : Nat) ≠ 1 by decide)]
          rw [hl]
        · simp only [if_neg h53]
          by_cases hord : t = 68 ∨ t = 70 ∨ t = 71
          · simp only [if_pos hord, q2, p2]
            have e8 : up (up c 1 w) 3 (if w ≤ c 3 then c 3 else 0) 8 = up c 1 w 8 := up_ne _ _ (by decide)
            rw [e8, up_comm (up c 1 w) (j := 3) (k := 8) _ _ (by decide), cR3]
            generalize up c 1 w 8 + 1 = y
            have k0 : cR (up (up c 1 w) 8 y) 0 = 1 := by
              unfold cR
              split <;> exact h0
            have k1 : cR (up (up c 1 w) 8 y) 1 = w := by
              unfold cR
              split <;> rfl
            have k3 : cR (up (up c 1 w) 8 y) 3 = c 3 := by
              unfold cR
              split <;> rfl
            rw [key _ k1 k3 k0]
            have hfr : ∀ xx, frR (up (up c 1 w) 8 y) R.1 xx = frR (up (up (up c 1 w) 8 y) 3 (if w ≤ c 3 then c 3 else 0)) R.1 xx := by
              intro xx
              unfold frR
              rfl
            rw [hfr]
          · simp only [if_neg hord]
            rw [key (up c 1 w) rfl rfl h0]
/-- the orders' message's report -/
theorem tk_eq {z N t n d a b v : Nat} {A : AS} {o : List RP × List Nat × (Nat × Nat × Nat × Nat)} (hi : inv z N A) (ok : mok t n d a b v) : (tkM t n d a b A o).1 = (tkT t n d a b A o).1 ∧ (stl (tkM t n d a b A o).2.1, (tkM t n d a b A o).2.2) = (tkT t n d a b A o).2 := by
  obtain ⟨c, fr, rp, od, us⟩ := A
  obtain ⟨⟨c0, c1, c2, c3, c4, c5, c6, c7, c8, c9, c10⟩, h2, h3, h4, h5, h6, h7, h8⟩ := hi
  obtain ⟨m1, m2, m3, m4, m5, m6, m7⟩ := ok
  simp only at c0 c1 c2 c3 c4 c5 c6 c7 c8 c9 c10
  have stid : ∀ d : Nat → Nat, (d 3 = 0 ∨ d 1 ≤ d 3 ∧ d 0 = 1) → stl d = d := by
    intro d hd
    unfold stl
    by_cases e : d 1 ≤ d 3 ∧ d 0 = 1
    · rw [if_pos e, up_self]
    · rw [if_neg e]
      have : d 3 = 0 := by omega
      have h := up_self d 3
      rw [this] at h
      exact h
  have e0 := hc1_ne c (j := 0) (by decide)
  have e1 := hc1_ne c (j := 1) (by decide)
  have e3 := hc1_ne c (j := 3) (by decide)
  have shc : stl (hc1 c) = hc1 c := stid _ (by rw [e0, e1, e3]; omega)
  unfold tkM tkT
  simp only
  by_cases q1 : c 0 = 0 ∧ t ≠ 65
  · simp only [if_pos q1]
    refine ⟨trivial, ?_⟩
    rw [stid c (by omega)]
  · simp only [if_neg q1]
    by_cases q2 : t = 52 ∧ b = 0
    · simp only [if_pos q2]
      have hin : c 0 = 1 := by omega
      by_cases q3 : c 1 < a
      · simp only [if_pos q3]
        refine ⟨trivial, ?_⟩
        have hm : mvA (hc1 c) a = stl (up (hc1 c) 1 a) := by
          unfold mvA stl
          rw [up_at, e1, if_pos q3, up_ne (hc1 c) a (show (3 : Nat) ≠ 1 by decide), up_ne (hc1 c) a (show (0 : Nat) ≠ 1 by decide), e0, e3, hin]
          simp
        rw [hm]
      · simp only [if_neg q3]
        refine ⟨trivial, ?_⟩
        have hm : mvA (hc1 c) a = hc1 c := by
          unfold mvA
          rw [e1, if_neg q3, e3]
          have u1 := up_self (hc1 c) 1
          rw [e1] at u1
          rw [u1]
          have u3 := up_self (hc1 c) 3
          rw [e3] at u3
          by_cases e : c 1 ≤ c 3
          · rw [if_pos e]; exact u3
          · rw [if_neg e]
            have : c 3 = 0 := by omega
            rw [this] at u3
            exact u3
        rw [shc, hm]
    · simp only [if_neg q2]
      by_cases q3 : n < c 1
      · simp only [if_pos q3]
        by_cases q4 : d = 0
        · simp only [if_pos q4]
          refine ⟨trivial, ?_⟩
          rw [stid (lvc (hc1 c)) (by unfold lvc; split <;> exact Or.inl rfl)]
        · simp only [if_neg q4]
          refine ⟨trivial, ?_⟩
          rw [shc]
      · simp only [if_neg q3]
        have l0 : (lgn a (hc1 c, fr, rp, od, us)).1 0 = 1 := by
          unfold lgn
          split
          · assumption
          · rfl
        have l1 : (lgn a (hc1 c, fr, rp, od, us)).1 1 = c 1 := by
          unfold lgn
          split
          · exact e1
          · exact e1
        have l3 : (lgn a (hc1 c, fr, rp, od, us)).1 3 = c 3 := by
          unfold lgn
          split
          · exact e3
          · exact e3
        generalize lgn a (hc1 c, fr, rp, od, us) = C at *
        by_cases q4 : c 1 < n
        · simp only [if_pos q4]
          refine ⟨trivial, ?_⟩
          have hs : stl (erl t n a b C).1 = (erl t n a b C).1 := by
            refine stid _ ?_
            unfold erl
            split
            · unfold lvc
              split <;> exact Or.inl rfl
            · have b0 : (erB t a b C).1 0 = 1 := by
                unfold erB
                split
                · show sdc C.1 _ 0 = 1
                  rw [sdc_ne _ _ (by decide)]; exact l0
                · exact l0
              have b1 : (erB t a b C).1 1 = c 1 := by
                unfold erB
                split
                · show sdc C.1 _ 1 = _
                  rw [sdc_ne _ _ (by decide)]; exact l1
                · exact l1
              unfold erC
              split
              · refine Or.inr ⟨?_, b0⟩
                show (erB t a b C).1 1 ≤ n
                omega
              · refine Or.inr ⟨?_, b0⟩
                show (erB t a b C).1 1 ≤ (if (erB t a b C).1 3 < n then n else (erB t a b C).1 3)
                split <;> omega
          rw [hs]
        · simp only [if_neg q4]
          refine ⟨trivial, ?_⟩
          have := in_eq (t := t) (a := a) (b := b) (c := C.1) (R := C.2) (o := o) (w := c 1 + 1) l0 (by omega) m1 (by omega) (by omega)
          rw [this]
          have hmv : mvA C.1 (c 1 + 1) = up (up C.1 1 (c 1 + 1)) 3 (if c 1 + 1 ≤ C.1 3 then C.1 3 else 0) := by
            unfold mvA
            rw [l1, if_pos (by omega)]
          rw [hmv]
