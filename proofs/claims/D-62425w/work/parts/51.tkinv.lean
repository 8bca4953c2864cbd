/-! ===== taking keeps what holds ===== -/
theorem ans_len (nx : Nat) (rp : List RP) (b e : Nat) : (ans nx rp b e).length ≤ 2 * rp.length + 1 := ago_len rp _
theorem inv_lgn {z N a : Nat} {A : AS} (h : inv z N A) (hf : A.2.1.length < 10000) : inv (z + 1) N (lgn a (hc1 A.1, A.2)) ∧ (lgn a (hc1 A.1, A.2)).2.1.length ≤ A.2.1.length + 1 := by
  obtain ⟨c, fr, rp, od, us⟩ := A
  obtain ⟨h1, h2, h3, h4, h5, h6, h7, h8⟩ := h
  have e2 := hc1_ne c (j := 2) (by decide)
  unfold lgn
  split
  · refine ⟨⟨(invc_hc h1).w (by omega) (Nat.le_refl _), ?_, h3, h4, h5, h6, h7, h8⟩, Nat.le_succ _⟩
    show rok rp (hc1 c 2)
    rw [e2]
    exact h2
  · refine ⟨⟨invc_snd (invc_lg (invc_hc h1)), ?_, h3, h4, h5, h6, h7, ?_⟩, ?_⟩
    · show rok rp (hc1 c 2 + 1)
      rw [e2]
      exact rok_up h2
    · show (fr ++ [_]).length < _
      rw [List.length_append]
      show fr.length + 1 < _
      simp only at hf
      omega
    · show (fr ++ [_]).length ≤ _
      rw [List.length_append]
      exact Nat.le_refl _
theorem inv_erl {z N t n a b : Nat} {A : AS} (h : inv z N A) (h0 : A.1 0 = 1) (hn : A.1 1 < n) (hn2 : n < 1000000) (hN : N ≤ 600) (hf : A.2.1.length < 10000) : inv (z + 1) N (erl t n a b A) := by
  obtain ⟨c, fr, rp, od, us⟩ := A
  obtain ⟨h1, h2, h3, h4, h5, h6, h7, h8⟩ := h
  simp only at h0 hn hf h3
  unfold erl
  split
  · refine ⟨invc_lv h1, ?_, h3, h4, h5, h6, h7, ?_⟩
    · show rok rp (lvc c 2)
      unfold lvc
      rw [if_pos h0]
      exact rok_up h2
    · show (lvf c fr).length < _
      unfold lvf
      rw [if_pos h0, List.length_append]
      show fr.length + 1 < _
      omega
  · have hl := ans_len (c 2) rp a b
    have hB : inv z N (erB t a b (c, fr, rp, od, us)) ∧ (erB t a b (c, fr, rp, od, us)).1 0 = 1 ∧ (erB t a b (c, fr, rp, od, us)).1 1 = c 1 ∧ (erB t a b (c, fr, rp, od, us)).2.1.length < 15000 := by
      unfold erB
      split
      · refine ⟨⟨invc_sdc h1 _, ?_, h3, h4, h5, h6, h7, ?_⟩, ?_, ?_, ?_⟩
        · show rok rp (sdc c _ 2)
          rw [sdc_ne _ _ (by decide)]
          exact h2
        · show (fr ++ ans (c 2) rp a b).length < _
          rw [List.length_append]
          omega
        · show sdc c _ 0 = 1
          rw [sdc_ne _ _ (by decide)]
          exact h0
        · show sdc c _ 1 = _
          rw [sdc_ne _ _ (by decide)]
        · show (fr ++ ans (c 2) rp a b).length < _
          rw [List.length_append]
          omega
      · exact ⟨⟨h1, h2, h3, h4, h5, h6, h7, h8⟩, h0, rfl, by show fr.length < _; omega⟩
    generalize erB t a b (c, fr, rp, od, us) = B at *
    obtain ⟨⟨k1, k2, k3, k4, k5, k6, k7, k8⟩, b0, b1, bl⟩ := hB
    unfold erC
    split
    · refine ⟨invc_ask k1 b0 (by omega) hn2, ?_, k3, k4, k5, k6, k7, ?_⟩
      · show rok B.2.2.1 (B.1 2 + 1)
        exact rok_up k2
      · show (B.2.1 ++ [_]).length < _
        rw [List.length_append]
        show _ + 1 < _
        omega
    · exact ⟨(invc_ms k1 b0 (by omega) hn2).w (by omega) (Nat.le_refl _), k2, k3, k4, k5, k6, k7, k8⟩
theorem inv_inT {z N t n d a b v : Nat} {A : AS} {o : List RP × List Nat × (Nat × Nat × Nat × Nat)} (h : inv z N A) (h0 : A.1 0 = 1) (ok : mok t n d a b v) (hO : (t = 68 ∨ t = 70 ∨ t = 71) → OMr t a b v A.2.2.2.1 A.2.2.2.2 o.1 o.2.1 o.2.2) (hN : N < 518) (hf : A.2.1.length < 10000) : inv (z + 1) (N + 1) (inT t a b A o) := by
  obtain ⟨c, fr, rp, od, us⟩ := A
  obtain ⟨h1, h2, h3, h4, h5, h6, h7, h8⟩ := h
  obtain ⟨m1, m2, m3, m4, m5, m6, m7⟩ := ok
  simp only at h0 hf h3 h6 h7 hO
  have hl := ans_len (c 2) rp a b
  unfold inT
  split
  · refine ⟨(invc_snd h1).w (Nat.le_refl _) (by omega), rok_up h2, Nat.le_succ_of_le h3, h4, h5, Nat.le_succ_of_le h6, h7, ?_⟩
    show (fr ++ [_]).length < _
    rw [List.length_append]
    show fr.length + 1 < _
    omega
  · split
    · refine ⟨(invc_sdc h1 _).w (by omega) (by omega), ?_, Nat.le_succ_of_le h3, h4, h5, Nat.le_succ_of_le h6, h7, ?_⟩
      · show rok rp (sdc c _ 2)
        rw [sdc_ne _ _ (by decide)]
        exact h2
      · show (fr ++ ans (c 2) rp a b).length < _
        rw [List.length_append]
        omega
    · split
      · exact ⟨(invc_mv h1 (by omega)).w (by omega) (by omega), h2, Nat.le_succ_of_le h3, h4, h5, Nat.le_succ_of_le h6, h7, h8⟩
      · split
        · refine ⟨(invc_lv h1).w (by omega) (by omega), ?_, Nat.le_succ_of_le h3, h4, h5, Nat.le_succ_of_le h6, h7, ?_⟩
          · show rok rp (lvc c 2)
            unfold lvc
            rw [if_pos h0]
            exact rok_up h2
          · show (lvf c fr).length < _
            unfold lvf
            rw [if_pos h0, List.length_append]
            show fr.length + 1 < _
            omega
        · split
          · rename_i hord
            obtain ⟨p1, p2, p3, p4, p5⟩ := OMr_ok (hO hord) h4 h5 (by omega) h7 m4 m6
            have hc2 : cR (up c 8 (c 8 + 1)) 2 = c 2 + 1 := by
              unfold cR
              split <;> rfl
            refine ⟨invc_cR (invc_8 h1), ?_, ?_, p1, p2, ?_, p4, ?_⟩
            · show rok (rp ++ [(c 2, o.2.2)]) (cR (up c 8 (c 8 + 1)) 2)
              rw [hc2]
              exact rok_app h2 rfl h1.2.2.2.1 p5
            · show (rp ++ [_]).length ≤ _
              rw [List.length_append]
              show rp.length + 1 ≤ _
              omega
            · show o.2.1.length ≤ _
              omega
            · show (frR _ fr _).length < _
              unfold frR
              split
              · rw [List.length_append]
                show fr.length + 1 < _
                omega
              · omega
          · exact inv_w ⟨h1, h2, h3, h4, h5, h6, h7, h8⟩ (by omega) (by omega)
theorem tk_inv {z N t n d a b v : Nat} {A : AS} {o : List RP × List Nat × (Nat × Nat × Nat × Nat)} (hi : inv z N A) (hf : A.2.1.length < 9000) (ok : mok t n d a b v) (hO : (t = 68 ∨ t = 70 ∨ t = 71) → OMr t a b v A.2.2.2.1 A.2.2.2.2 o.1 o.2.1 o.2.2) (hN : N < 518) : inv (z + 2) (N + 1) (tkT t n d a b A o).2 := by
  have hlg := inv_lgn (a := a) hi (by omega)
  have hi' := hi
  obtain ⟨c, fr, rp, od, us⟩ := A
  obtain ⟨h1, h2, h3, h4, h5, h6, h7, h8⟩ := hi
  have okk := ok
  obtain ⟨m1, m2, m3, m4, m5, m6, m7⟩ := ok
  have e0 := hc1_ne c (j := 0) (by decide)
  have e1 := hc1_ne c (j := 1) (by decide)
  have e2 := hc1_ne c (j := 2) (by decide)
  simp only at hf h3 h6 h7 hO hlg
  have l0 : (lgn a (hc1 c, fr, rp, od, us)).1 0 = 1 := by
    unfold lgn
    split
    · assumption
    · rfl
  have l1 : (lgn a (hc1 c, fr, rp, od, us)).1 1 = c 1 := by
    unfold lgn
    split
    · exact e1
    · exact e1
  have l5 : (lgn a (hc1 c, fr, rp, od, us)).2.2 = (rp, od, us) := by
    unfold lgn
    split <;> rfl
  unfold tkT
  split
  · exact inv_w hi' (by omega) (by omega)
  · split
    · refine ⟨(invc_mv (invc_hc h1) (by omega)).w (by omega) (by omega), ?_, Nat.le_succ_of_le h3, h4, h5, Nat.le_succ_of_le h6, h7, h8⟩
      show rok rp (hc1 c 2)
      rw [e2]
      exact h2
    · split
      · split
        · refine ⟨(invc_lv (invc_hc h1)).w (by omega) (by omega), ?_, Nat.le_succ_of_le h3, h4, h5, Nat.le_succ_of_le h6, h7, ?_⟩
          · show rok rp (lvc (hc1 c) 2)
            unfold lvc
            split
            · show rok rp (hc1 c 2 + 1)
              rw [e2]
              exact rok_up h2
            · show rok rp (hc1 c 2)
              rw [e2]
              exact h2
          · show (lvf (hc1 c) fr).length < _
            unfold lvf
            split
            · rw [List.length_append]
              show fr.length + 1 < _
              omega
            · omega
        · refine ⟨(invc_hc h1).w (by omega) (by omega), ?_, Nat.le_succ_of_le h3, h4, h5, Nat.le_succ_of_le h6, h7, h8⟩
          show rok rp (hc1 c 2)
          rw [e2]
          exact h2
      · split
        · rename_i q3 q4
          have q4' : c 1 < n := q4
          exact inv_w (inv_erl (A := lgn a (hc1 c, fr, rp, od, us)) (t := t) (a := a) (b := b) hlg.1 l0 (by omega) m2 (by omega) (by omega)) (by omega) (by omega)
        · rename_i q3 q4
          have q3' : ¬ n < c 1 := q3
          have q4' : ¬ c 1 < n := q4
          generalize lgn a (hc1 c, fr, rp, od, us) = C at *
          obtain ⟨⟨k1, k2, k3, k4, k5, k6, k7, k8⟩, k9⟩ := hlg
          refine inv_inT (A := (mvA C.1 (c 1 + 1), C.2)) ⟨invc_mv k1 (by omega), k2, k3, k4, k5, k6, k7, k8⟩ l0 okk (by simp only [l5]; exact hO) hN (by show C.2.1.length < _; omega)
