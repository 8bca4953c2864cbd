/-! ===== both readings agree, 4 ===== -/
theorem bdl_all {t a b v : Nat} (ht : t ∈ mkinds) (hb : t = 52 → b ≤ 1) {l : List (Nat × List Nat)} (hne : l ≠ []) (hl : ∀ x, l.getLast? = some x → x.1 = 10) : bdl t l a b v ↔ ∃ x, qB t l = some (a, b, v, [x]) := by
  by_cases h48 : t = 48
  · subst h48; exact bdl_48 hne hl
  · by_cases h52 : t = 52
    · subst h52; exact bdl_52 (hb rfl)
    · by_cases h53 : t = 53
      · subst h53; exact bdl_53
      · exact bdl_q ht h52 h48 h53
theorem flat_td (fl : List (Nat × List Nat)) (i : Nat) : (flat fl).length = (flat (fl.take i)).length + (flat (fl.drop i)).length := by
  rw [← List.length_append, ← flat_app, List.take_append_drop]
theorem drop_last {fl : List (Nat × List Nat)} (h : 1 ≤ fl.length) : fl.drop (fl.length - 1) = [fl.getD (fl.length - 1) fz] := by
  rw [List.drop_eq_getElem_cons (by omega), List.drop_eq_nil_of_le (by omega), List.getD_eq_getElem?_getD, List.getElem?_eq_getElem (by omega)]
  rfl
theorem hN_one {xs : List Nat} {y : Nat} (h3 : xs.length = 3) : hN 10 [(10, xs)] = some y ↔ xs.all isd = true ∧ num xs 0 = y := by
  unfold hN
  constructor
  · intro h
    have h' : (if 10 = 10 ∧ xs.length ≤ 6 ∧ xs.all isd = true then some (num xs 0) else none) = some y := h
    split at h'
    · rename_i q; cases h'; exact ⟨q.2.2, rfl⟩
    · cases h'
  · rintro ⟨h1, rfl⟩
    exact if_pos ⟨rfl, by show xs.length ≤ 6; omega, h1⟩
theorem GD_prs {t n d a b v : Nat} {fl : List (Nat × List Nat)} (hg : ∀ f ∈ fl, gdf f) (hb : t = 52 → b ≤ 1) (h : GD fl t n d a b v) : prs (flat fl) = some (t, n, d, a, b, v) := by
  obtain ⟨⟨c1, c2, c3, c4, c5⟩, g1, g2, g3, g4, g5, g6⟩ := h
  rw [lA_h] at g1 g2
  rw [nA_h] at g4 c4 c5
  rw [lA_h, tg_h] at g5
  rw [drop_last (by omega)] at c4
  have gl := drop_last (fl := fl) (by omega)
  have ll : fl.getLast? = some (fl.getD (fl.length - 1) fz) := by
    rw [List.getLast?_eq_getElem?, List.getD_eq_getElem?_getD, List.getElem?_eq_getElem (by omega)]
    rfl
  generalize fl.getD (fl.length - 1) fz = w at *
  obtain ⟨w1, w2⟩ := w
  simp only at c2 c3
  subst c2
  have hlen : 4 + d < fl.length := by
    rcases g5 with ⟨rfl, q, -⟩ | ⟨rfl, -⟩
    · refine Classical.byContradiction (fun hn => ?_)
      rw [show fl.length - 1 = 4 by omega] at gl
      rw [gl] at q
      exact absurd q (show ¬ (10 = 43) by decide)
    · omega
  have hlast : ∀ x, (fl.drop (4 + d)).getLast? = some x → x.1 = 10 := by
    intro x hx
    rw [List.getLast?_drop, if_neg (by omega), ll] at hx
    cases hx
    rfl
  have hne : fl.drop (4 + d) ≠ [] := fun e => by
    have := congrArg List.length e
    rw [List.length_drop, List.length_nil] at this
    omega
  rw [bdy_l (by omega), bdl_all g3 hb hne hlast] at g6
  obtain ⟨x, g6⟩ := g6
  obtain ⟨k, ek⟩ := qB_suf g6
  have ek' : [x] = fl.drop (4 + d + k) := by rw [← List.drop_drop]; exact ek
  have hk : 4 + d + k = fl.length - 1 := by
    have := congrArg List.length ek'
    rw [List.length_drop, List.length_singleton] at this
    omega
  rw [hk, gl] at ek'
  rw [hN_one c3] at c4
  refine (prs_iff hg).mpr ⟨g1, g2, g3, g4, g5, _, c5, [x], g6, ?_, ?_⟩
  · rw [ek', ← gl]
    have e1 := flat_td fl 2
    have e2 := flat_td fl (fl.length - 1)
    omega
  · rw [ek']
    refine ⟨w2, rfl, c3, c4.1, ?_⟩
    rw [c4.2, ← gl]
    congr 2
    have e2 := flat_td fl (fl.length - 1)
    omega
theorem hT_L {name v : Nat} {l : List (Nat × List Nat)} (h : hLf name l = some v) : hT l = name := by
  match l, h with
  | f :: l, h =>
    have h' : (if f.1 = name ∧ f.2.length = 1 then some (f.2.getD 0 0) else none) = some v := h
    split at h'
    · rename_i q; exact q.1
    · cases h'
theorem prs_GD {t n d a b v : Nat} {fl : List (Nat × List Nat)} (hg : ∀ f ∈ fl, gdf f) (hb : t = 52 → b ≤ 1) (h : prs (flat fl) = some (t, n, d, a, b, v)) : GD fl t n d a b v := by
  obtain ⟨g1, g2, g3, g4, g5, len, c5, l', g6, e1, xs, q1, q2, q3, q4⟩ := (prs_iff hg).mp h
  obtain ⟨k, ek⟩ := qB_suf g6
  have ek' : l' = fl.drop (4 + d + k) := by rw [← List.drop_drop]; exact ek
  rw [q1] at ek'
  have hk : 4 + d + k = fl.length - 1 ∧ 1 ≤ fl.length := by
    have := congrArg List.length ek'
    rw [List.length_drop, List.length_singleton] at this
    omega
  rw [hk.1] at ek'
  have gl := drop_last hk.2
  have ew : fl.getD (fl.length - 1) fz = (10, xs) := by
    rw [gl] at ek'
    exact (List.cons.inj ek').1.symm
  have ll : fl.getLast? = some (10, xs) := by
    rw [← ew, List.getLast?_eq_getElem?, List.getD_eq_getElem?_getD, List.getElem?_eq_getElem (by omega)]
    rfl
  have hlast : ∀ x, (fl.drop (4 + d)).getLast? = some x → x.1 = 10 := by
    intro x hx
    rw [List.getLast?_drop, if_neg (by omega), ll] at hx
    cases hx
    rfl
  have hne : fl.drop (4 + d) ≠ [] := fun e => by
    have := congrArg List.length e
    rw [List.length_drop, List.length_nil] at this
    omega
  have t2 := flat_td fl 2
  have t1 := flat_td fl (fl.length - 1)
  rw [q1, ek'] at e1 q4
  refine ⟨⟨by omega, by rw [ew], by rw [ew]; exact q2, ?_, ?_⟩, by rw [lA_h]; exact g1, by rw [lA_h]; exact g2, g3, by rw [nA_h]; exact g4, by rw [lA_h, tg_h]; exact g5, ?_⟩
  · rw [nA_h, ← ek', hN_one q2]
    refine ⟨q3, ?_⟩
    rw [q4]
    congr 2
    omega
  · rw [nA_h, c5, ← e1]
    congr 1
    omega
  · rw [bdy_l hk.2, bdl_all g3 hb hne hlast]
    rw [q1] at g6
    exact ⟨_, g6⟩
/-- what is read out of bytes are fields -/
def asf (s s' : List Nat) : Prop := ∃ fl, s = flat fl ++ s' ∧ ∀ f ∈ fl, gdf f
theorem asf.refl (s : List Nat) : asf s s := ⟨[], rfl, fun f hf => by cases hf⟩
theorem asf.trans {s s' s'' : List Nat} (h : asf s s') (k : asf s' s'') : asf s s'' := by
  obtain ⟨f1, e1, g1⟩ := h
  obtain ⟨f2, e2, g2⟩ := k
  refine ⟨f1 ++ f2, by rw [flat_app, e1, e2, List.append_assoc], fun f hf => ?_⟩
  rcases List.mem_append.mp hf with q | q
  · exact g1 f q
  · exact g2 f q
theorem pL_asf {tag x : Nat} {s s' : List Nat} (h1 : 1 ≤ tag) (h2 : tag < 10000) (h : pL tag s = some (x, s')) : asf s s' := by
  obtain ⟨e, q⟩ := pL_inv h
  refine ⟨[(tag, [x])], by rw [e]; simp [flat], fun f hf => ?_⟩
  rw [List.mem_singleton.mp hf]
  exact ⟨h1, h2, by simp, fun w hw => by rw [List.mem_singleton.mp hw]; omega⟩
theorem pN_asf {tag x : Nat} {s s' : List Nat} (h1 : 1 ≤ tag) (h2 : tag < 10000) (h : pN tag s = some (x, s')) : asf s s' := by
  obtain ⟨vs, e, q1, q2, q3, -⟩ := pN_inv h
  refine ⟨[(tag, vs)], by rw [e]; simp [flat], fun f hf => ?_⟩
  rw [List.mem_singleton.mp hf]
  exact ⟨h1, h2, q1, fun w hw => by have := q3 w hw; omega⟩
theorem pB3_asf {t a b : Nat} {s : List Nat} {p : Nat × Nat × Nat × List Nat} (h : pB3 t a b s = some p) : asf s p.2.2.2 := by
  unfold pB3 at h
  split at h
  · cases h; exact asf.refl _
  · split at h
    · cases h
    · rename_i hn v s' e
      cases h
      exact pN_asf (by omega) (nm_small _ _) e
theorem pB2_asf {t a : Nat} {s : List Nat} {p : Nat × Nat × Nat × List Nat} (h : pB2 t a s = some p) : asf s p.2.2.2 := by
  unfold pB2 at h
  split at h
  · split at h
    · cases h
    · rename_i e
      split at h
      · exact (pL_asf (by decide) (by decide) e).trans (pB3_asf h)
      · cases h
  · split at h
    · exact pB3_asf h
    · split at h
      · cases h
      · rename_i hn v s' e
        exact (pN_asf (by omega) (nm_small _ _) e).trans (pB3_asf h)
theorem pB_asf {t : Nat} (ht : t ∈ mkinds) {s : List Nat} {p : Nat × Nat × Nat × List Nat} (h : pB t s = some p) : asf s p.2.2.2 := by
  unfold pB at h
  split at h
  · cases h; exact asf.refl _
  · rename_i hc
    split at h
    · cases h
    · rename_i v s' e
      have n0 : nm t 0 ≠ 0 := by
        have z5 : t ≠ 53 := fun e => hc (Or.inr e)
        clear h e hc
        revert z5
        refine mcase (P := fun t => t ≠ 53 → nm t 0 ≠ 0) ht ?_ ?_ ?_ ?_ ?_ ?_ ?_ ?_ ?_ <;> decide
      exact (pN_asf (by omega) (nm_small _ _) e).trans (pB2_asf h)
theorem prs3_asf {bs s : List Nat} {m m' : Nat × Nat × Nat × Nat × Nat × Nat} (h : prs3 bs s m = some m') : asf s [] := by
  unfold prs3 at h
  split at h
  · rename_i h1
    split at h
    · cases h
    · rename_i sum h2
      obtain ⟨x, y, z, q1, q2, q3⟩ := pK_3 h2
      have e := tail_of h1
      rw [q1] at e
      refine ⟨[(10, [x, y, z])], ?_, fun f hf => ?_⟩
      · rw [e]
        unfold flat fb flat
        rw [show digs (10, [x, y, z]).1 = [49, 48] from (by decide : digs 10 = [49, 48])]
        rfl
      · rw [List.mem_singleton.mp hf]
        exact ⟨(by decide : 1 ≤ 10), (by decide : 10 < 10000), by simp, fun w hw => by have := q2 w hw; omega⟩
  · cases h
theorem prs2_asf {bs s2 s : List Nat} {len t n d : Nat} (ht : t ∈ mkinds) {m : Nat × Nat × Nat × Nat × Nat × Nat} (h : prs2 bs len s2 t n d s = some m) : asf s [] := by
  unfold prs2 at h
  split at h
  · cases h
  · rename_i a b v s6 e
    split at h
    · exact (pB_asf ht e).trans (prs3_asf h)
    · cases h
theorem prs_asf {bs : List Nat} {m : Nat × Nat × Nat × Nat × Nat × Nat} (h : prs bs = some m) : ∃ fl, bs = flat fl ∧ ∀ f ∈ fl, gdf f := by
  have go : asf bs [] := by
    unfold prs at h
    split at h
    · cases h
    · rename_i e8
      refine (pL_asf (by decide) (by decide) e8).trans ?_
      split at h
      · unfold prs0 at h
        split at h
        · cases h
        · rename_i e9
          refine (pN_asf (by decide) (by decide) e9).trans ?_
          split at h
          · cases h
          · rename_i e35
            refine (pL_asf (by decide) (by decide) e35).trans ?_
            split at h
            · rename_i ht
              unfold prs1 at h
              split at h
              · cases h
              · rename_i e34
                refine (pN_asf (by decide) (by decide) e34).trans ?_
                split at h
                · split at h
                  · cases h
                  · rename_i e43
                    refine (pL_asf (by decide) (by decide) e43).trans ?_
                    split at h
                    · exact prs2_asf ht h
                    · cases h
                · exact prs2_asf ht h
            · cases h
      · cases h
  obtain ⟨fl, e, hg⟩ := go
  exact ⟨fl, by rw [e, List.append_nil], hg⟩
