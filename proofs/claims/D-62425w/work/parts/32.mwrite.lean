/-! ===== the model's writing ===== -/
theorem XS_ext {S T : XS} (h1 : ∀ k, gF S k = gF T k) (h2 : ∀ k, gR S k = gR T k) (h3 : ∀ k, gA S k = gA T k) (h4 : ∀ k, gB S k = gB T k) (h5 : gO S = gO T) : S = T := by
  obtain ⟨a, b, c, d, e⟩ := S
  obtain ⟨a', b', c', d', e'⟩ := T
  have e1 : a = a' := funext h1
  have e2 : b = b' := funext h2
  have e3 : c = c' := funext h3
  have e4 : d = d' := funext h4
  have e5 : e = e' := h5
  rw [e1, e2, e3, e4, e5]
/-- a place to write at: the array, the counter's key, where it begins, whether it is kept -/
abbrev WP : Type := Nat × Nat × Nat × Bool
def WS (S : XS) (m : WP) (i : Nat) (bs : List Nat) : XS := sF (sA S m.1 (if m.2.2.2 then wr (gA S m.1) (m.2.2.1 + i) bs else gA S m.1)) m.2.1 (nI (i + bs.length))
def pPeer : WP := (9, 802, 0, true)
def pOut (s : Nat) : WP := (13, 818, 120 * s, decide (s < 20))
def MO (S : XS) (m : WP) (i : Nat) : Prop := (gF S 838 = 1 ∧ m = pPeer ∧ gF S 802 = nI i) ∨ (gF S 838 = 0 ∧ ∃ s : Nat, m = pOut s ∧ gF S 815 = nI s ∧ s < 1000000 ∧ gF S 818 = nI i)
theorem WS_app (S : XS) (m : WP) (i : Nat) (a b : List Nat) : WS (WS S m i a) m (i + a.length) b = WS S m i (a ++ b) := by
  obtain ⟨ar, key, base, on⟩ := m
  refine XS_ext (fun k => ?_) (fun k => rfl) (fun k => ?_) (fun k => rfl) rfl
  · simp only [WS, gF_sF, gF_sA]
    by_cases h : k = key
    · rw [if_pos h, if_pos h, List.length_append, Nat.add_assoc]
    · rw [if_neg h, if_neg h, if_neg h]
  · simp only [WS, gA_sF, gA_sA]
    by_cases h : k = ar
    · rw [if_pos h, if_pos h]
      cases on
      · simp
      · simp only [if_true]
        rw [wr_app' (by omega)]
    · rw [if_neg h, if_neg h, if_neg h]
theorem WS_app' {S : XS} {m : WP} {i j : Nat} {a b : List Nat} (h : j = i + a.length) : WS (WS S m i a) m j b = WS S m i (a ++ b) := by rw [h, WS_app]
theorem WS_len {S : XS} {m : WP} {i : Nat} {a b : List Nat} (h : m.2.2.2 = false) (hl : a.length = b.length) : WS S m i a = WS S m i b := by
  unfold WS
  rw [h, hl]
  rfl
theorem MO_WS {S : XS} {m : WP} {i j : Nat} {a : List Nat} (h : MO S m i) (hj : j = i + a.length) : MO (WS S m i a) m j := by
  subst hj
  rcases h with ⟨h1, rfl, h2⟩ | ⟨h1, s, rfl, h2, h3, h4⟩
  · refine Or.inl ⟨?_, rfl, ?_⟩
    · show gF (sF _ 802 _) 838 = 1
      rw [gF_sF, if_neg (by decide)]
      exact h1
    · show gF (sF _ 802 _) 802 = _
      rw [gF_sF, if_pos rfl]
  · refine Or.inr ⟨?_, s, rfl, ?_, h3, ?_⟩
    · show gF (sF _ 818 _) 838 = 0
      rw [gF_sF, if_neg (by decide)]
      exact h1
    · show gF (sF _ 818 _) 815 = _
      rw [gF_sF, if_neg (by decide)]
      exact h2
    · show gF (sF _ 818 _) 818 = _
      rw [gF_sF, if_pos rfl]
section RM
variable {K : XS → List AE → Prop} {S : XS} {r : List AE} {m : WP} {i : Nat}
theorem rM_put {p : Nat} (hm : MO S m i) (hi : i < 120) (k : K (WS S m i [p]) r) : w_M_put S r (nI p) K := by
  rcases hm with ⟨h1, rfl, h2⟩ | ⟨h1, s, rfl, h2, h3, h4⟩
  · refine ⟨fun c => absurd (h1.symm.trans c) (by decide), fun _ => ?_⟩
    rw [h2, nI_clamp (by omega), wr_one, nI_1]
    refine ⟨vp_in_nI hi (by decide), ?_⟩
    have e : WS S pPeer i [p] = sF (sA S 9 (wr (gA S 9) i [p])) 802 (nI (i + 1)) := by
      show sF (sA S 9 (wr (gA S 9) (0 + i) [p])) 802 (nI (i + 1)) = _
      rw [Nat.zero_add]
    rw [← e]
    exact k
  · refine ⟨fun _ => ⟨fun c => ?_, fun c => ?_⟩, fun c => absurd h1 c⟩
    · rw [h2, li_20, nI_leI (by omega) (by omega)] at c
      have e : WS S (pOut s) i [p] = sF S 818 (gF S 818 + 1) := by
        refine XS_ext (fun k => ?_) (fun k => rfl) (fun k => ?_) (fun k => rfl) rfl
        · rw [h4, nI_1]
          rfl
        · unfold WS pOut
          rw [decide_eq_false (by omega), gA_sF, gA_sA]
          by_cases h : k = 13
          · rw [if_pos h, h]; rfl
          · rw [if_neg h]; rfl
      show K (sF S 818 (gF S 818 + 1)) r
      rw [← e]
      exact k
    · rw [h2, li_20, nI_leI (by omega) (by omega)] at c
      have hs : s < 20 := by omega
      rw [h2, h4, li_120, nI_mul, nI_add]
      refine ⟨vp_in_nI (by omega) (by decide), ?_⟩
      rw [nI_clamp (by omega)]
      have e : WS S (pOut s) i [p] = sF (sA S 13 (upd (gA S 13) (120 * s + i) (nI p))) 818 (gF S 818 + 1) := by
        rw [wr_one, h4, nI_1]
        unfold WS pOut
        rw [decide_eq_true hs]
        rfl
      show K (sF (sA S 13 (upd (gA S 13) (120 * s + i) (nI p))) 818 (gF S 818 + 1)) r
      rw [← e]
      exact k
theorem rM_digits_20 {v : Nat} (hv : v < 2 ^ 31) : ∀ (k : Nat) {n i : Nat} {S : XS}, MO S m i → k ≤ 8 → k + 2 ≤ n → i + (k + 1) ≤ 120 → K (WS S m i (dgo (k + 1) v)) r → w_M_digits_20 K n S r (nI v) (nI (10 ^ k))
  | k, 0, i, S, _, _, h, _, _ => by omega
  | k, n + 1, i, S, hm, hk, hn, hi, h => by
    have hp := p10 hk
    have hq := p10_pos k
    refine ⟨fun c => ?_, fun _ => ⟨nI_ne0 hq (by omega), ?_⟩⟩
    · rw [li_0, nI_leI (by omega) (by omega)] at c
      omega
    · have e : (48 : Int32) + (nI v / nI (10 ^ k) - nI v / nI (10 ^ k) / 10 * 10) = nI (48 + v / 10 ^ k % 10) := by
        have hd : v / 10 ^ k ≤ v := Nat.div_le_self _ _
        rw [nI_div hv (by omega), li_48, li_10, nI_mod (by omega) (by omega), nI_add]
      rw [e]
      refine rM_put hm (by omega) ?_
      rw [li_10, nI_div (by omega) (by omega)]
      cases k with
      | zero =>
        obtain ⟨n, rfl⟩ : ∃ m, n = m + 1 := ⟨n - 1, by omega⟩
        exact ⟨fun _ => h, fun c => absurd (by decide : nI (10 ^ 0 / 10) ≤ 0) c⟩
      | succ k =>
        rw [show 10 ^ (k + 1) / 10 = 10 ^ k by rw [Nat.pow_succ]; omega]
        refine rM_digits_20 hv k (MO_WS hm rfl) (by omega) (by omega) (by simp; omega) ?_
        rw [WS_app]
        exact h
theorem rM_digits_2 {v p : Nat} (hv : v < 2 ^ 31) (hp1 : 1 ≤ p) (hp8 : p ≤ 8) (hu : v < 10 ^ p) (hd : p = 1 ∨ 10 ^ (p - 1) ≤ v) (hm : MO S m i) (hi : i + p ≤ 120) (h : K (WS S m i (dgo p v)) r) : ∀ (g j : Nat), j + g = p - 1 → w_M_digits_2 K (g + 1) S r (nI v) (nI (10 ^ j))
  | 0, j, hj => by
    have h1 := p10 (show j ≤ 8 by omega)
    have h2 := p10_pos j
    obtain ⟨q, rfl⟩ : ∃ q, p = q + 1 := ⟨p - 1, by omega⟩
    obtain rfl : j = q := by omega
    refine ⟨nI_ne0 h2 (by omega), fun _ => ⟨j + 2, rM_digits_20 hv j hm (by omega) (Nat.le_refl _) hi h⟩, fun c => ?_⟩
    rw [nI_div hv (by omega), li_9, nI_leI (Nat.lt_of_le_of_lt (Nat.div_le_self _ _) hv) (by omega)] at c
    have h5 : v / 10 ^ j < 10 := by
      rw [Nat.div_lt_iff_lt_mul h2, Nat.mul_comm, ← Nat.pow_succ]
      exact hu
    omega
  | g + 1, j, hj => by
    have h1 := p10 (show j ≤ 8 by omega)
    have h2 := p10_pos j
    have h3 : 10 ^ (j + 1) ≤ v := by
      rcases hd with hd | hd
      · omega
      · exact Nat.le_trans (Nat.pow_le_pow_right (by decide) (by omega)) hd
    refine ⟨nI_ne0 h2 (by omega), fun c => ?_, fun _ => ?_⟩
    · rw [nI_div hv (by omega), li_9, nI_leI (Nat.lt_of_le_of_lt (Nat.div_le_self _ _) hv) (by omega)] at c
      have h5 : 10 ≤ v / 10 ^ j := by
        rw [Nat.le_div_iff_mul_le h2, Nat.mul_comm, ← Nat.pow_succ]
        exact h3
      omega
    · rw [li_10, nI_mul, ← Nat.pow_succ]
      exact rM_digits_2 hv hp1 hp8 hu hd hm hi h g (j + 1) (by omega)
theorem rM_digits {v : Nat} (hm : MO S m i) (hv : v < 10000000) (hi : i + plc v ≤ 120) (h : K (WS S m i (digs v)) r) : w_M_digits S r (nI v) K :=
  ⟨plc v - 1 + 1, rM_digits_2 (by omega) (plc_pos v).1 (by have := (plc_pos v).2; omega) (plc_up hv) plc_dn hm hi h (plc v - 1) 0 (by omega)⟩
theorem rM_field {t v : Nat} (hm : MO S m i) (ht : t < 10000000) (hv : v < 10000000) (hi : i + (fld t v).length ≤ 120) (h : K (WS S m i (fld t v)) r) : w_M_field S r (nI t) (nI v) K := by
  rw [fld_len] at hi
  refine rM_digits hm ht (by omega) (rM_put (p := 61) (MO_WS hm rfl) (by rw [digs_len]; omega) ?_)
  rw [WS_app]
  refine rM_digits (MO_WS hm rfl) hv (by simp [digs_len]; omega) ?_
  rw [WS_app]
  refine rM_put (p := 1) (MO_WS hm rfl) (by simp [digs_len]; omega) ?_
  rw [WS_app, show digs t ++ [61] ++ digs v ++ [1] = fld t v by simp [fld]]
  exact h
theorem rM_letter {t c : Nat} (hm : MO S m i) (ht : t < 10000000) (hi : i + (ltr t c).length ≤ 120) (h : K (WS S m i (ltr t c)) r) : w_M_letter S r (nI t) (nI c) K := by
  rw [ltr_len] at hi
  refine rM_digits hm ht (by omega) (rM_put (p := 61) (MO_WS hm rfl) (by rw [digs_len]; omega) ?_)
  rw [WS_app]
  refine rM_put (MO_WS hm rfl) (by simp [digs_len]; omega) ?_
  rw [WS_app]
  refine rM_put (p := 1) (MO_WS hm rfl) (by simp [digs_len]; omega) ?_
  rw [WS_app, show digs t ++ [61] ++ [c] ++ [1] = ltr t c by simp [ltr]]
  exact h
end RM
theorem plc_div {v : Nat} (h : 10 ≤ v) (h2 : v < 10000000) : plc v = plc (v / 10) + 1 := by
  unfold plc
  (repeat' split) <;> omega
theorem rM_places_4 {K : Int32 → Prop} {v : Nat} (h : K (nI (plc v))) : ∀ (g c w : Nat), w < 10000000 → c + plc w = plc v + 1 → plc w ≤ g → w_M_places_4 K g (nI c) (nI w)
  | 0, c, w, _, _, hg => by have := (plc_pos w).1; omega
  | g + 1, c, w, hw, hc, hg => by
    refine ⟨fun k => ?_, fun k => ?_⟩
    · rw [li_9, nI_leI (by omega) (by omega)] at k
      have : plc w = 1 := by unfold plc; rw [if_pos (by omega)]
      rw [show c = plc v by omega]
      exact h
    · rw [li_9, nI_leI (by omega) (by omega)] at k
      have := plc_div (by omega) hw
      rw [nI_1, li_10, nI_div (by omega) (by omega)]
      exact rM_places_4 h g (c + 1) (w / 10) (by omega) (by omega) (by omega)
theorem rM_places {K : Int32 → Prop} {v : Nat} (hv : v < 10000000) (h : K (nI (plc v))) : w_M_places (nI v) K := ⟨7, rM_places_4 h 7 1 v hv (by omega) (plc_pos v).2⟩
theorem rM_room {K : Int32 → Prop} {a b : Nat} (ha : a < 10000000) (hb : b < 10000000) (h : K (nI (plc a + plc b + 2))) : w_M_room (nI a) (nI b) K := by
  refine rM_places ha (rM_places hb ?_)
  rw [nI_add, li_2, nI_add]
  exact h
