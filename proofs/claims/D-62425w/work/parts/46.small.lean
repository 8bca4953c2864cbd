/-! ===== one number of a session changes; small operations (printed by gen46.py) ===== -/
section SC
variable {S : XS} {r : List AE} {c : Nat → Nat} {fr : List (List Nat)} {rp od : List RP} {us : List Nat} {q : Nat}
theorem TT_k1 (h : TT c fr rp od us q S r) (n : Nat) : TT (up c 1 n) fr rp od us q (sF S 6 (nI n)) r := ⟨h.1.of (.inl ⟨rfl, rfl⟩) (.inr (by rw [gF_sF, if_pos rfl, up_at])) (.inl ⟨rfl, rfl⟩) (.inl ⟨rfl, rfl⟩) (.inl ⟨rfl, rfl⟩) (.inl ⟨rfl, rfl⟩) (.inl ⟨rfl, rfl⟩) (.inl ⟨rfl, rfl⟩) (.inl ⟨rfl, rfl⟩), h.2.1.same rfl rfl, h.2.2.1.same rfl rfl, h.2.2.2.1.same rfl rfl, h.2.2.2.2.same rfl rfl⟩
theorem MM_k1 (h : MM c fr rp od us S) (n : Nat) : MM (up c 1 n) fr rp od us (sF S 820 (nI n)) := ⟨h.1.of (.inl ⟨rfl, rfl⟩) (.inr (by rw [gF_sF, if_pos rfl, up_at])) (.inl ⟨rfl, rfl⟩) (.inl ⟨rfl, rfl⟩) (.inl ⟨rfl, rfl⟩) (.inl ⟨rfl, rfl⟩) (.inl ⟨rfl, rfl⟩) (.inl ⟨rfl, rfl⟩) (.inl ⟨rfl, rfl⟩), h.2.1.same rfl rfl rfl, h.2.2.1.same rfl rfl, h.2.2.2.1.same rfl rfl rfl rfl rfl rfl, h.2.2.2.2.same rfl rfl⟩
theorem TT_k3 (h : TT c fr rp od us q S r) (n : Nat) : TT (up c 3 n) fr rp od us q (sF S 8 (nI n)) r := ⟨h.1.of (.inl ⟨rfl, rfl⟩) (.inl ⟨rfl, rfl⟩) (.inl ⟨rfl, rfl⟩) (.inr (by rw [gF_sF, if_pos rfl, up_at])) (.inl ⟨rfl, rfl⟩) (.inl ⟨rfl, rfl⟩) (.inl ⟨rfl, rfl⟩) (.inl ⟨rfl, rfl⟩) (.inl ⟨rfl, rfl⟩), h.2.1.same rfl rfl, h.2.2.1.same rfl rfl, h.2.2.2.1.same rfl rfl, h.2.2.2.2.same rfl rfl⟩
theorem MM_k3 (h : MM c fr rp od us S) (n : Nat) : MM (up c 3 n) fr rp od us (sF S 826 (nI n)) := ⟨h.1.of (.inl ⟨rfl, rfl⟩) (.inl ⟨rfl, rfl⟩) (.inl ⟨rfl, rfl⟩) (.inr (by rw [gF_sF, if_pos rfl, up_at])) (.inl ⟨rfl, rfl⟩) (.inl ⟨rfl, rfl⟩) (.inl ⟨rfl, rfl⟩) (.inl ⟨rfl, rfl⟩) (.inl ⟨rfl, rfl⟩), h.2.1.same rfl rfl rfl, h.2.2.1.same rfl rfl, h.2.2.2.1.same rfl rfl rfl rfl rfl rfl, h.2.2.2.2.same rfl rfl⟩
theorem TT_k4 (h : TT c fr rp od us q S r) (n : Nat) : TT (up c 4 n) fr rp od us q (sF S 9 (nI n)) r := ⟨h.1.of (.inl ⟨rfl, rfl⟩) (.inl ⟨rfl, rfl⟩) (.inl ⟨rfl, rfl⟩) (.inl ⟨rfl, rfl⟩) (.inr (by rw [gF_sF, if_pos rfl, up_at])) (.inl ⟨rfl, rfl⟩) (.inl ⟨rfl, rfl⟩) (.inl ⟨rfl, rfl⟩) (.inl ⟨rfl, rfl⟩), h.2.1.same rfl rfl, h.2.2.1.same rfl rfl, h.2.2.2.1.same rfl rfl, h.2.2.2.2.same rfl rfl⟩
theorem MM_k4 (h : MM c fr rp od us S) (n : Nat) : MM (up c 4 n) fr rp od us (sF S 822 (nI n)) := ⟨h.1.of (.inl ⟨rfl, rfl⟩) (.inl ⟨rfl, rfl⟩) (.inl ⟨rfl, rfl⟩) (.inl ⟨rfl, rfl⟩) (.inr (by rw [gF_sF, if_pos rfl, up_at])) (.inl ⟨rfl, rfl⟩) (.inl ⟨rfl, rfl⟩) (.inl ⟨rfl, rfl⟩) (.inl ⟨rfl, rfl⟩), h.2.1.same rfl rfl rfl, h.2.2.1.same rfl rfl, h.2.2.2.1.same rfl rfl rfl rfl rfl rfl, h.2.2.2.2.same rfl rfl⟩
theorem TT_k6 (h : TT c fr rp od us q S r) (n : Nat) : TT (up c 6 n) fr rp od us q (sF S 11 (nI n)) r := ⟨h.1.of (.inl ⟨rfl, rfl⟩) (.inl ⟨rfl, rfl⟩) (.inl ⟨rfl, rfl⟩) (.inl ⟨rfl, rfl⟩) (.inl ⟨rfl, rfl⟩) (.inl ⟨rfl, rfl⟩) (.inr (by rw [gF_sF, if_pos rfl, up_at])) (.inl ⟨rfl, rfl⟩) (.inl ⟨rfl, rfl⟩), h.2.1.same rfl rfl, h.2.2.1.same rfl rfl, h.2.2.2.1.same rfl rfl, h.2.2.2.2.same rfl rfl⟩
theorem MM_k6 (h : MM c fr rp od us S) (n : Nat) : MM (up c 6 n) fr rp od us (sF S 824 (nI n)) := ⟨h.1.of (.inl ⟨rfl, rfl⟩) (.inl ⟨rfl, rfl⟩) (.inl ⟨rfl, rfl⟩) (.inl ⟨rfl, rfl⟩) (.inl ⟨rfl, rfl⟩) (.inl ⟨rfl, rfl⟩) (.inr (by rw [gF_sF, if_pos rfl, up_at])) (.inl ⟨rfl, rfl⟩) (.inl ⟨rfl, rfl⟩), h.2.1.same rfl rfl rfl, h.2.2.1.same rfl rfl, h.2.2.2.1.same rfl rfl rfl rfl rfl rfl, h.2.2.2.2.same rfl rfl⟩
theorem TT_k7 (h : TT c fr rp od us q S r) (n : Nat) : TT (up c 7 n) fr rp od us q (sF S 12 (nI n)) r := ⟨h.1.of (.inl ⟨rfl, rfl⟩) (.inl ⟨rfl, rfl⟩) (.inl ⟨rfl, rfl⟩) (.inl ⟨rfl, rfl⟩) (.inl ⟨rfl, rfl⟩) (.inl ⟨rfl, rfl⟩) (.inl ⟨rfl, rfl⟩) (.inr (by rw [gF_sF, if_pos rfl, up_at])) (.inl ⟨rfl, rfl⟩), h.2.1.same rfl rfl, h.2.2.1.same rfl rfl, h.2.2.2.1.same rfl rfl, h.2.2.2.2.same rfl rfl⟩
theorem MM_k7 (h : MM c fr rp od us S) (n : Nat) : MM (up c 7 n) fr rp od us (sF S 825 (nI n)) := ⟨h.1.of (.inl ⟨rfl, rfl⟩) (.inl ⟨rfl, rfl⟩) (.inl ⟨rfl, rfl⟩) (.inl ⟨rfl, rfl⟩) (.inl ⟨rfl, rfl⟩) (.inl ⟨rfl, rfl⟩) (.inl ⟨rfl, rfl⟩) (.inr (by rw [gF_sF, if_pos rfl, up_at])) (.inl ⟨rfl, rfl⟩), h.2.1.same rfl rfl rfl, h.2.2.1.same rfl rfl, h.2.2.2.1.same rfl rfl rfl rfl rfl rfl, h.2.2.2.2.same rfl rfl⟩
theorem TT_k8 (h : TT c fr rp od us q S r) (n : Nat) : TT (up c 8 n) fr rp od us q (sF S 17 (nI n)) r := ⟨h.1.of (.inl ⟨rfl, rfl⟩) (.inl ⟨rfl, rfl⟩) (.inl ⟨rfl, rfl⟩) (.inl ⟨rfl, rfl⟩) (.inl ⟨rfl, rfl⟩) (.inl ⟨rfl, rfl⟩) (.inl ⟨rfl, rfl⟩) (.inl ⟨rfl, rfl⟩) (.inr (by rw [gF_sF, if_pos rfl, up_at])), h.2.1.same rfl rfl, h.2.2.1.same rfl rfl, h.2.2.2.1.same rfl rfl, h.2.2.2.2.same rfl rfl⟩
theorem MM_k8 (h : MM c fr rp od us S) (n : Nat) : MM (up c 8 n) fr rp od us (sF S 836 (nI n)) := ⟨h.1.of (.inl ⟨rfl, rfl⟩) (.inl ⟨rfl, rfl⟩) (.inl ⟨rfl, rfl⟩) (.inl ⟨rfl, rfl⟩) (.inl ⟨rfl, rfl⟩) (.inl ⟨rfl, rfl⟩) (.inl ⟨rfl, rfl⟩) (.inl ⟨rfl, rfl⟩) (.inr (by rw [gF_sF, if_pos rfl, up_at])), h.2.1.same rfl rfl rfl, h.2.2.1.same rfl rfl, h.2.2.2.1.same rfl rfl rfl rfl rfl rfl, h.2.2.2.2.same rfl rfl⟩
theorem TT_k5 (h : TT c fr rp od us q S r) (n : Nat) : TT (up c 5 n) fr rp od us q (sF S 10 (nI n)) r := ⟨h.1.of (.inl ⟨rfl, rfl⟩) (.inl ⟨rfl, rfl⟩) (.inl ⟨rfl, rfl⟩) (.inl ⟨rfl, rfl⟩) (.inl ⟨rfl, rfl⟩) (.inr (fun _ => by rw [gF_sF, if_pos rfl, up_at])) (.inl ⟨rfl, rfl⟩) (.inl ⟨rfl, rfl⟩) (.inl ⟨rfl, rfl⟩), h.2.1.same rfl rfl, h.2.2.1.same rfl rfl, h.2.2.2.1.same rfl rfl, h.2.2.2.2.same rfl rfl⟩
theorem TT_x5 (h : TT c fr rp od us q S r) (h0 : c 0 = 0) (v : Int32) : TT c fr rp od us q (sF S 10 v) r := ⟨h.1.of (.inl ⟨rfl, rfl⟩) (.inl ⟨rfl, rfl⟩) (.inl ⟨rfl, rfl⟩) (.inl ⟨rfl, rfl⟩) (.inl ⟨rfl, rfl⟩) (.inr (fun e => absurd (h0.symm.trans e) (by decide))) (.inl ⟨rfl, rfl⟩) (.inl ⟨rfl, rfl⟩) (.inl ⟨rfl, rfl⟩), h.2.1.same rfl rfl, h.2.2.1.same rfl rfl, h.2.2.2.1.same rfl rfl, h.2.2.2.2.same rfl rfl⟩
theorem TT_k0 (h : TT c fr rp od us q S r) (n : Nat) (hz : n = 1 → gF S 10 = nI (c 5)) : TT (up c 0 n) fr rp od us q (sF S 5 (nI n)) r := ⟨⟨rfl, h.1.2.1, h.1.2.2.1, h.1.2.2.2.1, h.1.2.2.2.2.1, hz, h.1.2.2.2.2.2.2.1, h.1.2.2.2.2.2.2.2.1, h.1.2.2.2.2.2.2.2.2⟩, h.2.1.same rfl rfl, h.2.2.1.same rfl rfl, h.2.2.2.1.same rfl rfl, h.2.2.2.2.same rfl rfl⟩
theorem MM_k5 (h : MM c fr rp od us S) (n : Nat) : MM (up c 5 n) fr rp od us (sF S 823 (nI n)) := ⟨h.1.of (.inl ⟨rfl, rfl⟩) (.inl ⟨rfl, rfl⟩) (.inl ⟨rfl, rfl⟩) (.inl ⟨rfl, rfl⟩) (.inl ⟨rfl, rfl⟩) (.inr (fun _ => by rw [gF_sF, if_pos rfl, up_at])) (.inl ⟨rfl, rfl⟩) (.inl ⟨rfl, rfl⟩) (.inl ⟨rfl, rfl⟩), h.2.1.same rfl rfl rfl, h.2.2.1.same rfl rfl, h.2.2.2.1.same rfl rfl rfl rfl rfl rfl, h.2.2.2.2.same rfl rfl⟩
theorem MM_x5 (h : MM c fr rp od us S) (h0 : c 0 = 0) (v : Int32) : MM c fr rp od us (sF S 823 v) := ⟨h.1.of (.inl ⟨rfl, rfl⟩) (.inl ⟨rfl, rfl⟩) (.inl ⟨rfl, rfl⟩) (.inl ⟨rfl, rfl⟩) (.inl ⟨rfl, rfl⟩) (.inr (fun e => absurd (h0.symm.trans e) (by decide))) (.inl ⟨rfl, rfl⟩) (.inl ⟨rfl, rfl⟩) (.inl ⟨rfl, rfl⟩), h.2.1.same rfl rfl rfl, h.2.2.1.same rfl rfl, h.2.2.2.1.same rfl rfl rfl rfl rfl rfl, h.2.2.2.2.same rfl rfl⟩
theorem MM_k0 (h : MM c fr rp od us S) (n : Nat) (hz : n = 1 → gF S 823 = nI (c 5)) : MM (up c 0 n) fr rp od us (sF S 819 (nI n)) := ⟨⟨rfl, h.1.2.1, h.1.2.2.1, h.1.2.2.2.1, h.1.2.2.2.2.1, hz, h.1.2.2.2.2.2.2.1, h.1.2.2.2.2.2.2.2.1, h.1.2.2.2.2.2.2.2.2⟩, h.2.1.same rfl rfl rfl, h.2.2.1.same rfl rfl, h.2.2.2.1.same rfl rfl rfl rfl rfl rfl, h.2.2.2.2.same rfl rfl⟩
theorem TT_fr0 (h : TT c fr rp od us q S r) : TT c [] rp od us q (sF S 4 0) r := by
  obtain ⟨hS, ⟨h0, h1, na, fa, a1, a2, a3, a4, a5, a6, a7⟩, hR, hD, hU⟩ := h
  refine ⟨hS, ⟨rfl, by decide, na, fa, a1, a2, fun k hk => ?_, a4, fun k _ hk => absurd hk (Nat.not_lt_zero k), a6, a7⟩, hR.same rfl rfl, hD.same rfl rfl, hU.same rfl rfl⟩
  obtain ⟨L, B, f, b1, b2, b3⟩ := a3 k hk
  exact ⟨L, B, f, b1, b2, fun _ e => absurd e (Nat.not_lt_zero k)⟩
theorem MM_fr0 (h : MM c fr rp od us S) : MM c [] rp od us (sF S 815 0) := by
  obtain ⟨hS, hF, hR, hD, hU⟩ := h
  exact ⟨hS, ⟨rfl, by decide, fun k hk => absurd hk (Nat.not_lt_zero k)⟩, hR.same rfl rfl, hD.same rfl rfl rfl rfl rfl rfl, hU.same rfl rfl⟩
def sndc (c : Nat → Nat) : Nat → Nat := up (up c 6 (c 4)) 2 (c 2 + 1)
def outA (c : Nat → Nat) : Nat → Nat := up (up c 0 0) 3 0
def mvA (c : Nat → Nat) (n : Nat) : Nat → Nat := up (up c 1 (if c 1 < n then n else c 1)) 3 (if (if c 1 < n then n else c 1) ≤ c 3 then c 3 else 0)
def msgf (kind : Nat) (c : Nat → Nat) (bl : List Nat) : List Nat := frm (hdr kind (c 2) false ++ bl)
theorem BD_nil {kind : Nat} {vs : Nat → Int32} (h : nm kind 0 = 0 ∨ vs 0 = -1) : BD kind vs 4 0 [] := Or.inl ⟨h, rfl⟩
theorem BD_one {kind a : Nat} {vs : Nat → Int32} (h0 : nm kind 0 ≠ 0) (hs : sg kind 0 = false) (h1 : nm kind 1 = 0) (ha : a < 10000000) (hv : vs 0 = nI a) : BD kind vs 4 0 (fld (nm kind 0) a) := by
  refine Or.inr ⟨a, [], h0, hv, ha, ?_, Or.inl ⟨Or.inl h1, rfl⟩⟩
  unfold itm
  rw [hs, List.append_nil]
  rfl
theorem BD_two {kind a b : Nat} {vs : Nat → Int32} (h0 : nm kind 0 ≠ 0) (h1 : nm kind 1 ≠ 0) (h2 : nm kind 2 = 0) (hs : sg kind 0 = false) (ha : a < 10000000) (hb : b < 10000000) (hv : vs 0 = nI a) (hw : vs 1 = nI b) : BD kind vs 4 0 (fld (nm kind 0) a ++ itm kind 1 b) := by
  refine Or.inr ⟨a, itm kind 1 b, h0, hv, ha, ?_, Or.inr ⟨b, [], h1, hw, hb, (List.append_nil _).symm, Or.inl ⟨Or.inl h2, rfl⟩⟩⟩
  unfold itm
  rw [hs]
  rfl
theorem sm_ok {kind : Nat} {n : Nat} {bl : List Nat} {dup : Bool} (hk : kind < 128) (hb : ∀ x ∈ bl, x < 128) (hl : bl.length ≤ 40) : (hdr kind n dup ++ bl).length ≤ 99 ∧ ∀ x ∈ hdr kind n dup ++ bl, x < 128 := by
  have := @hdr_le kind n dup
  exact ⟨by rw [List.length_append]; omega, mem_app (hdr_b hk) hb⟩
theorem fld_le {t a : Nat} (ht : t < 1000) (ha : a < 1000000) : (fld t a).length ≤ 11 := by
  have h1 := plc_small ha
  have h2 : plc t ≤ 3 := by unfold plc; (repeat' split) <;> omega
  rw [fld_len]
  omega
/-- the model sends one message, with one number, two or none behind the head -/
theorem rM_snd {K : XS → List AE → Prop} {kind : Nat} {va vb vc vd : Int32} {bl : List Nat} (hM : MM c fr rp od us S) (h0 : c 0 = 1) (hc : c 2 < 1600) (hr : rok rp (c 2)) (hfr : fr.length < 999999) (hk : kind ∈ kinds) (h56 : kind ≠ 56) (hbl : BD kind (vf va vb vc vd) 4 0 bl) (hb : ∀ x ∈ bl, x < 128) (hl : bl.length ≤ 40) (h : ∀ S', MM (sndc c) (fr ++ [msgf kind c bl]) rp od us S' → kM S S' → K S' r) : w_M_send S r (nI kind) va vb vc vd K := by
  have h128 : kind < 128 := by
    simp only [kinds, List.mem_cons, List.not_mem_nil, or_false] at hk
    omega
  exact sndN hM h0 hc hr hfr hk h56 hbl (sm_ok h128 hb hl).1 (sm_ok h128 hb hl).2 h
theorem rT_moveTo {K : XS → List AE → Prop} {n : Nat} (hT : TT c fr rp od us q S r) (h1 : c 1 < 2000000) (h3 : c 3 < 2000000) (hn : n < 2000000) (h : ∀ S', TT (mvA c n) fr rp od us q S' r → kT S S' → K S' r) : w_T_moveTo S r (nI n) K := by
  have e6 : gF S 6 = nI (c 1) := hT.1.2.1
  have e8 : gF S 8 = nI (c 3) := hT.1.2.2.2.1
  have ea : (if nI (c 1) < nI n then nI n else nI (c 1)) = nI (if c 1 < n then n else c 1) := by
    by_cases w : c 1 < n
    · rw [if_pos w, if_pos (nI_lt w (by omega))]
    · rw [if_neg w, if_neg (nI_nlt (by omega) (by omega))]
  unfold w_T_moveTo
  rw [e6, e8, ea]
  unfold mvA at h
  have w : (if c 1 < n then n else c 1) < 2 ^ 31 := by split <;> omega
  generalize (if c 1 < n then n else c 1) = aw at *
  have hk : ∀ v : Int32, kT S (sF (sF S 6 (nI aw)) 8 v) := fun v => (kT_sF (by decide)).trans (kT_sF (by decide))
  refine ⟨fun e => ?_, fun e => ?_⟩
  · rw [nI_leI w (by omega)] at e
    rw [if_pos e] at h
    exact h _ (TT_k3 (TT_k1 hT aw) (c 3)) (hk _)
  · rw [nI_leI w (by omega)] at e
    rw [if_neg e] at h
    exact h _ (TT_k3 (TT_k1 hT aw) 0) (hk _)
theorem rT_ask {K : XS → List AE → Prop} (hT : TT c fr rp od us q S r) (h0 : c 0 = 1) (h1 : c 1 < 1000000) (hc : c 2 < 1000000) (hq : q ≤ 5000) (hfr : fr.length < 999999) (h : ∀ S' r', TT (up (sndc c) 7 (c 4)) (fr ++ [msgf 50 c (fld 7 (c 1) ++ fld 16 0)]) rp od us q S' r' → kT S S' → K S' r') : w_T_ask S r K := by
  unfold w_T_ask
  rw [hT.1.2.1]
  refine rT_send (p1 := 3) hT h0 hc hq hfr (Or.inr (Or.inl ⟨rfl, c 1, 0, rfl, rfl, h1, by decide, rfl⟩)) (fun S' r' e1 e2 => h _ r' ?_ (e2.trans (kT_sF (by decide))))
  have e9 : gF S' 9 = nI (c 4) := e1.1.2.2.2.2.1
  rw [e9]
  exact TT_k7 e1 (c 4)
theorem rM_ask {K : XS → List AE → Prop} (hM : MM c fr rp od us S) (h0 : c 0 = 1) (h1 : c 1 < 1000000) (hc : c 2 < 1600) (hr : rok rp (c 2)) (hfr : fr.length < 999999) (h : ∀ S', MM (up (sndc c) 7 (c 4)) (fr ++ [msgf 50 c (fld 7 (c 1) ++ fld 16 0)]) rp od us S' → kM S S' → K S' r) : w_M_ask S r K := by
  unfold w_M_ask
  rw [hM.1.2.1]
  have l1 := fld_le (t := 7) (by decide) h1
  have l2 := fld_le (t := 16) (a := 0) (by decide) (by decide)
  refine rM_snd (kind := 50) hM h0 hc hr hfr (by decide) (by decide) (BD_two (kind := 50) (a := c 1) (b := 0) (by decide) (by decide) (by decide) (by decide) (by omega) (by omega) rfl rfl) (mem_app (fld_b _ _) (fld_b _ _)) (by rw [List.length_append]; show (fld 7 _).length + (fld 16 0).length ≤ _; omega) (fun S' e1 e2 => h _ ?_ (kM.trans e2 (ke_sF (by decide))))
  have e9 : gF S' 822 = nI (c 4) := e1.1.2.2.2.2.1
  rw [e9]
  exact MM_k7 e1 (c 4)
theorem rT_goOut {K : XS → List AE → Prop} (hT : TT c fr rp od us q S r) (h : ∀ S', TT (outA c) fr rp od us q S' r → kT S S' → K S' r) : w_T_goOut S r K := h _ (TT_k3 (TT_k0 hT 0 (fun e => absurd e (by decide))) 0) ((kT_sF (by decide)).trans (kT_sF (by decide)))
theorem rM_leave17 {K : XS → List AE → Prop} (hM : MM c fr rp od us S) (h : ∀ S', MM (outA c) fr rp od us S' → kM S S' → K S' r) : w_M_leave_17 K S r := h _ (MM_k3 (MM_k0 hM 0 (fun e => absurd e (by decide))) 0) ((ke_sF (by decide)).trans (ke_sF (by decide)))
/-- out: with a message while in -/
def lvc (c : Nat → Nat) : Nat → Nat := if c 0 = 1 then outA (sndc c) else outA c
def lvf (c : Nat → Nat) (fr : List (List Nat)) : List (List Nat) := if c 0 = 1 then fr ++ [msgf 53 c []] else fr
theorem rT_leave {K : XS → List AE → Prop} (hT : TT c fr rp od us q S r) (h01 : c 0 ≤ 1) (hc : c 2 < 1000000) (hq : q ≤ 5000) (hfr : fr.length < 999999) (h : ∀ S' r', TT (lvc c) (lvf c fr) rp od us q S' r' → kT S S' → K S' r') : w_T_send S r 5 0 0 (fun S3 r4 => (w_T_goOut S3 r4 K)) := by
  unfold lvc lvf at h
  by_cases h0 : c 0 = 1
  · rw [if_pos h0, if_pos h0] at h
    exact rT_send (p1 := 5) hT h0 hc hq hfr (Or.inl ⟨rfl, rfl⟩) (fun S' r' e1 e2 => rT_goOut e1 (fun S2 f1 f2 => h S2 r' f1 (e2.trans f2)))
  · rw [if_neg h0, if_neg h0] at h
    have e5 : gF S 5 = 0 := by rw [hT.1.1, show c 0 = 0 by omega]; rfl
    exact ⟨fun e => absurd e5 e, fun _ => rT_goOut hT (fun S2 f1 f2 => h S2 r f1 f2)⟩
theorem rM_leave {K : XS → List AE → Prop} (hM : MM c fr rp od us S) (h01 : c 0 ≤ 1) (hc : c 2 < 1600) (hr : rok rp (c 2)) (hfr : fr.length < 999999) (h : ∀ S', MM (lvc c) (lvf c fr) rp od us S' → kM S S' → K S' r) : w_M_leave S r K := by
  unfold lvc lvf at h
  by_cases h0 : c 0 = 1
  · rw [if_pos h0, if_pos h0] at h
    refine ⟨fun e => ?_, fun _ => rM_snd (kind := 53) hM h0 hc hr hfr (by decide) (by decide) (BD_nil (Or.inl (by decide))) (fun x hx => by cases hx) (by decide) (fun S' e1 e2 => rM_leave17 e1 (fun S2 f1 f2 => h S2 f1 (kM.trans e2 f2)))⟩
    rw [hM.1.1, h0] at e
    exact absurd e (by decide)
  · rw [if_neg h0, if_neg h0] at h
    have e5 : gF S 819 = 0 := by rw [hM.1.1, show c 0 = 0 by omega]; rfl
    exact ⟨fun _ => rM_leave17 hM h, fun e => absurd e5 e⟩
end SC
