/-! ===== the model: sending, whole ===== -/
theorem MM.f {c : Nat → Nat} {fr : List (List Nat)} {rp od : List RP} {us : List Nat} {S : XS} (h : MM c fr rp od us S) : MF fr S := h.2.1
theorem ke802 {Fs As : List Nat} {S S' : XS} (h : ke (Fs ++ [802]) As S S') (h2 : gF S' 802 = gF S 802) : ke Fs As S S' := by
  refine ⟨fun k hk => ?_, h.2⟩
  by_cases e : k = 802
  · rw [e, h2]
  · refine h.1 k (fun hm => ?_)
    rcases List.mem_append.mp hm with hm | hm
    · exact hk hm
    · exact e (List.mem_singleton.mp hm)
theorem rM_goesM {K : XS → List AE → Prop} {S : XS} {r : List AE} {c : Nat → Nat} {fr : List (List Nat)} {rp od : List RP} {us : List Nat} {kind n : Nat} {dup : Bool} {vs : Nat → Int32} {bl : List Nat} (hM : MM c fr rp od us S) (hfr : fr.length < 999999) (hk : kind ∈ kinds) (hn : n < 10000000) (hbl : BD kind vs 4 0 bl) (hlen : (hdr kind n dup ++ bl).length ≤ 99) (hb : ∀ x ∈ hdr kind n dup ++ bl, x < 128) (h : ∀ S', MM (up c 6 (c 4)) (fr ++ [frm (hdr kind n dup ++ bl)]) rp od us S' → kM S S' → K S' r) : w_M_goes S r (nI kind) (nI n) (if dup then 1 else 0) (vs 0) (vs 1) (vs 2) (vs 3) K := by
  obtain ⟨hS, hF, hR, hD, hU⟩ := hM
  refine rM_goes hF hfr hk hn hbl hlen hb (fun S' h1 h2 h3 h4 => ?_)
  have h5 : ke [838, 818, 815, 824] [13, 14] S S' := ke802 h3 h4
  have f := h5.1
  refine h S' ⟨?_, h1, ?_, ?_, ?_⟩ (h5.wide (by decide) (by decide))
  · refine hS.of (.inl ⟨f 819 (by decide), rfl⟩) (.inl ⟨f 820 (by decide), rfl⟩) (.inl ⟨f 821 (by decide), rfl⟩) (.inl ⟨f 826 (by decide), rfl⟩) (.inl ⟨f 822 (by decide), rfl⟩) (.inl ⟨f 823 (by decide), rfl⟩) (.inr ?_) (.inl ⟨f 825 (by decide), rfl⟩) (.inl ⟨f 836 (by decide), rfl⟩)
    rw [h2, up_at]
    exact hS.2.2.2.2.1
  · exact hR.same (h5.2.1 15 (by decide)) (h5.2.1 16 (by decide))
  · exact hD.same (f 829 (by decide)) (h5.2.1 17 (by decide)) (h5.2.1 18 (by decide)) (h5.2.1 19 (by decide)) (h5.2.1 20 (by decide)) (h5.2.1 21 (by decide))
  · exact hU.same (f 835 (by decide)) (h5.2.1 22 (by decide))
theorem kM.trans {S T U : XS} (h : kM S T) (g : kM T U) : kM S U := ke.trans h g
/-- next goes up -/
theorem MM_next {c : Nat → Nat} {fr : List (List Nat)} {rp od : List RP} {us : List Nat} {S : XS} (h : MS c S) (hF : MF fr S) (hR : MR (c 2 + 1) rp S) (hD : MD od S) (hU : MU us S) : MM (up c 2 (c 2 + 1)) fr rp od us (sF S 821 (gF S 821 + 1)) := by
  refine ⟨?_, hF.same rfl rfl rfl, ?_, hD.same rfl rfl rfl rfl rfl rfl, hU.same rfl rfl⟩
  · refine h.of (.inl ⟨rfl, rfl⟩) (.inl ⟨rfl, rfl⟩) (.inr ?_) (.inl ⟨rfl, rfl⟩) (.inl ⟨rfl, rfl⟩) (.inl ⟨rfl, rfl⟩) (.inl ⟨rfl, rfl⟩) (.inl ⟨rfl, rfl⟩) (.inl ⟨rfl, rfl⟩)
    rw [gF_sF, if_pos rfl, up_at, h.2.2.1, nI_1]
  · rw [up_at]
    exact hR.same rfl rfl
theorem kM_next (S : XS) (v : Int32) : kM S (sF S 821 v) := ke_sF (by decide)
section RS
variable {K : XS → List AE → Prop} {S : XS} {r : List AE} {c : Nat → Nat} {fr : List (List Nat)} {rp od : List RP} {us : List Nat} {vs : Nat → Int32} {bl : List Nat}
theorem sn_goes {kind : Nat} {x : Int32} {rp' : List RP} (hM : MM c fr rp od us S) (h0 : c 0 ≠ 0) (hc : c 2 < 1600) (hfr : fr.length < 999999) (hk : kind ∈ kinds) (hbl : BD kind vs 4 0 bl) (hlen : (hdr kind (c 2) false ++ bl).length ≤ 99) (hb : ∀ x ∈ hdr kind (c 2) false ++ bl, x < 128) (hR : MR (c 2 + 1) rp' (sn S (c 2) x vs)) (h : ∀ S', MM (up (up c 6 (c 4)) 2 (c 2 + 1)) (fr ++ [frm (hdr kind (c 2) false ++ bl)]) rp' od us S' → kM S S' → K S' r) : w_M_goes (sn S (c 2) x vs) r (nI kind) (nI (c 2)) 0 (vs 0) (vs 1) (vs 2) (vs 3) (fun S7 r8 => (w_M_send_99 K S7 r8)) := by
  obtain ⟨hS, hF, hR0, hD, hU⟩ := hM
  have f := sn_ke S (c 2) x vs
  refine rM_goes (dup := false) (hF.same rfl rfl rfl) hfr hk (by omega) hbl hlen hb (fun S' h1 h2 h3 h4 => ?_)
  have h5 : ke [838, 818, 815, 824] [13, 14] (sn S (c 2) x vs) S' := ke802 h3 h4
  have g := h5.1
  have hS' : MS (up c 6 (c 4)) S' := by
    refine MS.of (S := S) hS (.inl ⟨g 819 (by decide), rfl⟩) (.inl ⟨g 820 (by decide), rfl⟩) (.inl ⟨g 821 (by decide), rfl⟩) (.inl ⟨g 826 (by decide), rfl⟩) (.inl ⟨g 822 (by decide), rfl⟩) (.inl ⟨g 823 (by decide), rfl⟩) (.inr ?_) (.inl ⟨g 825 (by decide), rfl⟩) (.inl ⟨g 836 (by decide), rfl⟩)
    rw [h2, up_at]
    exact hS.2.2.2.2.1
  refine h _ (MM_next hS' h1 (hR.same (h5.2.1 15 (by decide)) (h5.2.1 16 (by decide))) (hD.same (g 829 (by decide)) (h5.2.1 17 (by decide)) (h5.2.1 18 (by decide)) (h5.2.1 19 (by decide)) (h5.2.1 20 (by decide)) (h5.2.1 21 (by decide))) (hU.same (g 835 (by decide)) (h5.2.1 22 (by decide)))) ?_
  exact ((f.wide (by decide) (by decide)).trans (h5.wide (by decide) (by decide))).trans (kM_next _ _)
/-- a message that is no report, while logged in -/
theorem rM_sendN {kind : Nat} (hM : MM c fr rp od us S) (h0 : c 0 = 1) (hc : c 2 < 1600) (hr : rok rp (c 2)) (hfr : fr.length < 999999) (hk : kind ∈ kinds) (h56 : kind ≠ 56) (hbl : BD kind vs 4 0 bl) (hlen : (hdr kind (c 2) false ++ bl).length ≤ 99) (hb : ∀ x ∈ hdr kind (c 2) false ++ bl, x < 128) (h : ∀ S', MM (up (up c 6 (c 4)) 2 (c 2 + 1)) (fr ++ [frm (hdr kind (c 2) false ++ bl)]) rp od us S' → kM S S' → K S' r) : w_M_send S r (nI kind) (vs 0) (vs 1) (vs 2) (vs 3) K := by
  have h128 : kind < 128 := by
    simp only [kinds, List.mem_cons, List.not_mem_nil, or_false] at hk
    omega
  refine rM_send0 h128 hM.1.2.2.1 hc ⟨fun e => ?_, fun _ => ?_⟩
  · rw [hM.1.1, h0] at e
    exact absurd e (by decide)
  · rw [if_neg h56]
    exact sn_goes hM (by omega) hc hfr hk hbl hlen hb (sn_MR hr hM.2.2.1) h
def repb (x : RP) : List Nat := fld 11 x.2.1 ++ (ltr 39 x.2.2.1 ++ (fld 14 x.2.2.2.1 ++ fld 151 x.2.2.2.2))
theorem repb_BD {vs : Nat → Int32} {x : RP} (hx : x.2.1 < 1000000 ∧ x.2.2.1 < 128 ∧ x.2.2.2.1 < 1000000 ∧ x.2.2.2.2 < 1000000) (hv : vs 0 = nI x.2.1 ∧ vs 1 = nI x.2.2.1 ∧ vs 2 = nI x.2.2.2.1 ∧ vs 3 = nI x.2.2.2.2) : BD 56 vs 4 0 (repb x) := by
  refine Or.inr ⟨x.2.1, _, by decide, hv.1, by omega, rfl, Or.inr ⟨x.2.2.1, _, by decide, hv.2.1, by omega, rfl, Or.inr ⟨x.2.2.2.1, _, by decide, hv.2.2.1, by omega, rfl, Or.inr ⟨x.2.2.2.2, [], by decide, hv.2.2.2, by omega, ?_, rfl⟩⟩⟩⟩
  rw [List.append_nil]
  rfl
theorem repb_len {x : RP} (hx : x.2.1 < 1000000 ∧ x.2.2.1 < 128 ∧ x.2.2.2.1 < 1000000 ∧ x.2.2.2.2 < 1000000) : (repb x).length ≤ 36 := by
  have h1 := plc_small hx.1
  have h2 := plc_small hx.2.2.1
  have h3 := plc_small hx.2.2.2
  unfold repb
  rw [List.length_append, List.length_append, List.length_append, fld_len, ltr_len, fld_len, fld_len]
  show 2 + _ + 2 + (2 + 3 + (2 + _ + 2 + (3 + _ + 2))) ≤ _
  omega
theorem repb_b {x : RP} (hx : x.2.2.1 < 128) : ∀ y ∈ repb x, y < 128 := mem_app (fld_b _ _) (mem_app (ltr_b hx) (mem_app (fld_b _ _) (fld_b _ _)))
theorem hdr_b {kind n : Nat} {dup : Bool} (hk : kind < 128) : ∀ y ∈ hdr kind n dup, y < 128 := by
  refine mem_app (mem_app (ltr_b hk) (fld_b _ _)) ?_
  cases dup
  · intro y hy
    cases hy
  · exact ltr_b (by decide)
theorem hdr_le {kind n : Nat} {dup : Bool} : (hdr kind n dup).length ≤ 21 := by
  rw [hdr_len]
  have := (plc_pos n).2
  split <;> omega
/-- a report -/
theorem rM_sendR {x : RP} (hM : MM c fr rp od us S) (h01 : c 0 ≤ 1) (hc : c 2 < 1600) (hr : rok rp (c 2)) (hfr : fr.length < 999999) (hx1 : x.1 = c 2) (hx : x.2.1 < 1000000 ∧ x.2.2.1 < 128 ∧ x.2.2.2.1 < 1000000 ∧ x.2.2.2.2 < 1000000) (hv : vs 0 = nI x.2.1 ∧ vs 1 = nI x.2.2.1 ∧ vs 2 = nI x.2.2.2.1 ∧ vs 3 = nI x.2.2.2.2) (h : ∀ S', MM (if c 0 = 1 then up (up c 6 (c 4)) 2 (c 2 + 1) else up c 2 (c 2 + 1)) (if c 0 = 1 then fr ++ [frm (hdr 56 (c 2) false ++ repb x)] else fr) (rp ++ [x]) od us S' → kM S S' → K S' r) : w_M_send S r 56 (vs 0) (vs 1) (vs 2) (vs 3) K := by
  have hl : (hdr 56 (c 2) false ++ repb x).length ≤ 99 := by
    have h1 := repb_len hx
    have h2 := @hdr_le 56 (c 2) false
    rw [List.length_append]
    omega
  have hb : ∀ y ∈ hdr 56 (c 2) false ++ repb x, y < 128 := mem_app (hdr_b (by decide)) (repb_b hx.2.1)
  have hR := sn_MR1 (vs := vs) hr hx1 hv hM.2.2.1
  refine rM_send0 (kind := 56) (by decide) hM.1.2.2.1 hc ⟨fun e => ?_, fun e => ?_⟩
  · rw [hM.1.1, li_0, nI_eq (by omega) (by omega)] at e
    rw [if_neg (by omega), if_neg (by omega)] at h
    obtain ⟨hS, hF, hR0, hD, hU⟩ := hM
    refine h _ (MM_next (S := sn S (c 2) 1 vs) hS (hF.same rfl rfl rfl) hR (hD.same rfl rfl rfl rfl rfl rfl) (hU.same rfl rfl)) ?_
    exact ((sn_ke S (c 2) 1 vs).wide (by decide) (by decide)).trans (kM_next _ _)
  · rw [hM.1.1, li_0, nI_eq (by omega) (by omega)] at e
    rw [if_pos (by omega), if_pos (by omega)] at h
    exact sn_goes hM (by omega) hc hfr (by decide) (repb_BD hx hv) hl hb hR h
end RS
/-- four values in a row -/
def vf (a b c d : Int32) : Nat → Int32
  | 0 => a
  | 1 => b
  | 2 => c
  | _ + 3 => d
section RV
variable {K : XS → List AE → Prop} {S : XS} {r : List AE} {c : Nat → Nat} {fr : List (List Nat)} {rp od : List RP} {us : List Nat} {bl : List Nat} {va vb vc vd : Int32}
theorem gM {kind n : Nat} (dup : Bool) (hM : MM c fr rp od us S) (hfr : fr.length < 999999) (hk : kind ∈ kinds) (hn : n < 10000000) (hbl : BD kind (vf va vb vc vd) 4 0 bl) (hlen : (hdr kind n dup ++ bl).length ≤ 99) (hb : ∀ x ∈ hdr kind n dup ++ bl, x < 128) (h : ∀ S', MM (up c 6 (c 4)) (fr ++ [frm (hdr kind n dup ++ bl)]) rp od us S' → kM S S' → K S' r) : w_M_goes S r (nI kind) (nI n) (if dup then 1 else 0) va vb vc vd K := rM_goesM (vs := vf va vb vc vd) hM hfr hk hn hbl hlen hb h
theorem sndN {kind : Nat} (hM : MM c fr rp od us S) (h0 : c 0 = 1) (hc : c 2 < 1600) (hr : rok rp (c 2)) (hfr : fr.length < 999999) (hk : kind ∈ kinds) (h56 : kind ≠ 56) (hbl : BD kind (vf va vb vc vd) 4 0 bl) (hlen : (hdr kind (c 2) false ++ bl).length ≤ 99) (hb : ∀ x ∈ hdr kind (c 2) false ++ bl, x < 128) (h : ∀ S', MM (up (up c 6 (c 4)) 2 (c 2 + 1)) (fr ++ [frm (hdr kind (c 2) false ++ bl)]) rp od us S' → kM S S' → K S' r) : w_M_send S r (nI kind) va vb vc vd K := rM_sendN (vs := vf va vb vc vd) hM h0 hc hr hfr hk h56 hbl hlen hb h
theorem sndR {x : RP} (hM : MM c fr rp od us S) (h01 : c 0 ≤ 1) (hc : c 2 < 1600) (hr : rok rp (c 2)) (hfr : fr.length < 999999) (hx1 : x.1 = c 2) (hx : x.2.1 < 1000000 ∧ x.2.2.1 < 128 ∧ x.2.2.2.1 < 1000000 ∧ x.2.2.2.2 < 1000000) (hv : va = nI x.2.1 ∧ vb = nI x.2.2.1 ∧ vc = nI x.2.2.2.1 ∧ vd = nI x.2.2.2.2) (h : ∀ S', MM (if c 0 = 1 then up (up c 6 (c 4)) 2 (c 2 + 1) else up c 2 (c 2 + 1)) (if c 0 = 1 then fr ++ [frm (hdr 56 (c 2) false ++ repb x)] else fr) (rp ++ [x]) od us S' → kM S S' → K S' r) : w_M_send S r 56 va vb vc vd K := rM_sendR (vs := vf va vb vc vd) hM h01 hc hr hfr hx1 hx hv h
end RV
