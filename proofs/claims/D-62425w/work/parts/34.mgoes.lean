/-! ===== the model: make, goes, send ===== -/
theorem rM_byteAt {K : Int32 → XS → List AE → Prop} {S : XS} {r : List AE} {m : WP} {j k : Nat} (hm : MO S m j) (hk : k < 120) (h : K (if m.2.2.2 then gA S m.1 (m.2.2.1 + k) else 0) S r) : w_M_byteAt S r (nI k) K := by
  rcases hm with ⟨h1, rfl, h2⟩ | ⟨h1, s, rfl, h2, h3, h4⟩
  · refine ⟨fun c => absurd (h1.symm.trans c) (by decide), fun _ => ⟨vp_in_nI hk (by decide), ?_⟩⟩
    rw [nI_clamp (by omega)]
    have e : (if pPeer.2.2.2 then gA S pPeer.1 (pPeer.2.2.1 + k) else 0) = gA S 9 k := by
      show gA S 9 (0 + k) = _
      rw [Nat.zero_add]
    rw [e] at h
    exact h
  · refine ⟨fun _ => ⟨fun c => ?_, fun c => ?_⟩, fun c => absurd h1 c⟩
    · rw [h2, li_20, nI_leI (by omega) (by omega)] at c
      rw [show (pOut s).2.2.2 = false from decide_eq_false (by omega)] at h
      exact h
    · rw [h2, li_20, nI_leI (by omega) (by omega)] at c
      rw [show (pOut s).2.2.2 = true from decide_eq_true (by omega)] at h
      rw [h2, li_120, nI_mul, nI_add]
      refine ⟨vp_in_nI (by omega) (by decide), ?_⟩
      rw [nI_clamp (by omega)]
      exact h
theorem rM_tail {K : XS → List AE → Prop} {S : XS} {r : List AE} {m : WP} {i s : Nat} (hm : MO S m i) (hi : i + 7 ≤ 120) (hs : s < 2 ^ 31) (h : K (WS S m i (tail (s % 256))) r) : w_M_make_138 K 1 S r (nI i) (nI s) (nI i) := by
  refine ⟨fun _ => ?_, fun c => absurd (nI_le (Nat.le_refl _) (by omega)) c⟩
  rw [li_256, nI_mod hs (by decide)]
  have ht : s % 256 < 256 := Nat.mod_lt _ (by decide)
  have e1 : (48 : Int32) + nI (s % 256) / 100 = nI (48 + s % 256 / 100) := by rw [li_48, li_100, nI_div (by omega) (by omega), nI_add]
  have e2 : (48 : Int32) + (nI (s % 256) / 10 - nI (s % 256) / 10 / 10 * 10) = nI (48 + s % 256 / 10 % 10) := by rw [li_48, li_10, nI_div (by omega) (by omega), nI_mod (by omega) (by omega), nI_add]
  have e3 : (48 : Int32) + (nI (s % 256) - nI (s % 256) / 10 * 10) = nI (48 + s % 256 % 10) := by rw [li_48, li_10, nI_mod (by omega) (by omega), nI_add]
  rw [e1, e2, e3]
  refine rM_digits (v := 10) hm (by decide) (by show _ + 2 ≤ _; omega) ?_
  refine rM_put (p := 61) (MO_WS hm rfl) (by show _ + 2 < _; omega) ?_
  rw [WS_app]
  refine rM_put (MO_WS hm rfl) (by show _ + 3 < _; omega) ?_
  rw [WS_app]
  refine rM_put (MO_WS hm rfl) (by show _ + 4 < _; omega) ?_
  rw [WS_app]
  refine rM_put (MO_WS hm rfl) (by show _ + 5 < _; omega) ?_
  rw [WS_app]
  refine rM_put (p := 1) (MO_WS hm rfl) (by show _ + 6 < _; omega) ?_
  rw [WS_app]
  exact h
theorem rM_sum {K : XS → List AE → Prop} {S : XS} {r : List AE} {m : WP} {N : Nat} (b : Nat → Nat) (hm : MO S m N) (hN : N + 7 ≤ 120) (hb : ∀ k < N, (if m.2.2.2 then gA S m.1 (m.2.2.1 + k) else 0) = nI (b k) ∧ b k < 128) (h : K (WS S m N (tail (ssum b N % 256))) r) : ∀ (g k : Nat), k + g = N → w_M_make_138 K (g + 1) S r (nI N) (nI (ssum b k)) (nI k)
  | 0, k, hk => by
    obtain rfl : k = N := by omega
    have := ssum_le (b := b) (n := k) (fun i hi => (hb i hi).2)
    exact rM_tail hm hN (by omega) h
  | g + 1, k, hk => by
    refine ⟨fun c => ?_, fun _ => rM_byteAt hm (by omega) ?_⟩
    · rw [nI_leI (by omega) (by omega)] at c
      omega
    · rw [(hb k (by omega)).1, nI_add, nI_1]
      exact rM_sum b hm hN hb h g (k + 1) (by omega)
theorem rM_sum0 {K : XS → List AE → Prop} {S : XS} {r : List AE} {m : WP} {N : Nat} (b : Nat → Nat) (hm : MO S m N) (hN : N + 7 ≤ 120) (hb : ∀ k < N, (if m.2.2.2 then gA S m.1 (m.2.2.1 + k) else 0) = nI (b k) ∧ b k < 128) (h : K (WS S m N (tail (ssum b N % 256))) r) : w_M_make_132 K S r (nI N) := ⟨N + 1, rM_sum b hm hN hb h N 0 (by omega)⟩
theorem rM_fin {K : XS → List AE → Prop} {S : XS} {r : List AE} {m : WP} {bs : List Nat} (hm : MO S m 0) (hb : ∀ x ∈ bs, x < 128) (hN : bs.length + 7 ≤ 120) (h : K (WS S m 0 (bs ++ tail (tot bs))) r) : w_M_make_132 K (WS S m 0 bs) r (nI bs.length) := by
  have hm2 : MO (WS S m 0 bs) m bs.length := MO_WS hm (Nat.zero_add _).symm
  cases hon : m.2.2.2
  · refine rM_sum0 (fun _ => 0) hm2 hN (fun k hk => ⟨by rw [hon]; rfl, by decide⟩) ?_
    rw [WS_app' (Nat.zero_add _).symm, WS_len (b := bs ++ tail (tot bs)) hon (by rw [List.length_append, List.length_append]; rfl)]
    exact h
  · refine rM_sum0 (fun i => bs.getD i 0) hm2 hN (fun k hk => ⟨?_, gd_lt hb k⟩) ?_
    · rw [if_pos hon]
      unfold WS
      rw [gA_sF, gA_sA, if_pos rfl, if_pos hon, wr_at (by omega)]
      congr 2
      omega
    · rw [WS_app' (Nat.zero_add _).symm]
      exact h
theorem MO_cnt {S : XS} {m : WP} {i : Nat} {K : XS → List AE → Int32 → Prop} {r : List AE} (hm : MO S m i) (h : K S r (nI i)) : ((gF S 838 = 0 → K S r (gF S 818)) ∧ (¬ gF S 838 = 0 → K S r (gF S 802))) := by
  rcases hm with ⟨h1, rfl, h2⟩ | ⟨h1, s, rfl, h2, h3, h4⟩
  · exact ⟨fun c => absurd (h1.symm.trans c) (by decide), fun _ => h2 ▸ h⟩
  · exact ⟨fun _ => h4 ▸ h, fun c => absurd h1 c⟩
theorem rM_make_24 {K : XS → List AE → Prop} {S : XS} {r : List AE} {m : WP} {kind n : Nat} {dup : Bool} {vs : Nat → Int32} {bl : List Nat} (hm : MO S m 0) (hk : kind ∈ kinds) (hn : n < 10000000) (hbl : BD kind vs 4 0 bl) (hlen : (hdr kind n dup ++ bl).length ≤ 99) (hb : ∀ x ∈ hdr kind n dup ++ bl, x < 128) (h : K (WS S m 0 (frm (hdr kind n dup ++ bl))) r) : w_M_make_24 K S r (nI kind) (nI n) (if dup then 1 else 0) (vs 0) (vs 1) (vs 2) (vs 3) := by
  have hl1 := hdr_len kind n dup
  rw [List.length_append] at hlen
  have hpn := plc_pos n
  have h8 : (ltr 8 70).length = 4 := rfl
  have hp2 : plc (hdr kind n dup ++ bl).length ≤ 2 := by rw [List.length_append]; unfold plc; (repeat' split) <;> omega
  refine rM_letter (t := 8) (c := 70) hm (by decide) (by decide) ?_
  refine rM_room (a := 34) (by decide) hn ?_
  have key : ∀ (x41 : Int32), x41 = nI (hdr kind n dup ++ bl).length → w_M_field (WS S m 0 (ltr 8 70)) r 9 x41 (fun S47 r48 => w_M_make_71 K S47 r48 (nI kind) (nI n) (if dup then 1 else 0) (vs 0) (vs 1) (vs 2) (vs 3)) := by
    rintro _ rfl
    have h9 := fld_len 9 (hdr kind n dup ++ bl).length
    rw [show plc 9 = 1 from rfl] at h9
    refine rM_field (t := 9) (MO_WS hm rfl) (by decide) (by rw [List.length_append]; omega) (by omega) ?_
    rw [WS_app]
    have h97 : ∀ T : XS, T = WS S m 0 (ltr 8 70 ++ fld 9 (hdr kind n dup ++ bl).length ++ hdr kind n dup) → w_M_make_97 K T r (nI kind) (vs 0) (vs 1) (vs 2) (vs 3) := by
      rintro T rfl
      refine ⟨5, rM_body_1 hk 4 0 0 _ _ bl (MO_WS hm rfl) ?_ rfl hbl ?_⟩
      · rw [List.length_append, List.length_append]; omega
      · rw [WS_app, show ltr 8 70 ++ fld 9 (hdr kind n dup ++ bl).length ++ hdr kind n dup ++ bl = frm0 (hdr kind n dup ++ bl) by simp [frm0]]
        have hl0 := frm0_len (hdr kind n dup ++ bl)
        rw [List.length_append] at hl0 hp2
        refine MO_cnt (K := fun S r v => w_M_make_132 K S r v) (MO_WS (j := (frm0 (hdr kind n dup ++ bl)).length) hm (Nat.zero_add _).symm) ?_
        exact rM_fin hm (frm0_b hb) (by omega) h
    refine rM_letter (t := 35) (MO_WS hm rfl) (by decide) (by rw [List.length_append, ltr_len 35]; show _ + (2 + 3) ≤ _; omega) ?_
    rw [WS_app]
    refine rM_field (t := 34) (MO_WS hm rfl) (by decide) hn (by rw [List.length_append, List.length_append, ltr_len 35, fld_len 34]; show _ + (_ + (2 + 3)) + (2 + _ + 2) ≤ _; omega) ?_
    rw [WS_app]
    cases dup
    · refine ⟨fun _ => h97 _ ?_, fun c => absurd rfl c⟩
      simp only [hdr, Bool.false_eq_true, if_false, List.append_nil, List.append_assoc]
    · refine ⟨fun c => absurd c (by decide), fun _ => ?_⟩
      refine rM_letter (t := 43) (c := 89) (MO_WS hm rfl) (by decide) ?_ ?_
      · rw [List.length_append, List.length_append, List.length_append, ltr_len 35, fld_len 34, ltr_len 43]
        show _ + (_ + (2 + 3) + (2 + _ + 2)) + (2 + 3) ≤ _
        simp only [if_true] at hl1
        omega
      · rw [WS_app]
        refine h97 _ ?_
        simp only [hdr, if_true, List.append_assoc]
  have hbl5 : ∀ {T : XS} {K' : Int32 → XS → List AE → Prop}, K' (nI bl.length) T r → w_M_body T r (nI kind) (vs 0) (vs 1) (vs 2) (vs 3) 0 K' := fun {T K'} h => ⟨5, rM_body_0 hk 4 0 0 bl rfl hbl (by rw [Nat.zero_add]; exact h)⟩
  rw [List.length_append] at key
  have h5 : (5 : Int32) + nI (plc 34 + plc n + 2) = nI (5 + (4 + plc n)) := by
    rw [li_5, nI_add]
    congr 1
    show 5 + (2 + plc n + 2) = _
    omega
  cases dup
  · refine ⟨fun _ => hbl5 (key _ ?_), fun c => absurd rfl c⟩
    rw [h5, li_0, nI_add, nI_add, hl1]
    rfl
  · refine ⟨fun c => absurd c (by decide), fun _ => hbl5 (key _ ?_)⟩
    rw [h5, li_5, nI_add, nI_add, hl1]
    rfl
/-- only these int fields and arrays differ -/
def ke (Fs As : List Nat) (S S' : XS) : Prop := (∀ k, k ∉ Fs → gF S' k = gF S k) ∧ (∀ j, j ∉ As → gA S' j = gA S j) ∧ (∀ k, gR S' k = gR S k) ∧ (∀ j, gB S' j = gB S j) ∧ gO S' = gO S
theorem ke.refl (Fs As : List Nat) (S : XS) : ke Fs As S S := ⟨fun _ _ => rfl, fun _ _ => rfl, fun _ => rfl, fun _ => rfl, rfl⟩
theorem ke.trans {Fs As : List Nat} {S T U : XS} (h : ke Fs As S T) (g : ke Fs As T U) : ke Fs As S U := ⟨fun k hk => (g.1 k hk).trans (h.1 k hk), fun j hj => (g.2.1 j hj).trans (h.2.1 j hj), fun k => (g.2.2.1 k).trans (h.2.2.1 k), fun j => (g.2.2.2.1 j).trans (h.2.2.2.1 j), g.2.2.2.2.trans h.2.2.2.2⟩
theorem ke.wide {Fs As Fs' As' : List Nat} {S T : XS} (h : ke Fs As S T) (h1 : ∀ k ∈ Fs, k ∈ Fs') (h2 : ∀ k ∈ As, k ∈ As') : ke Fs' As' S T := ⟨fun k hk => h.1 k (fun c => hk (h1 k c)), fun k hk => h.2.1 k (fun c => hk (h2 k c)), h.2.2⟩
theorem ke_sF {Fs As : List Nat} {S : XS} {k : Nat} {v : Int32} (hk : k ∈ Fs) : ke Fs As S (sF S k v) := ⟨fun j hj => by rw [gF_sF, if_neg (by rintro rfl; exact hj hk)], fun _ _ => rfl, fun _ => rfl, fun _ => rfl, rfl⟩
theorem ke_sA {Fs As : List Nat} {S : XS} {k : Nat} {v : Nat → Int32} (hk : k ∈ As) : ke Fs As S (sA S k v) := ⟨fun _ _ => rfl, fun j hj => by rw [gA_sA, if_neg (by rintro rfl; exact hj hk)], fun _ => rfl, fun _ => rfl, rfl⟩
theorem ke_WS {Fs As : List Nat} {S : XS} {m : WP} {i : Nat} {bs : List Nat} (h1 : m.2.1 ∈ Fs) (h2 : m.1 ∈ As) : ke Fs As S (WS S m i bs) := (ke_sA h2).trans (ke_sF h1)
/-- the frames that were sent, in the model -/
def MF (fr : List (List Nat)) (S : XS) : Prop := gF S 815 = nI fr.length ∧ fr.length < 1000000 ∧ ∀ k < fr.length, k < 20 → (fr.getD k []).length ≤ 120 ∧ gA S 14 k = nI (fr.getD k []).length ∧ ∀ i < (fr.getD k []).length, gA S 13 (120 * k + i) = nI ((fr.getD k []).getD i 0)
theorem MF.same {fr : List (List Nat)} {S S' : XS} (h : MF fr S) (h1 : gF S' 815 = gF S 815) (h2 : gA S' 14 = gA S 14) (h3 : gA S' 13 = gA S 13) : MF fr S' := by
  unfold MF
  rw [h1, h2, h3]
  exact h
theorem fr_l {fr : List (List Nat)} {x : List Nat} {k : Nat} (h : k < fr.length) : (fr ++ [x]).getD k [] = fr.getD k [] := by
  rw [List.getD_eq_getElem?_getD, List.getD_eq_getElem?_getD, List.getElem?_append_left h]
theorem fr_r {fr : List (List Nat)} {x : List Nat} : (fr ++ [x]).getD fr.length [] = x := by
  rw [List.getD_eq_getElem?_getD, List.getElem?_append_right (Nat.le_refl _), Nat.sub_self]
  rfl
theorem rM_goes {K : XS → List AE → Prop} {S : XS} {r : List AE} {fr : List (List Nat)} {kind n : Nat} {dup : Bool} {vs : Nat → Int32} {bl : List Nat} (hf : MF fr S) (hfr : fr.length < 999999) (hk : kind ∈ kinds) (hn : n < 10000000) (hbl : BD kind vs 4 0 bl) (hlen : (hdr kind n dup ++ bl).length ≤ 99) (hb : ∀ x ∈ hdr kind n dup ++ bl, x < 128) (h : ∀ S', MF (fr ++ [frm (hdr kind n dup ++ bl)]) S' → gF S' 824 = gF S 822 → ke [838, 818, 815, 824, 802] [13, 14] S S' → gF S' 802 = gF S 802 → K S' r) : w_M_goes S r (nI kind) (nI n) (if dup then 1 else 0) (vs 0) (vs 1) (vs 2) (vs 3) K := by
  have hp2 : plc (hdr kind n dup ++ bl).length ≤ 2 := by unfold plc; (repeat' split) <;> omega
  have hfl := frm_len (hdr kind n dup ++ bl)
  refine ⟨fun _ => ?_, fun c => absurd (by rw [gF_sF, if_pos rfl]) c⟩
  generalize eS : (sF (sF (sF S 838 0) 818 0) 802 (gF (sF S 838 0) 802)) = S1
  have hke1 : ke [838, 818, 815, 824, 802] [13, 14] S S1 := by
    subst eS
    exact ((ke_sF (by decide)).trans (ke_sF (by decide))).trans (ke_sF (by decide))
  have h802 : gF S1 802 = gF S 802 := by subst eS; rw [gF_sF, if_pos rfl, gF_sF, if_neg (by decide)]
  have h815 : gF S1 815 = nI fr.length := by
    subst eS
    rw [gF_sF, if_neg (by decide), gF_sF, if_neg (by decide), gF_sF, if_neg (by decide)]
    exact hf.1
  have hMO : MO S1 (pOut fr.length) 0 := by
    refine Or.inr ⟨?_, fr.length, rfl, h815, by omega, ?_⟩
    · subst eS
      rw [gF_sF, if_neg (by decide), gF_sF, if_neg (by decide), gF_sF, if_pos rfl]
    · subst eS
      rw [gF_sF, if_neg (by decide), gF_sF, if_pos rfl]
      rfl
  refine rM_make_24 hMO hk hn hbl hlen hb ?_
  generalize eT : WS S1 (pOut fr.length) 0 (frm (hdr kind n dup ++ bl)) = T
  have hke2 : ke [838, 818, 815, 824, 802] [13, 14] S T := by
    subst eT
    exact hke1.trans (ke_WS (by show (818 : Nat) ∈ _; decide) (by show (13 : Nat) ∈ _; decide))
  have t815 : gF T 815 = nI fr.length := by
    subst eT
    show gF (sF _ 818 _) 815 = _
    rw [gF_sF, if_neg (by decide)]
    exact h815
  have t818 : gF T 818 = nI (frm (hdr kind n dup ++ bl)).length := by
    subst eT
    show gF (sF _ 818 _) 818 = _
    rw [gF_sF, if_pos rfl, Nat.zero_add]
  have t802 : gF T 802 = gF S 802 := by
    subst eT
    show gF (sF _ 818 _) 802 = _
    rw [gF_sF, if_neg (by decide)]
    exact h802
  have s13 : gA S1 13 = gA S 13 := by subst eS; rfl
  have t14 : gA T 14 = gA S 14 := by subst eT; subst eS; rfl
  have t13 : gA T 13 = if fr.length < 20 then wr (gA S 13) (120 * fr.length) (frm (hdr kind n dup ++ bl)) else gA S 13 := by
    subst eT
    show (if decide (fr.length < 20) = true then wr (gA S1 13) (120 * fr.length + 0) _ else gA S1 13) = _
    rw [s13]
    simp only [decide_eq_true_eq, Nat.add_zero]
  have t822 : gF T 822 = gF S 822 := hke2.1 822 (by decide)
  have old : ∀ k < fr.length, k < 20 → (fr.getD k []).length ≤ 120 ∧ gA S 14 k = nI (fr.getD k []).length ∧ ∀ i < (fr.getD k []).length, gA T 13 (120 * k + i) = nI ((fr.getD k []).getD i 0) := by
    intro k hk1 hk2
    obtain ⟨a1, a2, a3⟩ := hf.2.2 k hk1 hk2
    refine ⟨a1, a2, fun i hi => ?_⟩
    rw [t13]
    split
    · rw [wr_out (by omega), a3 i hi]
    · exact a3 i hi
  refine ⟨fun c => ?_, fun c => ?_⟩
  · rw [t815, li_20, nI_leI (by omega) (by omega)] at c
    refine h _ ⟨?_, ?_, fun k hk1 hk2 => ?_⟩ ?_ ?_ ?_
    · rw [gF_sF, if_neg (by decide), gF_sF, if_pos rfl, t815, nI_1, List.length_append]
      rfl
    · rw [List.length_append]; show _ + 1 < _; omega
    · rw [fr_l (by omega)]
      obtain ⟨a1, a2, a3⟩ := old k (by omega) hk2
      refine ⟨a1, ?_, a3⟩
      show gA T 14 k = _
      rw [t14]
      exact a2
    · rw [gF_sF, if_pos rfl]
      exact t822
    · exact (hke2.trans (ke_sF (by decide))).trans (ke_sF (by decide))
    · rw [gF_sF, if_neg (by decide), gF_sF, if_neg (by decide)]
      exact t802
  · rw [t815, li_20, nI_leI (by omega) (by omega)] at c
    rw [t815, t818, nI_clamp (by omega)]
    refine ⟨vp_in_nI (by omega) (by decide), ?_⟩
    refine h _ ⟨?_, ?_, fun k hk1 hk2 => ?_⟩ ?_ ?_ ?_
    · rw [gF_sF, if_neg (by decide), gF_sF, if_pos rfl]
      show gF T 815 + 1 = _
      rw [t815, nI_1, List.length_append]
      rfl
    · rw [List.length_append]; show _ + 1 < _; omega
    · show _ ∧ upd (gA T 14) fr.length (nI (frm (hdr kind n dup ++ bl)).length) k = _ ∧ ∀ i < _, gA T 13 (120 * k + i) = _
      by_cases he : k = fr.length
      · subst he
        rw [fr_r, upd_at]
        refine ⟨by omega, rfl, fun i hi => ?_⟩
        rw [t13, if_pos (by omega), wr_at (by omega)]
        congr 2
        omega
      · rw [List.length_append] at hk1
        have hk3 : k < fr.length + 1 := hk1
        rw [fr_l (by omega), upd_ne _ _ he, t14]
        exact old k (by omega) hk2
    · rw [gF_sF, if_pos rfl]
      exact t822
    · exact ((hke2.trans (ke_sA (by decide))).trans (ke_sF (by decide))).trans (ke_sF (by decide))
    · rw [gF_sF, if_neg (by decide), gF_sF, if_neg (by decide)]
      exact t802
