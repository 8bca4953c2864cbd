/-! ===== the component's state ===== -/
def tg : AE → Nat
  | .inl _ => 100
  | .inr (.inl _) => 101
  | .inr (.inr (.inl _)) => 102
  | .inr (.inr (.inr (ci, _))) => ci
theorem tg_ne {r : List AE} {a b : Nat} {e e' : AE} (h1 : rl r a = some e) (h2 : rl r b = some e') (h : tg e ≠ tg e') : a ≠ b := by
  rintro rfl
  rw [h1] at h2
  cases h2
  exact h rfl
theorem tn (x y : Nat) {r : List AE} {a b : Nat} {e e' : AE} (h1 : rl r a = some e) (h2 : rl r b = some e') (hx : tg e = x) (hy : tg e' = y) (h : x ≠ y) : a ≠ b := tg_ne h1 h2 (by rw [hx, hy]; exact h)
theorem rl_set_ne {r : List AE} {a b : Nat} {e : AE} (h : a ≠ b) (ha : 40 ≤ a) : rl (rset r a e) b = rl r b := by
  unfold rl rset
  split
  · rfl
  · rw [List.getElem?_set_ne (by omega)]
theorem rl_app {r q : List AE} {a : Nat} {e : AE} (h : rl r a = some e) : rl (r ++ q) a = some e := by
  obtain ⟨h1, h2⟩ := rl_ge h
  unfold rl at *
  rw [if_neg (by omega)] at *
  rw [List.getElem?_append_left h2]
  exact h
theorem rl_rF_ne {r : List AE} {a g p : Nat} {L B : Int32} {f : Nat → Int32} (ha : 40 ≤ a) (hg : 40 ≤ g) (h1 : p ≠ a) (h2 : p ≠ g) : rl (rF r a g L B f) p = rl r p := by
  unfold rF
  rw [rl_set_ne (Ne.symm h1) ha, rl_set_ne (Ne.symm h2) hg]
theorem rl_rF_a {r : List AE} {a g : Nat} {L B L' B' : Int32} {f f' : Nat → Int32} (h1 : rl r a = some (xO 1 [.ref g, .int L, .int B])) (h2 : rl r g = some (xI 1 120 f)) : rl (rF r a g L' B' f') a = some (xO 1 [.ref g, .int L', .int B']) := rl_rF (Rv_of h1 h2)
theorem rl_rF_g {r : List AE} {a g : Nat} {L B L' B' : Int32} {f f' : Nat → Int32} (h1 : rl r a = some (xO 1 [.ref g, .int L, .int B])) (h2 : rl r g = some (xI 1 120 f)) : rl (rF r a g L' B' f') g = some (xI 1 120 f') := by
  have hne := tn 1 100 h1 h2 rfl rfl (by decide)
  unfold rF
  rw [rl_set_ne hne (rl_ge h1).1]
  exact rl_rset h2 _
theorem rF_rF {r : List AE} {a g : Nat} {L B L' B' : Int32} {f f' : Nat → Int32} (h : a ≠ g) (ha : 40 ≤ a) (hg : 40 ≤ g) : rF (rF r a g L B f) a g L' B' f' = rF r a g L' B' f' := by
  unfold rF rset
  rw [List.set_comm _ _ (show a - 40 ≠ g - 40 by omega), List.set_set, List.set_set]
theorem rF_len {r : List AE} {a g : Nat} {L B : Int32} {f : Nat → Int32} : (rF r a g L B f).length = r.length := by
  unfold rF rset
  rw [List.length_set, List.length_set]
theorem rset_hsz {r : List AE} {a : Nat} {e e0 : AE} (h : rl r a = some e0) (he : esz e = esz e0) : hsz (rset r a e) = hsz r := by
  unfold rl at h
  split at h
  · cases h
  · exact hsz_set _ _ _ _ h he
theorem rF_hsz {r : List AE} {a g : Nat} {L B L' B' : Int32} {f f' : Nat → Int32} (h1 : rl r a = some (xO 1 [.ref g, .int L, .int B])) (h2 : rl r g = some (xI 1 120 f)) : hsz (rF r a g L' B' f') = hsz r := by
  have hne := tn 1 100 h1 h2 rfl rfl (by decide)
  unfold rF
  have h3 : rl (rset r g (xI 1 120 f')) a = some (xO 1 [.ref g, .int L, .int B]) := by
    rw [rl_set_ne (Ne.symm hne) (rl_ge h2).1]
    exact h1
  rw [rset_hsz (e := xO 1 [.ref g, .int L', .int B']) h3 rfl, rset_hsz (e := xI 1 120 f') h2 rfl]
/-- the frames; of the one in the hole no more is known than that it is there -/
def TFh (fr : List (List Nat)) (hole q : Nat) (S : XS) (r : List AE) (na : Nat) (fa : Nat → Nat) : Prop := na ≤ 21 ∧ (∀ k < 21, gB S 5 k = if k < na then fa k else 0) ∧ (∀ k < na, ∃ (L B : Int32) (f : Nat → Int32), rl r (fa k) = some (xO 1 [.ref (fa k + 1), .int L, .int B]) ∧ rl r (fa k + 1) = some (xI 1 120 f) ∧ (k ≠ hole → k < fr.length → k < 20 → L = nI (fr.getD k []).length ∧ (fr.getD k []).length ≤ 120 ∧ xrow (fr.getD k []) f)) ∧ (∀ j k, j < k → k < na → fa j + 2 ≤ fa k) ∧ (∀ k < 21, k < fr.length → k < na) ∧ r.length ≤ 2 * na + q ∧ hsz r ≤ 123 * na + 6 * q
def TFr (fr : List (List Nat)) (q : Nat) (S : XS) (r : List AE) : Prop := gF S 4 = nI fr.length ∧ fr.length < 1000000 ∧ ∃ na fa, TFh fr 100 q S r na fa
def TS (c : Nat → Nat) (S : XS) : Prop := gF S 5 = nI (c 0) ∧ gF S 6 = nI (c 1) ∧ gF S 7 = nI (c 2) ∧ gF S 8 = nI (c 3) ∧ gF S 9 = nI (c 4) ∧ (c 0 = 1 → gF S 10 = nI (c 5)) ∧ gF S 11 = nI (c 6) ∧ gF S 12 = nI (c 7) ∧ gF S 17 = nI (c 8)
def rcell (x : RP) (nxt : Nat) : AE := xO 5 [.int (nI x.1), .int (nI x.2.1), .int (nI x.2.2.1), .int (nI x.2.2.2.1), .int (nI x.2.2.2.2), .ref nxt]
def ocell (x : RP) : AE := xO 4 [.int (nI x.1), .int (nI x.2.1), .int (nI x.2.2.1), .int (nI x.2.2.2.1), .int (nI x.2.2.2.2)]
def TRx (rp : List RP) (S : XS) (r : List AE) (ra : Nat → Nat) : Prop := (∀ i < rp.length, rl r (ra i) = some (rcell (rp.getD i oz) (if i + 1 < rp.length then ra (i + 1) else 0))) ∧ (∀ i j, i < j → j < rp.length → ra i < ra j) ∧ gR S 13 = (if rp.length = 0 then 0 else ra 0) ∧ gR S 14 = (if rp.length = 0 then 0 else ra (rp.length - 1))
def TR (rp : List RP) (S : XS) (r : List AE) : Prop := ∃ ra, TRx rp S r ra
def TDx (od : List RP) (S : XS) (r : List AE) (oa : Nat → Nat) : Prop := gF S 16 = nI od.length ∧ od.length ≤ 40 ∧ (∀ k < od.length, gB S 6 k = oa k ∧ rl r (oa k) = some (ocell (od.getD k oz))) ∧ (∀ i j, i < j → j < od.length → oa i < oa j)
def TD (od : List RP) (S : XS) (r : List AE) : Prop := ∃ oa, TDx od S r oa
def TU (us : List Nat) (S : XS) : Prop := gF S 18 = nI us.length ∧ ∀ k < us.length, gA S 7 k = nI (us.getD k 0)
def TT (c : Nat → Nat) (fr : List (List Nat)) (rp od : List RP) (us : List Nat) (q : Nat) (S : XS) (r : List AE) : Prop := TS c S ∧ TFr fr q S r ∧ TR rp S r ∧ TD od S r ∧ TU us S
def kT (S S' : XS) : Prop := (∀ k, k ∉ [4, 5, 6, 7, 8, 9, 10, 11, 12, 16, 17, 18] → gF S' k = gF S k) ∧ (∀ j, j ≠ 7 → gA S' j = gA S j) ∧ (∀ k, k ≠ 13 → k ≠ 14 → gR S' k = gR S k) ∧ gO S' = gO S
theorem kT.refl (S : XS) : kT S S := ⟨fun _ _ => rfl, fun _ _ => rfl, fun _ _ _ => rfl, rfl⟩
theorem kT.trans {S T U : XS} (h : kT S T) (g : kT T U) : kT S U := ⟨fun k hk => (g.1 k hk).trans (h.1 k hk), fun j hj => (g.2.1 j hj).trans (h.2.1 j hj), fun k h1 h2 => (g.2.2.1 k h1 h2).trans (h.2.2.1 k h1 h2), g.2.2.2.trans h.2.2.2⟩
theorem kT_sF {S : XS} {k : Nat} {v : Int32} (hk : k ∈ [4, 5, 6, 7, 8, 9, 10, 11, 12, 16, 17, 18]) : kT S (sF S k v) := ⟨fun j hj => by rw [gF_sF, if_neg (by rintro rfl; exact hj hk)], fun _ _ => rfl, fun _ _ _ => rfl, rfl⟩
theorem kT_sB (S : XS) (k : Nat) (v : Nat → Nat) : kT S (sB S k v) := ⟨fun _ _ => rfl, fun _ _ => rfl, fun _ _ _ => rfl, rfl⟩
theorem kT_sA7 (S : XS) (v : Nat → Int32) : kT S (sA S 7 v) := ⟨fun _ _ => rfl, fun j hj => by rw [gA_sA, if_neg hj], fun _ _ _ => rfl, rfl⟩
theorem kT_sR {S : XS} {k : Nat} {v : Nat} (hk : k = 13 ∨ k = 14) : kT S (sR S k v) := ⟨fun _ _ => rfl, fun _ _ => rfl, fun j h1 h2 => by rw [gR_sR, if_neg (by omega)], rfl⟩
theorem TS.of {c : Nat → Nat} {S S' : XS} {c' : Nat → Nat} (h : TS c S) (h0 : gF S' 5 = gF S 5 ∧ c' 0 = c 0 ∨ False) (h1 : gF S' 6 = gF S 6 ∧ c' 1 = c 1 ∨ gF S' 6 = nI (c' 1)) (h2 : gF S' 7 = gF S 7 ∧ c' 2 = c 2 ∨ gF S' 7 = nI (c' 2)) (h3 : gF S' 8 = gF S 8 ∧ c' 3 = c 3 ∨ gF S' 8 = nI (c' 3)) (h4 : gF S' 9 = gF S 9 ∧ c' 4 = c 4 ∨ gF S' 9 = nI (c' 4)) (h5 : gF S' 10 = gF S 10 ∧ c' 5 = c 5 ∨ (c' 0 = 1 → gF S' 10 = nI (c' 5))) (h6 : gF S' 11 = gF S 11 ∧ c' 6 = c 6 ∨ gF S' 11 = nI (c' 6)) (h7 : gF S' 12 = gF S 12 ∧ c' 7 = c 7 ∨ gF S' 12 = nI (c' 7)) (h8 : gF S' 17 = gF S 17 ∧ c' 8 = c 8 ∨ gF S' 17 = nI (c' 8)) : TS c' S' := by
  obtain ⟨a0, a1, a2, a3, a4, a5, a6, a7, a8⟩ := h
  refine ⟨?_, ?_, ?_, ?_, ?_, ?_, ?_, ?_, ?_⟩
  · rcases h0 with ⟨e, f⟩ | e
    · rw [e, f, a0]
    · exact e.elim
  · rcases h1 with ⟨e, f⟩ | e
    · rw [e, f, a1]
    · exact e
  · rcases h2 with ⟨e, f⟩ | e
    · rw [e, f, a2]
    · exact e
  · rcases h3 with ⟨e, f⟩ | e
    · rw [e, f, a3]
    · exact e
  · rcases h4 with ⟨e, f⟩ | e
    · rw [e, f, a4]
    · exact e
  · rcases h5 with ⟨e, f⟩ | e
    · rcases h0 with ⟨-, f0⟩ | e0
      · intro hz
        rw [e, f, a5 (f0 ▸ hz)]
      · exact e0.elim
    · exact e
  · rcases h6 with ⟨e, f⟩ | e
    · rw [e, f, a6]
    · exact e
  · rcases h7 with ⟨e, f⟩ | e
    · rw [e, f, a7]
    · exact e
  · rcases h8 with ⟨e, f⟩ | e
    · rw [e, f, a8]
    · exact e
theorem TFh.same {fr : List (List Nat)} {hole q na : Nat} {fa : Nat → Nat} {S S' : XS} {r : List AE} (h : TFh fr hole q S r na fa) (h1 : gB S' 5 = gB S 5) : TFh fr hole q S' r na fa := by
  unfold TFh
  rw [h1]
  exact h
theorem TFr.same {fr : List (List Nat)} {q : Nat} {S S' : XS} {r : List AE} (h : TFr fr q S r) (h0 : gF S' 4 = gF S 4) (h1 : gB S' 5 = gB S 5) : TFr fr q S' r := by
  unfold TFr TFh
  rw [h0, h1]
  exact h
theorem TR.same {rp : List RP} {S S' : XS} {r : List AE} (h : TR rp S r) (h0 : gR S' 13 = gR S 13) (h1 : gR S' 14 = gR S 14) : TR rp S' r := by
  unfold TR TRx
  rw [h0, h1]
  exact h
theorem TD.same {od : List RP} {S S' : XS} {r : List AE} (h : TD od S r) (h0 : gF S' 16 = gF S 16) (h1 : gB S' 6 = gB S 6) : TD od S' r := by
  unfold TD TDx
  rw [h0, h1]
  exact h
theorem TU.same {us : List Nat} {S S' : XS} (h : TU us S) (h0 : gF S' 18 = gF S 18) (h1 : gA S' 7 = gA S 7) : TU us S' := by
  unfold TU
  rw [h0, h1]
  exact h
theorem TR.mem {rp : List RP} {S : XS} {r r' : List AE} (h : TR rp S r) (hk : ∀ p e, rl r p = some e → tg e = 5 → rl r' p = some e) : TR rp S r' := by
  obtain ⟨ra, h1, h2⟩ := h
  exact ⟨ra, fun i hi => hk _ _ (h1 i hi) rfl, h2⟩
theorem TD.mem {od : List RP} {S : XS} {r r' : List AE} (h : TD od S r) (hk : ∀ p e, rl r p = some e → tg e = 4 → rl r' p = some e) : TD od S r' := by
  obtain ⟨oa, h1, h2, h3, h4⟩ := h
  exact ⟨oa, h1, h2, fun k hk1 => ⟨(h3 k hk1).1, hk _ _ (h3 k hk1).2 rfl⟩, h4⟩
def k45 (r r' : List AE) : Prop := ∀ p e, rl r p = some e → (tg e = 5 ∨ tg e = 4) → rl r' p = some e
theorem tn45 (y : Nat) {r : List AE} {a b : Nat} {e e' : AE} (h1 : rl r a = some e) (h2 : rl r b = some e') (hx : tg e = 5 ∨ tg e = 4) (hy : tg e' = y) (h : y ≠ 5 ∧ y ≠ 4) : a ≠ b := tg_ne h1 h2 (by rw [hy]; omega)
/-- a frame gets its bytes -/
theorem TFh.fill {fr : List (List Nat)} {q na : Nat} {fa : Nat → Nat} {S : XS} {r : List AE} {k0 : Nat} (h : TFh fr k0 q S r na fa) (hk0 : k0 = fr.length ∨ 20 ≤ fr.length ∧ k0 = 20) (hna : k0 < na) {bs : List Nat} {L' B' : Int32} {f' : Nat → Int32} (hb : bs.length ≤ 120) (hL : L' = nI bs.length) (hf : xrow bs f') : TFh (fr ++ [bs]) 100 q S (rF r (fa k0) (fa k0 + 1) L' B' f') na fa := by
  obtain ⟨h1, h2, h3, h4, h5, h6, h7⟩ := h
  obtain ⟨L0, B0, f0, a1, a2, -⟩ := h3 k0 hna
  have g1 := (rl_ge a1).1
  refine ⟨h1, h2, fun k hk => ?_, h4, fun k hk1 hk2 => ?_, by rw [rF_len]; exact h6, by rw [rF_hsz a1 a2]; exact h7⟩
  · by_cases he : k = k0
    · subst he
      refine ⟨L', B', f', rl_rF_a a1 a2, rl_rF_g a1 a2, fun _ b1 b2 => ?_⟩
      rcases hk0 with e | e
      · rw [e, fr_r]
        exact ⟨hL, hb, hf⟩
      · omega
    · obtain ⟨L, B, f, b1, b2, b3⟩ := h3 k hk
      have hsp : fa k + 2 ≤ fa k0 ∨ fa k0 + 2 ≤ fa k := by
        rcases Nat.lt_or_ge k k0 with c | c
        · exact Or.inl (h4 k k0 c hna)
        · exact Or.inr (h4 k0 k (by omega) hk)
      refine ⟨L, B, f, ?_, ?_, fun _ d1 d2 => ?_⟩
      · rw [rl_rF_ne g1 (by omega) (by omega) (by omega)]; exact b1
      · rw [rl_rF_ne g1 (by omega) (by omega) (by omega)]; exact b2
      · rw [List.length_append] at d1
        have d3 : k < fr.length + 1 := d1
        have d4 : k < fr.length := by omega
        rw [fr_l d4]
        exact b3 he d4 d2
  · rw [List.length_append] at hk2
    have d3 : k < fr.length + 1 := hk2
    by_cases d4 : k < fr.length
    · exact h5 k hk1 d4
    · rcases hk0 with e | e
      · have : k = k0 := by omega
        rw [this]
        exact hna
      · omega
theorem bud_q {fr : List (List Nat)} {hole q na : Nat} {fa : Nat → Nat} {S : XS} {r : List AE} (h : TFh fr hole q S r na fa) (hq : q ≤ 5000) : bud r := by
  obtain ⟨h1, h2, h3, h4, h5, h6, h7⟩ := h
  exact ⟨by omega, by omega⟩
theorem rT_out {K : Nat → XS → List AE → Prop} {S : XS} {r : List AE} {c : Nat → Nat} {fr : List (List Nat)} {rp od : List RP} {us : List Nat} {q : Nat} (hT : TT c fr rp od us q S r) (hq : q ≤ 5000) (hfr : fr.length < 999999) (h : ∀ a S1 r1 L B f, rl r1 a = some (xO 1 [.ref (a + 1), .int L, .int B]) → rl r1 (a + 1) = some (xI 1 120 f) → TS (up c 6 (c 4)) S1 → kT S S1 → k45 r r1 → (∀ (L' B' : Int32) (f' : Nat → Int32) (bs : List Nat), bs.length ≤ 120 → L' = nI bs.length → xrow bs f' → TT (up c 6 (c 4)) (fr ++ [bs]) rp od us q S1 (rF r1 a (a + 1) L' B' f')) → K a S1 r1) : w_T_out S r K := by
  obtain ⟨hS, ⟨hF0, hF1, na, fa, hF⟩, hR, hD, hU⟩ := hT
  have hF' := hF
  obtain ⟨h1, h2, h3, h4, h5, h6, h7⟩ := hF'
  have ek : (if (20 : Int32) < gF S 4 then (20 : Int32) else gF S 4) = nI (if 20 < fr.length then 20 else fr.length) := by
    rw [hF0]
    by_cases e : 20 < fr.length
    · rw [if_pos e, if_pos (by rw [li_20]; exact nI_lt e (by omega))]
      rfl
    · rw [if_neg e, if_neg (by rw [li_20]; exact nI_nlt (by omega) (by omega))]
  generalize hk0 : (if 20 < fr.length then 20 else fr.length) = k0 at ek
  have hk21 : k0 < 21 := by subst hk0; split <;> omega
  have hkk : k0 = fr.length ∨ 20 ≤ fr.length ∧ k0 = 20 := by subst hk0; split <;> omega
  unfold w_T_out
  rw [ek, nI_clamp (by omega)]
  refine ⟨vp_in_nI hk21 (by decide), fun c1 => ?_, fun c1 => ?_⟩
  · have hna : k0 < na := by
      rw [h2 k0 hk21] at c1
      split at c1
      · assumption
      · exact absurd rfl c1
    obtain ⟨L0, B0, f0, a1, a2, a3⟩ := h3 k0 hna
    refine ⟨vp_in_nI hk21 (by decide), ?_⟩
    rw [nI_clamp (by omega)]
    show K (gB S 5 k0) _ r
    rw [h2 k0 hk21, if_pos hna]
    have hS1 : TS (up c 6 (c 4)) (sF (sF S 4 (gF S 4 + 1)) 11 (gF S 9)) := by
      refine hS.of (.inl ⟨rfl, rfl⟩) (.inl ⟨rfl, rfl⟩) (.inl ⟨rfl, rfl⟩) (.inl ⟨rfl, rfl⟩) (.inl ⟨rfl, rfl⟩) (.inl ⟨rfl, rfl⟩) (.inr ?_) (.inl ⟨rfl, rfl⟩) (.inl ⟨rfl, rfl⟩)
      rw [gF_sF, if_pos rfl, up_at]
      exact hS.2.2.2.2.1
    refine h (fa k0) _ r L0 B0 f0 a1 a2 hS1 ((kT_sF (by decide)).trans (kT_sF (by decide))) (fun p e hp _ => hp) (fun L' B' f' bs b1 b2 b3 => ?_)
    refine ⟨hS1, ⟨?_, ?_, na, fa, TFh.same (S := S) (TFh.fill (k0 := k0) ⟨h1, h2, fun k hk => ?_, h4, h5, h6, h7⟩ hkk hna b1 b2 b3) rfl⟩, TR.same (S := S) (hR.mem (fun p e hp ht => ?_)) rfl rfl, TD.same (S := S) (hD.mem (fun p e hp ht => ?_)) rfl rfl, hU.same rfl rfl⟩
    · rw [gF_sF, if_neg (by decide), gF_sF, if_pos rfl, hF0, nI_1, List.length_append]
      rfl
    · rw [List.length_append]; show _ + 1 < _; omega
    · obtain ⟨L, B, f, d1, d2, d3⟩ := h3 k hk
      exact ⟨L, B, f, d1, d2, fun _ => d3 (by omega)⟩
    · rw [rl_rF_ne (rl_ge a1).1 (rl_ge a2).1 (tn 5 1 hp a1 ht rfl (by decide)) (tn 5 100 hp a2 ht rfl (by decide))]; exact hp
    · rw [rl_rF_ne (rl_ge a1).1 (rl_ge a2).1 (tn 4 1 hp a1 ht rfl (by decide)) (tn 4 100 hp a2 ht rfl (by decide))]; exact hp
  · have hna : k0 = na := by
      rw [h2 k0 hk21] at c1
      split at c1
      · rename_i hlt
        obtain ⟨L0, B0, f0, a1, -⟩ := h3 k0 hlt
        have := (rl_ge a1).1
        omega
      · rename_i hge
        by_cases hz : k0 ≤ na
        · omega
        · have := h5 na (by omega) (by omega)
          omega
    refine ⟨bud_q hF hq, vp_in_nI hk21 (by decide), vp_in_nI hk21 (by decide), ?_⟩
    rw [nI_clamp (by omega)]
    show K (va_up (gB S 5) k0 (40 + r.length) k0) _ _
    rw [va_up_self]
    have hS1 : TS (up c 6 (c 4)) (sB (sF (sF S 4 (gF S 4 + 1)) 11 (gF S 9)) 5 (va_up (gB S 5) k0 (40 + r.length))) := by
      refine hS.of (.inl ⟨rfl, rfl⟩) (.inl ⟨rfl, rfl⟩) (.inl ⟨rfl, rfl⟩) (.inl ⟨rfl, rfl⟩) (.inl ⟨rfl, rfl⟩) (.inl ⟨rfl, rfl⟩) (.inr ?_) (.inl ⟨rfl, rfl⟩) (.inl ⟨rfl, rfl⟩)
      rw [gF_sB, gF_sF, if_pos rfl, up_at]
      exact hS.2.2.2.2.1
    have a1 : rl (r ++ [xO 1 [.ref (41 + r.length), .int 0, .int 0], xI 1 120 (fun _ => 0)]) (40 + r.length) = some (xO 1 [.ref (40 + r.length + 1), .int 0, .int 0]) := by
      rw [rl_newF, show 41 + r.length = 40 + r.length + 1 by omega]
    have a2 : rl (r ++ [xO 1 [.ref (41 + r.length), .int 0, .int 0], xI 1 120 (fun _ => 0)]) (40 + r.length + 1) = some (xI 1 120 (fun _ => 0)) := by
      unfold rl
      rw [if_neg (by omega), show 40 + r.length + 1 - 40 = r.length + 1 by omega, List.getElem?_append_right (by omega), show r.length + 1 - r.length = 1 by omega]
      rfl
    refine h (40 + r.length) _ _ 0 0 _ a1 a2 hS1 (((kT_sF (by decide)).trans (kT_sF (by decide))).trans (kT_sB _ _ _)) (fun p e hp _ => rl_app hp) (fun L' B' f' bs b1 b2 b3 => ?_)
    have hx : TFh fr k0 q (sB (sF (sF S 4 (gF S 4 + 1)) 11 (gF S 9)) 5 (va_up (gB S 5) k0 (40 + r.length))) (r ++ [xO 1 [.ref (41 + r.length), .int 0, .int 0], xI 1 120 (fun _ => 0)]) (na + 1) (va_up fa k0 (40 + r.length)) := by
      refine ⟨by omega, fun k hk => ?_, fun k hk => ?_, fun j k hj hk => ?_, fun k e1 e2 => ?_, ?_, ?_⟩
      · show va_up (gB S 5) k0 (40 + r.length) k = _
        by_cases he : k = k0
        · subst he
          rw [va_up_self, va_up_self, if_pos (by omega)]
        · rw [va_up_ne _ _ he, va_up_ne _ _ he, h2 k hk]
          by_cases hl : k < na
          · rw [if_pos hl, if_pos (by omega)]
          · rw [if_neg hl, if_neg (by omega)]
      · by_cases he : k = k0
        · subst he
          rw [va_up_self]
          exact ⟨0, 0, _, a1, a2, fun c => absurd rfl c⟩
        · rw [va_up_ne _ _ he]
          obtain ⟨L, B, f, d1, d2, d3⟩ := h3 k (by omega)
          exact ⟨L, B, f, rl_app d1, rl_app d2, fun _ => d3 (by omega)⟩
      · by_cases he : k = k0
        · subst he
          rw [va_up_self, va_up_ne _ _ (by omega)]
          obtain ⟨L, B, f, d1, d2, d3⟩ := h3 j (by omega)
          have := (rl_ge d2).2
          omega
        · rw [va_up_ne _ _ he, va_up_ne _ _ (by omega)]
          exact h4 j k hj (by omega)
      · have := h5 k e1 e2
        omega
      · rw [List.length_append]
        show _ + 2 ≤ _
        omega
      · rw [hsz_app]
        show _ + (3 + (120 + 0)) ≤ _
        omega
    have hfill := TFh.fill (k0 := k0) hx hkk (by omega) (B' := B') b1 b2 b3
    rw [va_up_self] at hfill
    refine ⟨hS1, ⟨?_, ?_, na + 1, _, hfill⟩, TR.same (S := S) (hR.mem (fun p e hp ht => ?_)) rfl rfl, TD.same (S := S) (hD.mem (fun p e hp ht => ?_)) rfl rfl, hU.same rfl rfl⟩
    · rw [gF_sB, gF_sF, if_neg (by decide), gF_sF, if_pos rfl, hF0, nI_1, List.length_append]
      rfl
    · rw [List.length_append]; show _ + 1 < _; omega
    · have hp2 := rl_app (q := [xO 1 [.ref (41 + r.length), .int 0, .int 0], xI 1 120 (fun _ => 0)]) hp
      rw [rl_rF_ne (rl_ge a1).1 (rl_ge a2).1 (tn 5 1 hp2 a1 ht rfl (by decide)) (tn 5 100 hp2 a2 ht rfl (by decide))]; exact hp2
    · have hp2 := rl_app (q := [xO 1 [.ref (41 + r.length), .int 0, .int 0], xI 1 120 (fun _ => 0)]) hp
      rw [rl_rF_ne (rl_ge a1).1 (rl_ge a2).1 (tn 4 1 hp2 a1 ht rfl (by decide)) (tn 4 100 hp2 a2 ht rfl (by decide))]; exact hp2
