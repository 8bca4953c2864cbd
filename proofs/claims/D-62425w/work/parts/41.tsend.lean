/-! ===== the component: sending ===== -/
theorem TT_next {c : Nat → Nat} {fr : List (List Nat)} {rp od : List RP} {us : List Nat} {q : Nat} {S : XS} {r : List AE} (h : TT c fr rp od us q S r) : TT (up c 2 (c 2 + 1)) fr rp od us q (sF S 7 (gF S 7 + 1)) r := by
  obtain ⟨hS, hF, hR, hD, hU⟩ := h
  refine ⟨?_, hF.same rfl rfl, hR.same rfl rfl, hD.same rfl rfl, hU.same rfl rfl⟩
  refine hS.of (.inl ⟨rfl, rfl⟩) (.inl ⟨rfl, rfl⟩) (.inr ?_) (.inl ⟨rfl, rfl⟩) (.inl ⟨rfl, rfl⟩) (.inl ⟨rfl, rfl⟩) (.inl ⟨rfl, rfl⟩) (.inl ⟨rfl, rfl⟩) (.inl ⟨rfl, rfl⟩)
  rw [gF_sF, if_pos rfl, up_at, hS.2.2.1, nI_1]
section TX
variable {K : Int32 → Int32 → (Nat → Int32) → Prop} {B : Int32} {f : Nat → Int32} {x : List Nat}
theorem xF_field {t v : Nat} (ht : t < 10000000) (hv : v < 10000000) (hi : (x ++ fld t v).length ≤ 116) (h : K (nI (4 + (x ++ fld t v).length)) B (wr f 0 (ltr 8 70 ++ (x ++ fld t v)))) : w_F_field (nI (4 + x.length)) B (wr f 0 (ltr 8 70 ++ x)) (nI t) (nI v) K := by
  rw [List.length_append] at hi h
  refine rF_field ht hv (by omega) ?_
  rw [wr_app' (by rw [List.length_append, Nat.zero_add]; rfl), List.append_assoc, Nat.add_assoc]
  exact h
theorem xF_letter {t c : Nat} (ht : t < 10000000) (hc : c < 128) (hi : (x ++ ltr t c).length ≤ 116) (h : K (nI (4 + (x ++ ltr t c).length)) B (wr f 0 (ltr 8 70 ++ (x ++ ltr t c)))) : w_F_letter (nI (4 + x.length)) B (wr f 0 (ltr 8 70 ++ x)) (nI t) (nI c) K := by
  rw [List.length_append] at hi h
  refine rF_letter ht hc (by omega) ?_
  rw [wr_app' (by rw [List.length_append, Nat.zero_add]; rfl), List.append_assoc, Nat.add_assoc]
  exact h
end TX
section TE
variable {r1 : List AE} {a : Nat} {L0 B0 : Int32} {f0 : Nat → Int32}
theorem rT_75 {K : XS → List AE → Prop} {S : XS} {bd : List Nat} {f : Nat → Int32} (h1 : rl r1 a = some (xO 1 [.ref (a + 1), .int L0, .int B0])) (h2 : rl r1 (a + 1) = some (xI 1 120 f0)) (hb : ∀ x ∈ bd, x < 128) (hl : 1 ≤ bd.length ∧ bd.length ≤ 99) (hf : xrow (ltr 8 70 ++ bd) f) (h : ∀ f', xrow (frm bd) f' → K (sF S 7 (gF S 7 + 1)) (rF r1 a (a + 1) (nI (frm bd).length) (nI 4) f')) : w_T_send_75 K S (rF r1 a (a + 1) (nI (4 + bd.length)) (nI 4) f) a := by
  refine ⟨a + 1, nI (4 + bd.length), nI 4, f, ⟨rl_rF_a h1 h2, rl_rF_g h1 h2⟩, rF_end hb hl hf (fun f' hf' => ?_)⟩
  rw [rF_rF (by omega) (rl_ge h1).1 (rl_ge h2).1]
  exact h f' hf'
end TE
theorem frm_le {bd : List Nat} (hl : bd.length ≤ 99) : (frm bd).length ≤ 120 := by
  rw [frm_len]
  have : plc bd.length ≤ 2 := by unfold plc; (repeat' split) <;> omega
  omega
/-- what stands behind the head of a message of the type p1 -/
def TB (p1 : Nat) (p2 p3 : Int32) (bl : List Nat) : Prop := (p1 = 5 ∧ bl = []) ∨ (p1 = 3 ∧ ∃ a b, p2 = nI a ∧ p3 = nI b ∧ a < 1000000 ∧ b < 1000000 ∧ bl = fld 7 a ++ fld 16 b) ∨ ((p1 = 1 ∨ p1 = 2 ∨ p1 = 6) ∧ ((p2 = -1 ∧ bl = []) ∨ ∃ a, p2 = nI a ∧ a < 1000000 ∧ bl = fld (if p1 = 6 then 108 else 112) a))
def tkind (p1 : Nat) : Nat := if p1 = 1 then 48 else if p1 = 2 then 49 else if p1 = 3 then 50 else if p1 = 4 then 52 else if p1 = 5 then 53 else if p1 = 6 then 65 else if p1 = 7 then 68 else if p1 = 8 then 70 else if p1 = 9 then 71 else 56
theorem tkind_x {p1 : Nat} (h : 1 ≤ p1 ∧ p1 ≤ 10) : xcf 0 p1 = nI (tkind p1) := by
  have : p1 = 1 ∨ p1 = 2 ∨ p1 = 3 ∨ p1 = 4 ∨ p1 = 5 ∨ p1 = 6 ∨ p1 = 7 ∨ p1 = 8 ∨ p1 = 9 ∨ p1 = 10 := by omega
  rcases this with rfl | rfl | rfl | rfl | rfl | rfl | rfl | rfl | rfl | rfl <;> rfl
theorem tkind_b (p1 : Nat) : tkind p1 < 128 := by unfold tkind; (repeat' split) <;> omega
theorem TB_b {p1 : Nat} {p2 p3 : Int32} {bl : List Nat} (h : TB p1 p2 p3 bl) : (∀ x ∈ bl, x < 128) ∧ bl.length ≤ 20 ∧ 1 ≤ p1 ∧ p1 ≤ 6 ∧ p1 ≠ 4 := by
  rcases h with ⟨rfl, rfl⟩ | ⟨rfl, a, b, -, -, ha, hb, rfl⟩ | ⟨hp, ⟨-, rfl⟩ | ⟨a, -, ha, rfl⟩⟩
  · exact ⟨(fun x hx => by cases hx), by decide, by decide, by decide, by decide⟩
  · refine ⟨mem_app (fld_b _ _) (fld_b _ _), ?_, by decide, by decide, by decide⟩
    have h1 := plc_small ha
    have h2 := plc_small hb
    rw [List.length_append, fld_len, fld_len]
    show 1 + _ + 2 + (2 + _ + 2) ≤ _
    omega
  · exact ⟨(fun x hx => by cases hx), by decide, by omega, by omega, by omega⟩
  · refine ⟨fld_b _ _, ?_, by omega, by omega, by omega⟩
    have h1 := plc_small ha
    rw [fld_len]
    have : plc (if p1 = 6 then 108 else 112) = 3 := by split <;> rfl
    omega
section TSN
variable {K : XS → List AE → Prop} {S : XS} {r : List AE} {c : Nat → Nat} {fr : List (List Nat)} {rp od : List RP} {us : List Nat} {q : Nat}
theorem rT_send {p1 : Nat} {p2 p3 : Int32} {bl : List Nat} (hT : TT c fr rp od us q S r) (h0 : c 0 = 1) (hc : c 2 < 1000000) (hq : q ≤ 5000) (hfr : fr.length < 999999) (hB : TB p1 p2 p3 bl) (h : ∀ S' r', TT (up (up c 6 (c 4)) 2 (c 2 + 1)) (fr ++ [frm (hdr (tkind p1) (c 2) false ++ bl)]) rp od us q S' r' → kT S S' → K S' r') : w_T_send S r p1 p2 p3 K := by
  obtain ⟨hb1, hb2, hp1, hp6, hp4⟩ := TB_b hB
  refine ⟨fun _ => ?_, fun e => ?_⟩
  · refine rT_out hT hq hfr (fun a S1 r1 L B f a1 a2 hS1 hk hm hcom => ?_)
    refine ⟨⟨hp1, by omega⟩, a + 1, L, B, f, ⟨a1, a2⟩, ?_⟩
    have e7 : gF S1 7 = nI (c 2) := hS1.2.2.1
    rw [tkind_x ⟨hp1, by omega⟩, e7]
    have hh := @hdr_le (tkind p1) (c 2) false
    have hhb := @hdr_b (tkind p1) (c 2) false (tkind_b p1)
    have hl5 := hdr_len (tkind p1) (c 2) false
    have fin : ∀ bl', bl' = bl → w_T_send_75 K S1 (rF r1 a (a + 1) (nI (4 + (hdr (tkind p1) (c 2) false ++ bl').length)) (nI 4) (wr f 0 (ltr 8 70 ++ (hdr (tkind p1) (c 2) false ++ bl')))) a := by
      rintro _ rfl
      refine rT_75 a1 a2 (mem_app hhb hb1) (by rw [List.length_append]; omega) (xrow_wr0 _ _) (fun f' hf' => ?_)
      refine h _ _ ?_ (hk.trans (kT_sF (by decide)))
      exact TT_next (hcom _ _ _ _ (frm_le (by rw [List.length_append]; omega)) rfl hf')
    refine rF_begin (dup := false) (tkind_b p1) (by omega) ?_
    have e0 : wr f 0 (ltr 8 70 ++ hdr (tkind p1) (c 2) false) = wr f 0 (ltr 8 70 ++ (hdr (tkind p1) (c 2) false ++ [])) := by rw [List.append_nil]
    have e1 : (hdr (tkind p1) (c 2) false).length = (hdr (tkind p1) (c 2) false ++ []).length := by rw [List.append_nil]
    refine ⟨by omega, fun d1 => ⟨by omega, fun d2 => ?_, fun d2 => ⟨fun d3 => ?_, fun d3 => ⟨⟨hp1, by omega⟩, ?_⟩⟩⟩, fun d1 => ?_⟩
    · rcases hB with ⟨-, rfl⟩ | ⟨hx, -⟩ | ⟨hx, -⟩
      · have := fin [] rfl
        rw [e0, e1]
        exact this
      · omega
      · omega
    · rcases hB with ⟨hx, -⟩ | ⟨hx, -⟩ | ⟨hx, ⟨-, rfl⟩ | ⟨x, rfl, hx2, -⟩⟩
      · omega
      · omega
      · rw [e0, e1]
        exact fin [] rfl
      · exact absurd d3 (nI_pos (by omega))
    · rcases hB with ⟨hx, -⟩ | ⟨hx, -⟩ | ⟨hx, ⟨rfl, -⟩ | ⟨x, rfl, hx2, hbl⟩⟩
      · omega
      · omega
      · exact absurd (by decide) d3
      · have ex : xcf 1 p1 = nI (if p1 = 6 then 108 else 112) := by rcases hx with rfl | rfl | rfl <;> rfl
        rw [ex]
        have hlt : (if p1 = 6 then 108 else 112) < 10000000 := by split <;> omega
        subst hbl
        refine xF_field hlt (by omega) (by rw [List.length_append]; omega) ?_
        exact fin _ rfl
    · rcases hB with ⟨hx, -⟩ | ⟨-, x, y, rfl, rfl, hx, hy, rfl⟩ | ⟨hx, -⟩
      · omega
      · rw [List.length_append] at hb2
        refine xF_field (t := 7) (by decide) (by omega) (by rw [List.length_append]; omega) (xF_field (t := 16) (by decide) (by omega) (by rw [List.length_append, List.length_append]; omega) ?_)
        rw [List.append_assoc]
        exact fin _ rfl
      · omega
  · rw [hT.1.1, h0] at e
    exact absurd e (by decide)
/-- one frame with this inner part -/
theorem rT_fillUp {a b : Nat} (hT : TT c fr rp od us q S r) (ha : a < 1000000) (hb : b < 1000000) (hq : q ≤ 5000) (hfr : fr.length < 999999) (h : ∀ S' r', TT (sdc c (fup a b)) (fr ++ fup a b) rp od us q S' r' → kT S S' → k45 r r' → K S' r') : w_T_fillUp S r (nI a) (nI b) K := by
  refine ⟨fun e => ?_, fun e => ?_⟩
  · rw [nI_leI (by omega) (by omega)] at e
    rw [fup_no e, sdc_nil, List.append_nil] at h
    exact h S r hT (kT.refl S) (fun p e hp _ => hp)
  · rw [nI_leI (by omega) (by omega)] at e
    have ef : fup a b = [frm (hdr 52 a true ++ (fld 36 b ++ ltr 123 89))] := if_pos (by omega)
    rw [ef, sdc_cons] at h
    refine rT_out hT hq hfr (fun x S1 r1 L B f a1 a2 hS1 hk hm hcom => ?_)
    refine ⟨x + 1, L, B, f, ⟨a1, a2⟩, ?_⟩
    have hh := @hdr_le 52 a true
    have hl := @gap_len a b hb
    rw [← List.append_assoc] at hl
    have hl2 : (hdr 52 a true ++ fld 36 b).length ≤ 99 := by
      rw [List.length_append] at hl
      omega
    refine rF_begin (kind := 52) (dup := true) (by decide) (by omega) (xF_field (t := 36) (by decide) (by omega) (by omega) (xF_letter (t := 123) (c := 89) (by decide) (by decide) (by omega) ?_))
    refine rF_end (by rw [List.append_assoc]; exact gap_b) ⟨?_, hl⟩ (xrow_wr0 _ _) (fun f' hf' => ?_)
    · rw [List.length_append, List.length_append, ltr_len]
      omega
    · rw [List.append_assoc] at hf' hl ⊢
      refine h S1 _ (hcom _ _ _ _ (frm_le hl) rfl hf') hk (fun p e hp ht => ?_)
      rw [rl_rF_ne (rl_ge a1).1 (rl_ge a2).1 (tn45 1 (hm p e hp ht) a1 ht rfl (by decide)) (tn45 100 (hm p e hp ht) a2 ht rfl (by decide))]
      exact hm p e hp ht
theorem rT_put {x : RP} {p1 nxt : Nat} (dup : Bool) (hT : TT c fr rp od us q S r) (hp1 : rl r p1 = some (rcell x nxt)) (hx0 : x.1 < 1000000) (hx : x.2.1 < 1000000 ∧ x.2.2.1 < 128 ∧ x.2.2.2.1 < 1000000 ∧ x.2.2.2.2 < 1000000) (hq : q ≤ 5000) (hfr : fr.length < 999999) (h : ∀ S' r', TT (up c 6 (c 4)) (fr ++ [rfr x dup]) rp od us q S' r' → kT S S' → k45 r r' → K S' r') : w_T_put S r p1 (if dup then 1 else 0) K := by
  refine rT_out hT hq hfr (fun a S1 r1 L B f a1 a2 hS1 hk hm hcom => ?_)
  have hm1 := hm p1 _ hp1 (Or.inl rfl)
  have hm2 : ∀ (p : Nat) (e : AE), rl r p = some e → (tg e = 5 ∨ tg e = 4) → ∀ L B f, rl (rF r1 a (a + 1) L B f) p = some e := fun p e hp ht L B f => by
    rw [rl_rF_ne (rl_ge a1).1 (rl_ge a2).1 (tn45 1 (hm p e hp ht) a1 ht rfl (by decide)) (tn45 100 (hm p e hp ht) a2 ht rfl (by decide))]
    exact hm p e hp ht
  have hh := @hdr_le 56 x.1 dup
  have hl := rfr_len (dup := dup) hx
  have hbb := rfr_b (x := x) (dup := dup) hx.2.1
  have el : hdr 56 x.1 dup ++ repb x = hdr 56 x.1 dup ++ fld 11 x.2.1 ++ ltr 39 x.2.2.1 ++ fld 14 x.2.2.2.1 ++ fld 151 x.2.2.2.2 := by simp only [repb, List.append_assoc]
  unfold rfr at h
  rw [el] at h hl hbb
  have l4 : (hdr 56 x.1 dup ++ fld 11 x.2.1 ++ ltr 39 x.2.2.1 ++ fld 14 x.2.2.2.1).length ≤ 99 := by rw [List.length_append] at hl; omega
  have l3 : (hdr 56 x.1 dup ++ fld 11 x.2.1 ++ ltr 39 x.2.2.1).length ≤ 99 := by rw [List.length_append] at l4; omega
  have l2 : (hdr 56 x.1 dup ++ fld 11 x.2.1).length ≤ 99 := by rw [List.length_append] at l3; omega
  refine ⟨_, _, _, _, _, _, hm1, a + 1, L, B, f, ⟨a1, a2⟩, ?_⟩
  refine rF_begin (kind := 56) (dup := dup) (by decide) (by omega) ?_
  refine ⟨_, _, _, _, _, _, hm2 _ _ hp1 (Or.inl rfl) _ _ _, xF_field (t := 11) (by decide) (by omega) (by omega) ?_⟩
  refine ⟨_, _, _, _, _, _, hm2 _ _ hp1 (Or.inl rfl) _ _ _, xF_letter (t := 39) (by decide) hx.2.1 (by omega) ?_⟩
  refine ⟨_, _, _, _, _, _, hm2 _ _ hp1 (Or.inl rfl) _ _ _, xF_field (t := 14) (by decide) (by omega) (by omega) ?_⟩
  refine ⟨_, _, _, _, _, _, hm2 _ _ hp1 (Or.inl rfl) _ _ _, xF_field (t := 151) (by decide) (by omega) (by omega) ?_⟩
  refine rF_end hbb ⟨?_, hl⟩ (xrow_wr0 _ _) (fun f' hf' => ?_)
  · rw [List.length_append, fld_len]
    omega
  · exact h S1 _ (hcom _ _ _ _ (frm_le hl) rfl hf') hk (fun p e hp ht => hm2 p e hp ht _ _ _)
end TSN
