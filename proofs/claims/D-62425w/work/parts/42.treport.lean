/-! ===== the component: reports, what is sent again ===== -/
theorem char_ok : ∀ p : Nat, p < 128 → narrow .char (.int (nI p)) = .int (nI p) ∧ fits .char (.int (nI p)) = true := by
  intro p hp
  have h1 : ∀ p : Nat, p < 128 → ((nI p).toUInt32.toUInt16.toUInt32.toInt32) = nI p := by decide +kernel
  have h2 : narrow .char (.int (nI p)) = .int (nI p) := by
    show Value.int ((nI p).toUInt32.toUInt16.toUInt32.toInt32) = _
    rw [h1 p hp]
  refine ⟨h2, ?_⟩
  have h3 : ∀ p : Nat, p < 128 → fits .char (.int (nI p)) = true := by decide +kernel
  exact h3 p hp
theorem rset_new (r : List AE) (e e' : AE) : rset (r ++ [e]) (40 + r.length) e' = r ++ [e'] := by
  unfold rset
  rw [show 40 + r.length - 40 = r.length by omega, List.set_append_right _ _ (Nat.le_refl _), Nat.sub_self]
  rfl
theorem up_comm (c : Nat → Nat) {j k : Nat} (x y : Nat) (h : j ≠ k) : up (up c j x) k y = up (up c k y) j x := by
  funext i
  unfold up
  split <;> split <;> first | rfl | omega
theorem rp_l {rp : List RP} {x : RP} {k : Nat} (h : k < rp.length) : (rp ++ [x]).getD k oz = rp.getD k oz := by
  rw [List.getD_eq_getElem?_getD, List.getD_eq_getElem?_getD, List.getElem?_append_left h]
theorem rp_r {rp : List RP} {x : RP} : (rp ++ [x]).getD rp.length oz = x := by
  rw [List.getD_eq_getElem?_getD, List.getElem?_append_right (Nat.le_refl _), Nat.sub_self]
  rfl
theorem TFr.grow {fr : List (List Nat)} {q : Nat} {S : XS} {r r' : List AE} (h : TFr fr q S r) (hm : ∀ p e, rl r p = some e → (tg e = 1 ∨ tg e = 100) → rl r' p = some e) (hl : r'.length ≤ r.length + 1) (hz : hsz r' ≤ hsz r + 6) : TFr fr (q + 1) S r' := by
  obtain ⟨h0, h1, na, fa, a1, a2, a3, a4, a5, a6, a7⟩ := h
  refine ⟨h0, h1, na, fa, a1, a2, fun k hk => ?_, a4, a5, by omega, by omega⟩
  obtain ⟨L, B, f, b1, b2, b3⟩ := a3 k hk
  exact ⟨L, B, f, hm _ _ b1 (Or.inl rfl), hm _ _ b2 (Or.inr rfl), b3⟩
def kO (r r' : List AE) : Prop := ∀ p e, rl r p = some e → tg e = 4 → rl r' p = some e
section TRP
variable {K : XS → List AE → Prop} {S : XS} {r : List AE} {c : Nat → Nat} {fr : List (List Nat)} {rp od : List RP} {us : List Nat} {q : Nat}
theorem TT_bud (h : TT c fr rp od us q S r) (hq : q ≤ 5000) : bud r := by
  obtain ⟨-, ⟨-, -, na, fa, hF⟩, -⟩ := h
  exact bud_q hF hq
theorem rT_rep68 {S0 : XS} {x : RP} {a : Nat} (hT : TT (up c 2 (c 2 + 1)) fr rp od us q (sF (sR S 14 a) 7 (gF S 7 + 1)) r) (hk0 : kT S0 S) (h01 : c 0 ≤ 1) (hc : gF S 5 = nI (c 0)) (hq : q ≤ 5000) (hfr : fr.length < 999999) (hx1 : x.1 = c 2) (hx0 : x.1 < 1000000) (hx : x.2.1 < 1000000 ∧ x.2.2.1 < 128 ∧ x.2.2.2.1 < 1000000 ∧ x.2.2.2.2 < 1000000) (ha : rl r a = some (rcell x 0)) (h : ∀ S' r', TT (if c 0 = 1 then up (up c 6 (c 4)) 2 (c 2 + 1) else up c 2 (c 2 + 1)) (if c 0 = 1 then fr ++ [frm (hdr 56 (c 2) false ++ repb x)] else fr) rp od us q S' r' → kT S0 S' → kO r r' → K S' r') : w_T_report_68 K S r a := by
  have hk1 : kT S0 (sF (sR S 14 a) 7 (gF S 7 + 1)) := (hk0.trans (kT_sR (by omega))).trans (kT_sF (by decide))
  refine ⟨fun e => ?_, fun e => ?_⟩
  · rw [hc, li_0, nI_eq (by omega) (by omega)] at e
    rw [if_neg (by omega), if_neg (by omega)] at h
    exact h _ _ hT hk1 (fun p e hp _ => hp)
  · rw [hc, li_0, nI_eq (by omega) (by omega)] at e
    rw [if_pos (by omega), if_pos (by omega)] at h
    refine rT_put (x := x) false hT ha hx0 hx hq hfr (fun S' r' h1 h2 h3 => h S' r' ?_ (hk1.trans h2) (fun p e hp ht => h3 p e hp (Or.inr ht)))
    have e4 : up c 2 (c 2 + 1) 4 = c 4 := up_ne _ _ (by decide)
    have e5 : rfr x false = frm (hdr 56 (c 2) false ++ repb x) := by unfold rfr; rw [hx1]
    rw [e4, e5] at h1
    rw [up_comm c (j := 6) (k := 2) _ _ (by decide)]
    exact h1
theorem rT_report {id st fi le : Nat} (hT : TT c fr rp od us q S r) (h01 : c 0 ≤ 1) (hc : c 2 < 1000000) (hq : q + 1 ≤ 5000) (hfr : fr.length < 999999) (hx : id < 1000000 ∧ st < 128 ∧ fi < 1000000 ∧ le < 1000000) (h : ∀ S' r', TT (if c 0 = 1 then up (up c 6 (c 4)) 2 (c 2 + 1) else up c 2 (c 2 + 1)) (if c 0 = 1 then fr ++ [frm (hdr 56 (c 2) false ++ repb (c 2, id, st, fi, le))] else fr) (rp ++ [(c 2, id, st, fi, le)]) od us (q + 1) S' r' → kT S S' → kO r r' → K S' r') : w_T_report S r (nI id) (nI st) (nI fi) (nI le) K := by
  obtain ⟨hS, hF, ⟨ra, hR1, hR2, hR3, hR4⟩, hD, hU⟩ := hT
  have hbud : bud r := TT_bud ⟨hS, hF, ⟨ra, hR1, hR2, hR3, hR4⟩, hD, hU⟩ (by omega)
  unfold w_T_report
  rw [rset_new, hS.2.2.1]
  refine ⟨hbud, char_ok st hx.2.1, fun e => ?_, fun e => ?_⟩
  · have hn : rp.length ≠ 0 := by
      intro h0
      rw [hR4, if_pos h0] at e
      exact e rfl
    rw [hR4, if_neg hn]
    have hlast := hR1 (rp.length - 1) (by omega)
    rw [if_neg (by omega)] at hlast
    have hlast2 := rl_app (q := [xO 5 [.int (nI (c 2)), .int (nI id), .int (nI st), .int (nI fi), .int (nI le), .ref 0]]) hlast
    refine ⟨_, _, _, _, _, _, hlast2, ?_⟩
    have g1 := rl_ge hlast
    generalize hr' : rset (r ++ [xO 5 [.int (nI (c 2)), .int (nI id), .int (nI st), .int (nI fi), .int (nI le), .ref 0]]) (ra (rp.length - 1)) _ = r'
    have hot : ∀ p e, rl r p = some e → p ≠ ra (rp.length - 1) → rl r' p = some e := by
      intro p e hp hne
      subst hr'
      rw [rl_set_ne (Ne.symm hne) g1.1]
      exact rl_app hp
    have hnew : rl r' (40 + r.length) = some (rcell (c 2, id, st, fi, le) 0) := by
      subst hr'
      rw [rl_set_ne (by omega) g1.1]
      exact rl_new _ _
    have hup : rl r' (ra (rp.length - 1)) = some (rcell (rp.getD (rp.length - 1) oz) (40 + r.length)) := by
      subst hr'
      exact rl_rset hlast2 _
    have hlen : r'.length ≤ r.length + 1 := by
      subst hr'
      unfold rset
      rw [List.length_set, List.length_append]
      exact Nat.le_refl _
    have hhz : hsz r' ≤ hsz r + 6 := by
      subst hr'
      have hz2 := rset_hsz (e := rcell (rp.getD (rp.length - 1) oz) (40 + r.length)) hlast2 rfl
      rw [hsz_app] at hz2
      exact Nat.le_of_eq hz2
    refine rT_rep68 (S0 := S) (x := (c 2, id, st, fi, le)) (c := c) (fr := fr) (rp := rp ++ [(c 2, id, st, fi, le)]) (od := od) (us := us) (q := q + 1) (a := 40 + r.length) ?_ (kT.refl S) h01 hS.1 hq hfr rfl hc hx hnew (fun S' r'' z1 z2 z3 => h S' r'' z1 z2 (fun p e hp ht => z3 p e (hot p e hp (tn 4 5 hp hlast ht rfl (by decide))) ht))
    refine TT_next (S := sR S 14 (40 + r.length)) ⟨hS, TFr.same (S := S) (hF.grow (fun p e hp ht => hot p e hp ?_) hlen hhz) rfl rfl, ⟨va_up ra rp.length (40 + r.length), fun i hi => ?_, fun i j hi hj => ?_, ?_, ?_⟩, TD.same (S := S) (hD.mem (fun p e hp ht => hot p e hp (tn 4 5 hp hlast ht rfl (by decide)))) rfl rfl, hU.same rfl rfl⟩
    · rcases ht with ht | ht
      · exact tn 1 5 hp hlast ht rfl (by decide)
      · exact tn 100 5 hp hlast ht rfl (by decide)
    · rw [List.length_append] at hi
      have hi2 : i < rp.length + 1 := hi
      rw [List.length_append, show [(c 2, id, st, fi, le)].length = 1 from rfl]
      by_cases e1 : i = rp.length
      · subst e1
        rw [va_up_self, rp_r, if_neg (by omega)]
        exact hnew
      · rw [va_up_ne _ _ e1, rp_l (by omega), if_pos (by omega)]
        by_cases e2 : i + 1 = rp.length
        · rw [e2, va_up_self]
          have e3 : i = rp.length - 1 := by omega
          rw [e3]
          exact hup
        · rw [va_up_ne _ _ e2]
          have h6 := hR1 i (by omega)
          rw [if_pos (by omega)] at h6
          refine hot _ _ h6 ?_
          have := hR2 i (rp.length - 1) (by omega) (by omega)
          omega
    · rw [List.length_append] at hj
      have hj2 : j < rp.length + 1 := hj
      rw [va_up_ne _ _ (show i ≠ rp.length by omega)]
      have h6 := rl_ge (hR1 i (by omega))
      by_cases e1 : j = rp.length
      · rw [e1, va_up_self]
        omega
      · rw [va_up_ne _ _ e1]
        exact hR2 i j hi (by omega)
    · rw [List.length_append, if_neg (by simp), va_up_ne _ _ (by omega), gR_sR, if_neg (by decide), hR3, if_neg hn]
    · rw [List.length_append, if_neg (by simp), show [(c 2, id, st, fi, le)].length = 1 from rfl, Nat.add_sub_cancel, va_up_self, gR_sR, if_pos rfl]
  · have hn : rp = [] := by
      cases rp with
      | nil => rfl
      | cons y ys =>
        rw [hR4, if_neg (by simp)] at e
        have := rl_ge (hR1 ((y :: ys).length - 1) (by simp))
        omega
    subst hn
    have hnew : rl (r ++ [xO 5 [.int (nI (c 2)), .int (nI id), .int (nI st), .int (nI fi), .int (nI le), .ref 0]]) (40 + r.length) = some (rcell (c 2, id, st, fi, le) 0) := rl_new _ _
    refine rT_rep68 (S0 := S) (S := sR S 13 (40 + r.length)) (x := (c 2, id, st, fi, le)) (c := c) (fr := fr) (rp := [(c 2, id, st, fi, le)]) (od := od) (us := us) (q := q + 1) (a := 40 + r.length) ?_ (kT_sR (Or.inl rfl)) h01 hS.1 hq hfr rfl hc hx hnew (fun S' r'' z1 z2 z3 => h S' r'' z1 z2 (fun p e hp ht => z3 p e (rl_app hp) ht))
    refine TT_next (S := sR (sR S 13 (40 + r.length)) 14 (40 + r.length)) ⟨hS, TFr.same (S := S) (hF.grow (fun p e hp ht => rl_app hp) (by rw [List.length_append]; exact Nat.le_refl _) (by rw [hsz_app]; exact Nat.le_refl _)) rfl rfl, ⟨fun _ => 40 + r.length, fun i hi => ?_, fun i j hi hj => ?_, ?_, ?_⟩, TD.same (S := S) (hD.mem (fun p e hp ht => rl_app hp)) rfl rfl, hU.same rfl rfl⟩
    · have hi2 : i < 1 := hi
      obtain rfl : i = 0 := by omega
      exact hnew
    · have hj2 : j < 1 := hj
      omega
    · rfl
    · rfl
theorem rT_ans36 {e n : Nat} {ra : Nat → Nat} (hn : n = rp.length) (hr : ∀ x ∈ rp, x.1 < 1000000 ∧ x.2.1 < 1000000 ∧ x.2.2.1 < 128 ∧ x.2.2.2.1 < 1000000 ∧ x.2.2.2.2 < 1000000) (he : e < 999999) (hq : q ≤ 5000) (hpos : ∀ i < n, ra i ≠ 0) : ∀ (g i at_ : Nat) (S : XS) (r : List AE) (c : Nat → Nat) (fr : List (List Nat)), i ≤ n → n - i < g → TT c fr rp od us q S r → (∀ i < n, rl r (ra i) = some (rcell (rp.getD i oz) (if i + 1 < n then ra (i + 1) else 0))) → at_ < 1000000 → fr.length + 2 * (n - i) + 1 < 999999 → (∀ S' r', TT (sdc c (ago e (rp.drop i) at_)) (fr ++ ago e (rp.drop i) at_) rp od us q S' r' → kT S S' → K S' r') → w_T_answer_36 K g S r (nI at_) (nI e) (if i < n then ra i else 0)
  | 0, i, at_, S, r, c, fr, h1, h2, hT, hra, hat, hfr, h => absurd h2 (by omega)
  | g + 1, i, at_, S, r, c, fr, h1, h2, hT, hra, hat, hfr, h => by
    have hend : ago e (rp.drop i) at_ = fup at_ (e + 1) → w_T_answer_95 K S r (nI at_) (nI e) := by
      intro ea
      rw [ea] at h
      show w_T_fillUp S r (nI at_) (nI e + 1) _
      rw [nI_1]
      exact rT_fillUp hT hat (by omega) hq (by omega) (fun S' r' b1 b2 _ => h S' r' b1 b2)
    by_cases hi : i < n
    · rw [if_pos hi]
      have hdr : rp.drop i = rp.getD i oz :: rp.drop (i + 1) := by
        rw [List.drop_eq_getElem_cons (by omega), List.getD_eq_getElem?_getD, List.getElem?_eq_getElem (by omega)]
        rfl
      have hmem : rp.getD i oz ∈ rp := by
        rw [List.getD_eq_getElem?_getD, List.getElem?_eq_getElem (by omega)]
        exact List.getElem_mem _
      have hcell := hra i hi
      generalize hx : rp.getD i oz = x at *
      obtain ⟨x0, xr⟩ := hr x hmem
      refine ⟨fun e1 => absurd e1 (hpos i hi), fun _ => ⟨_, _, _, _, _, _, hcell, fun e1 => ?_, fun e1 => ⟨fun e2 => ?_, fun e2 => ?_⟩⟩⟩
      · rw [nI_ltI (by omega) (by omega)] at e1
        refine hend ?_
        rw [hdr]
        unfold ago
        rw [if_neg (by omega)]
      · rw [nI_ltI (by omega) (by omega)] at e1 e2
        refine ⟨_, _, _, _, _, _, hcell, ?_⟩
        have e3 : ago e (rp.drop i) at_ = ago e (rp.drop (i + 1)) at_ := by
          rw [hdr]
          show (if x.1 ≤ e then (if at_ ≤ x.1 then _ else _) else _) = _
          rw [if_pos (by omega), if_neg (by omega)]
        rw [e3] at h
        exact rT_ans36 hn hr he hq hpos g (i + 1) at_ S r c fr (by omega) (by omega) hT hra hat (by omega) h
      · rw [nI_ltI (by omega) (by omega)] at e1 e2
        have e3 : ago e (rp.drop i) at_ = fup at_ x.1 ++ rfr x true :: ago e (rp.drop (i + 1)) (x.1 + 1) := by
          rw [hdr]
          show (if x.1 ≤ e then (if at_ ≤ x.1 then _ else _) else _) = _
          rw [if_pos (by omega), if_pos (by omega)]
        have hfl : (fup at_ x.1).length ≤ 1 := by unfold fup; split <;> simp
        refine rT_fillUp hT hat x0 hq (by omega) (fun S1 r1 b1 b2 b3 => ?_)
        refine rT_put (x := x) true b1 (b3 _ _ hcell (Or.inl rfl)) x0 xr hq (by rw [List.length_append]; omega) (fun S2 r2 d1 d2 d3 => ?_)
        have hc2 := d3 _ _ (b3 _ _ hcell (Or.inl rfl)) (Or.inl rfl)
        refine ⟨_, _, _, _, _, _, hc2, _, _, _, _, _, _, hc2, ?_⟩
        rw [nI_1]
        refine rT_ans36 hn hr he hq hpos g (i + 1) (x.1 + 1) S2 r2 _ _ (by omega) (by omega) d1 (fun j hj => d3 _ _ (b3 _ _ (hra j hj) (Or.inl rfl)) (Or.inl rfl)) (by omega) (by simp only [List.length_append]; show _ + _ + 1 + _ + 1 < _; omega) (fun S' r' f1 f2 => ?_)
        refine h S' r' ?_ ((b2.trans d2).trans f2)
        rw [e3]
        have e5 : up (sdc c (fup at_ x.1)) 6 (sdc c (fup at_ x.1) 4) = sdc (sdc c (fup at_ x.1)) [rfr x true] := (sdc_cons _ _ _).symm
        rw [e5, sdc_app, sdc_app] at f1
        simp only [List.append_assoc, List.cons_append, List.nil_append] at f1 ⊢
        exact f1
    · rw [if_neg hi]
      refine ⟨fun _ => hend ?_, fun e1 => absurd rfl e1⟩
      rw [List.drop_of_length_le (by omega)]
      rfl
theorem rT_answer {b e : Nat} (hT : TT c fr rp od us q S r) (hr : rok rp (c 2)) (hx : c 2 ≤ 1600) (h1 : 1 ≤ c 2) (hb : b < 1000000) (he : e < 1000000) (hq : q ≤ 5000) (hfr : fr.length + 2 * rp.length + 1 < 999999) (h : ∀ S' r', TT (sdc c (ans (c 2) rp b e)) (fr ++ ans (c 2) rp b e) rp od us q S' r' → kT S S' → K S' r') : w_T_answer S r (nI b) (nI e) K := by
  have e7 : gF S 7 = nI (c 2) := hT.1.2.2.1
  have eb : (if nI b < (1 : Int32) then (1 : Int32) else nI b) = nI (if b < 1 then 1 else b) := by
    by_cases q : b < 1
    · rw [if_pos q, if_pos (by rw [li_1]; exact nI_lt q (by omega))]
      rfl
    · rw [if_neg q, if_neg (by rw [li_1]; exact nI_nlt (by omega) (by omega))]
  have go : ∀ x : Nat, x = lst' (c 2) e → w_T_answer_30 K S r (nI (if b < 1 then 1 else b)) (nI x) := by
    rintro x rfl
    have hlt : lst' (c 2) e < c 2 := by unfold lst'; split <;> omega
    obtain ⟨hS, hF, ⟨ra, hR1, hR2, hR3, hR4⟩, hD, hU⟩ := hT
    refine ⟨rp.length + 1, ?_⟩
    have e13 : gR S 13 = if 0 < rp.length then ra 0 else 0 := by
      rw [hR3]
      by_cases q : rp.length = 0
      · rw [if_pos q, if_neg (by omega)]
      · rw [if_neg q, if_pos (by omega)]
    rw [e13]
    refine rT_ans36 (ra := ra) rfl (fun y hy => ?_) (by omega) hq (fun i hi => ?_) (rp.length + 1) 0 (if b < 1 then 1 else b) S r c fr (Nat.zero_le _) (by omega) ⟨hS, hF, ⟨ra, hR1, hR2, hR3, hR4⟩, hD, hU⟩ hR1 (by split <;> omega) (by omega) h
    · obtain ⟨y1, y2, y3⟩ := hr.1 y hy
      exact ⟨by omega, y3⟩
    · have := rl_ge (hR1 i hi)
      omega
  unfold w_T_answer
  rw [eb]
  refine ⟨fun c1 => ?_, fun c1 => ⟨fun c2 => ?_, fun c2 => ?_⟩⟩
  · rw [li_0, nI_eq (by omega) (by omega)] at c1
    show w_T_answer_30 K S r _ (gF S 7 - 1)
    rw [e7, li_1, nI_sub h1]
    exact go _ (by unfold lst'; rw [if_pos (Or.inl c1)])
  · rw [li_0, nI_eq (by omega) (by omega)] at c1
    rw [e7, nI_ltI (by omega) (by omega)] at c2
    exact go _ (by unfold lst'; rw [if_neg (by omega)])
  · rw [e7, nI_ltI (by omega) (by omega)] at c2
    show w_T_answer_30 K S r _ (gF S 7 - 1)
    rw [e7, li_1, nI_sub h1]
    exact go _ (by unfold lst'; rw [if_pos (Or.inr (by omega))])
end TRP
