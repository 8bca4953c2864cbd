/-! ===== give: the model, and both ===== -/
theorem isT_no {p1 : Int32} {K : Int32 → Prop} (h : ∀ t ∈ mkinds, p1 ≠ nI t) (k : K 0) : w_M_isType p1 K :=
  ⟨fun e => absurd e (h 48 (by decide)), fun _ => ⟨fun e => absurd e (h 49 (by decide)), fun _ => ⟨fun e => absurd e (h 50 (by decide)), fun _ => ⟨fun e => absurd e (h 52 (by decide)), fun _ => ⟨fun e => absurd e (h 53 (by decide)), fun _ => ⟨fun e => absurd e (h 65 (by decide)), fun _ => ⟨fun e => absurd e (h 68 (by decide)), fun _ => ⟨fun e => absurd e (h 70 (by decide)), fun _ => ⟨fun _ => k, fun e => absurd e (h 71 (by decide))⟩⟩⟩⟩⟩⟩⟩⟩⟩
def gv0 (t a : Nat) : Int32 := if t = 48 ∧ a = 0 then -1 else nI a
def gv1 (t b : Nat) : Int32 := if t = 52 then (if b = 0 then 78 else 89) else nI b
theorem BD_three {kind a b v : Nat} {vs : Nat → Int32} (h0 : nm kind 0 ≠ 0) (h1 : nm kind 1 ≠ 0) (h2 : nm kind 2 ≠ 0) (h3 : nm kind 3 = 0) (hs : sg kind 0 = false) (hs1 : sg kind 1 = false) (hs2 : sg kind 2 = false) (ha : a < 10000000) (hb : b < 10000000) (hv : v < 10000000) (e0 : vs 0 = nI a) (e1 : vs 1 = nI b) (e2 : vs 2 = nI v) : BD kind vs 4 0 (fld (nm kind 0) a ++ (fld (nm kind 1) b ++ fld (nm kind 2) v)) := by
  refine Or.inr ⟨a, fld (nm kind 1) b ++ fld (nm kind 2) v, h0, e0, ha, ?_, Or.inr ⟨b, fld (nm kind 2) v, h1, e1, hb, ?_, Or.inr ⟨v, [], h2, e2, hv, ?_, Or.inl ⟨Or.inl h3, rfl⟩⟩⟩⟩
  · unfold itm
    rw [hs]
    rfl
  · unfold itm
    rw [show sg kind (0 + 1) = false from hs1]
    rfl
  · unfold itm
    rw [show sg kind (0 + 1 + 1) = false from hs2, List.append_nil]
    rfl
theorem BD_g {t a b v : Nat} (ht : t ∈ mkinds) (ha : a < 1000000) (hb : b < 1000000) (hv : v < 1000000) : BD t (vf (gv0 t a) (gv1 t b) (nI v) 0) 4 0 (gvb t a b v) := by
  refine mcase (P := fun t => BD t (vf (gv0 t a) (gv1 t b) (nI v) 0) 4 0 (gvb t a b v)) ht ?_ ?_ ?_ ?_ ?_ ?_ ?_ ?_ ?_
  · by_cases e : a = 0
    · rw [show gvb 48 a b v = [] by simp [gvb, nm, e]]
      exact BD_nil (Or.inr (by show gv0 48 a = -1; exact if_pos ⟨rfl, e⟩))
    · rw [show gvb 48 a b v = fld (nm 48 0) a by simp [gvb, nm, e]]
      exact BD_one (by decide) (by decide) (by decide) (by omega) (by show gv0 48 a = nI a; exact if_neg (fun w => e w.2))
  · rw [show gvb 49 a b v = fld (nm 49 0) a by simp [gvb, nm]]
    exact BD_one (by decide) (by decide) (by decide) (by omega) (by show gv0 49 a = nI a; exact if_neg (fun w => absurd w.1 (by decide)))
  · rw [show gvb 50 a b v = fld (nm 50 0) a ++ itm 50 1 b by simp [gvb, nm, itm, sg]]
    exact BD_two (by decide) (by decide) (by decide) (by decide) (by omega) (by omega) (by show gv0 50 a = nI a; exact if_neg (fun w => absurd w.1 (by decide))) (by show gv1 50 b = nI b; exact if_neg (by decide))
  · rw [show gvb 52 a b v = fld (nm 52 0) a ++ itm 52 1 (if b = 0 then 78 else 89) by simp [gvb, nm, itm, sg]]
    refine BD_two (by decide) (by decide) (by decide) (by decide) (by omega) (by split <;> decide) (by show gv0 52 a = nI a; exact if_neg (fun w => absurd w.1 (by decide))) ?_
    show gv1 52 b = _
    unfold gv1
    rw [if_pos rfl]
    split <;> rfl
  · rw [show gvb 53 a b v = [] by simp [gvb, nm]]
    exact BD_nil (Or.inl (by decide))
  · rw [show gvb 65 a b v = fld (nm 65 0) a by simp [gvb, nm]]
    exact BD_one (by decide) (by decide) (by decide) (by omega) (by show gv0 65 a = nI a; exact if_neg (fun w => absurd w.1 (by decide)))
  · rw [show gvb 68 a b v = fld (nm 68 0) a ++ (fld (nm 68 1) b ++ fld (nm 68 2) v) by simp [gvb, nm]]
    exact BD_three (by decide) (by decide) (by decide) (by decide) (by decide) (by decide) (by decide) (by omega) (by omega) (by omega) (by show gv0 68 a = nI a; exact if_neg (fun w => absurd w.1 (by decide))) (by show gv1 68 b = nI b; exact if_neg (by decide)) rfl
  · rw [show gvb 70 a b v = fld (nm 70 0) a ++ itm 70 1 b by simp [gvb, nm, itm, sg]]
    exact BD_two (by decide) (by decide) (by decide) (by decide) (by omega) (by omega) (by show gv0 70 a = nI a; exact if_neg (fun w => absurd w.1 (by decide))) (by show gv1 70 b = nI b; exact if_neg (by decide))
  · rw [show gvb 71 a b v = fld (nm 71 0) a ++ (fld (nm 71 1) b ++ fld (nm 71 2) v) by simp [gvb, nm]]
    exact BD_three (by decide) (by decide) (by decide) (by decide) (by decide) (by decide) (by decide) (by omega) (by omega) (by omega) (by show gv0 71 a = nI a; exact if_neg (fun w => absurd w.1 (by decide))) (by show gv1 71 b = nI b; exact if_neg (by decide)) rfl
theorem gvf_ok {t n a b v : Nat} {dup : Bool} (ht : t ∈ mkinds) (ha : a < 1000000) (hb : b < 1000000) (hv : v < 1000000) : (hdr t n dup ++ gvb t a b v).length ≤ 99 ∧ ∀ x ∈ hdr t n dup ++ gvb t a b v, x < 128 := by
  have htb := mk_b ht
  have hh := @hdr_le t n dup
  obtain ⟨l1, l2, l3⟩ := gvb_parts (t := t) ha hb hv
  refine ⟨?_, mem_app (hdr_b (by omega)) (gvb_b t a b v)⟩
  unfold gvb
  rw [List.length_append, List.length_append, List.length_append]
  omega
section GV2
variable {K : Int32 → XS → List AE → Prop} {S : XS} {r : List AE} {A : AS} {p1 p2 p4 p5 p6 : Int32} {dup : Bool} {N : Nat} {C : XS → List AE → Prop} {Q : Int32 → XS → List AE → Prop}
theorem rM_mkp {t n a b v : Nat} (hM : MA A S) (ht : t ∈ mkinds) (hn : n < 1000000) (ha : a < 1000000) (hb : b < 1000000) (hv : v < 1000000) {V0 V1 : Int32} (e0 : V0 = gv0 t a) (e1 : V1 = gv1 t b) (h : ∀ S', MA (fr0 A) S' → kY S S' → gF S' 800 = 0 → gF S' 801 = 1 → MB (frm (hdr t n dup ++ gvb t a b v)) S' → K (nI (frm (hdr t n dup ++ gvb t a b v)).length) S' r) : w_M_make (sF (sF S 800 0) 838 1) r (nI t) (nI n) (if dup then 1 else 0) V0 V1 (nI v) 0 (fun S17 r18 => (w_M_give_116 K S17 r18)) := by
  obtain ⟨g1, g2⟩ := gvf_ok (n := n) (dup := dup) ht ha hb hv
  refine ⟨fun z => absurd (show (1 : Int32) = 0 from z) (by decide), fun _ => ?_⟩
  rw [e0, e1]
  have hk : t ∈ kinds := by
    refine mcase (P := fun t => t ∈ kinds) ht ?_ ?_ ?_ ?_ ?_ ?_ ?_ ?_ ?_ <;> decide
  refine rM_make_24 (vs := vf (gv0 t a) (gv1 t b) (nI v) 0) (m := pPeer) (Or.inl ⟨rfl, rfl, rfl⟩) hk (by omega) (BD_g ht ha hb hv) g1 g2 ?_
  generalize hbs : frm (hdr t n dup ++ gvb t a b v) = bs at *
  have hl : bs.length ≤ 120 := by rw [← hbs]; exact frm_le g1
  have hb8 : ∀ x ∈ bs, x < 128 := by rw [← hbs]; exact frm_b g2
  unfold w_M_give_116
  have e2 : gF (WS (sF (sF (sF (sF S 800 0) 838 1) 818 0) 802 0) pPeer 0 bs) 802 = nI bs.length := by
    show nI (0 + bs.length) = _
    rw [Nat.zero_add]
  rw [e2]
  have kk : ke [800, 838, 818, 802] [9] S (WS (sF (sF (sF (sF S 800 0) 838 1) 818 0) 802 0) pPeer 0 bs) := ((((ke_sF (by decide)).trans (ke_sF (by decide))).trans (ke_sF (by decide))).trans (ke_sF (by decide))).trans (ke_WS (by decide) (by decide))
  have e8 : gF (WS (sF (sF (sF (sF S 800 0) 838 1) 818 0) 802 0) pPeer 0 bs) 800 = 0 := rfl
  have e9 : xrow bs (gA (WS (sF (sF (sF (sF S 800 0) 838 1) 818 0) 802 0) pPeer 0 bs) 9) := by
    show xrow bs (wr (gA S 9) (0 + 0) bs)
    exact xrow_wr0 _ _
  generalize WS (sF (sF (sF (sF S 800 0) 838 1) 818 0) 802 0) pPeer 0 bs = S1 at *
  have m1 : MA A S1 := hM.same (fun x hx => kk.1 x (by revert x; decide)) (fun x hx => kk.2.1 x (by revert x; decide))
  have m2 : MA A (sF (sF S1 838 0) 801 1) := m1.same (fun x hx => by rw [gF_sF, if_neg (by rintro rfl; revert hx; decide), gF_sF, if_neg (by rintro rfl; revert hx; decide)]) (fun _ _ => rfl)
  have y1 : kY S S1 := ⟨fun k hk => kk.1 k (by simp; omega), fun j hj => kk.2.1 j (by simp; omega), kk.2.2.1, kk.2.2.2.1, kk.2.2.2.2⟩
  exact h _ (MA_fr0 m2) (((y1.trans (kY_sF (by decide))).trans (kY_sF (by decide))).trans (kY_sF (by decide))) e8 rfl ⟨e2, hl, hb8, e9⟩
theorem rM_give (hM : MA A S) (h0 : (∀ t n a b v, ¬ gok p1 p2 p4 p5 p6 t n a b v) → K 0 (sF (sF S 800 0) 800 1) r) (h1 : ∀ t n a b v, gok p1 p2 p4 p5 p6 t n a b v → ∀ S', MA (fr0 A) S' → kY S S' → gF S' 800 = 0 → gF S' 801 = 1 → MB (frm (hdr t n dup ++ gvb t a b v)) S' → K (nI (frm (hdr t n dup ++ gvb t a b v)).length) S' r) : w_M_give S r p1 p2 (if dup then 1 else 0) p4 p5 p6 K := by
  have bad : (∀ t n a b v, ¬ gok p1 p2 p4 p5 p6 t n a b v) → w_M_give_55 K (sF S 800 0) r := fun w => h0 w
  unfold w_M_give
  by_cases k1 : ∃ t, t ∈ mkinds ∧ p1 = nI t
  · obtain ⟨t, ht, rfl⟩ := k1
    have htb := mk_b ht
    refine rM_isType (by omega) ?_
    rw [if_pos ht]
    refine ⟨fun z => absurd z (by decide), fun _ => ?_⟩
    by_cases k2 : ∃ n, okn p2 n
    · obtain ⟨n, k2⟩ := k2
      refine wn_yes k2 ⟨fun z => absurd z (by decide), fun _ => ?_⟩
      by_cases k4 : ∃ n, okn p4 n
      · obtain ⟨a, k4⟩ := k4
        refine wn_yes k4 ⟨fun z => absurd z (by decide), fun _ => ?_⟩
        by_cases k5 : ∃ n, okn p5 n
        · obtain ⟨b, k5⟩ := k5
          refine wn_yes k5 ⟨fun z => absurd z (by decide), fun _ => ?_⟩
          by_cases k6 : ∃ n, okn p6 n
          · obtain ⟨v, k6⟩ := k6
            refine wn_yes k6 ⟨fun _ => ?_, fun z => absurd z (by decide)⟩
            have hh := h1 t n a b v ⟨rfl, ht, k2, k4, k5, k6⟩
            obtain ⟨rfl, b2⟩ := k2
            obtain ⟨rfl, b4⟩ := k4
            obtain ⟨rfl, b5⟩ := k5
            obtain ⟨rfl, b6⟩ := k6
            have mk : ∀ {V0 V1 : Int32}, V0 = gv0 t a → V1 = gv1 t b → w_M_make (sF (sF S 800 0) 838 1) r (nI t) (nI n) (if dup then 1 else 0) V0 V1 (nI v) 0 (fun S17 r18 => (w_M_give_116 K S17 r18)) := fun e0 e1 => rM_mkp hM ht b2 b4 b5 b6 e0 e1 hh
            have q48 : nI t = 48 ↔ t = 48 := by rw [li_48, nI_eq (by omega) (by omega)]
            have q52 : nI t = 52 ↔ t = 52 := by rw [li_52, nI_eq (by omega) (by omega)]
            have q5 : nI b ≤ 0 ↔ b = 0 := by rw [li_0, nI_leI (by omega) (by omega)]; omega
            have q4 : nI a = 0 ↔ a = 0 := by rw [li_0, nI_eq (by omega) (by omega)]
            have z0 : ¬ (t = 48 ∧ a = 0) → nI a = gv0 t a := fun w => (if_neg w).symm
            have z0' : t = 48 ∧ a = 0 → -1 = gv0 t a := fun w => (if_pos w).symm
            have z1 : t ≠ 52 → nI b = gv1 t b := fun w => (if_neg w).symm
            have z2 : t = 52 → b = 0 → 78 = gv1 t b := fun w u => by unfold gv1; rw [if_pos w, if_pos u]
            have z3 : t = 52 → b ≠ 0 → 89 = gv1 t b := fun w u => by unfold gv1; rw [if_pos w, if_neg u]
            rw [q48, q52, q5, q4]
            exact ⟨fun c => ⟨fun d => mk (z0 (fun w => c w.1)) (z1 d), fun d => ⟨fun e => mk (z0 (fun w => c w.1)) (z2 d e), fun e => mk (z0 (fun w => c w.1)) (z3 d e)⟩⟩, fun c => ⟨fun f => ⟨fun d => mk (z0 (fun w => f w.2)) (z1 d), fun d => ⟨fun e => mk (z0 (fun w => f w.2)) (z2 d e), fun e => mk (z0 (fun w => f w.2)) (z3 d e)⟩⟩, fun f => ⟨fun d => mk (z0' ⟨c, f⟩) (z1 d), fun d => ⟨fun e => mk (z0' ⟨c, f⟩) (z2 d e), fun e => mk (z0' ⟨c, f⟩) (z3 d e)⟩⟩⟩⟩
          · exact wn_no (fun n w => k6 ⟨n, w⟩) ⟨fun z => absurd rfl z, fun _ => bad (fun t n a b v w => k6 ⟨v, w.2.2.2.2.2⟩)⟩
        · exact wn_no (fun n w => k5 ⟨n, w⟩) ⟨fun _ => bad (fun t n a b v w => k5 ⟨b, w.2.2.2.2.1⟩), fun z => absurd rfl z⟩
      · exact wn_no (fun n w => k4 ⟨n, w⟩) ⟨fun _ => bad (fun t n a b v w => k4 ⟨a, w.2.2.2.1⟩), fun z => absurd rfl z⟩
    · exact wn_no (fun n w => k2 ⟨n, w⟩) ⟨fun _ => bad (fun t n a b v w => k2 ⟨n, w.2.2.1⟩), fun z => absurd rfl z⟩
  · exact isT_no (fun t ht e => k1 ⟨t, ht, e⟩) ⟨fun _ => bad (fun t n a b v w => k1 ⟨t, w.2.1, w.1⟩), fun z => absurd rfl z⟩
theorem gok_eq {t n a b v t' n' a' b' v' : Nat} (h : gok p1 p2 p4 p5 p6 t n a b v) (g : gok p1 p2 p4 p5 p6 t' n' a' b' v') : t = t' ∧ n = n' ∧ a = a' ∧ b = b' ∧ v = v' := by
  obtain ⟨h1, h2, ⟨h3, h4⟩, ⟨h5, h6⟩, ⟨h7, h8⟩, ⟨h9, h10⟩⟩ := h
  obtain ⟨g1, g2, ⟨g3, g4⟩, ⟨g5, g6⟩, ⟨g7, g8⟩, ⟨g9, g10⟩⟩ := g
  have ht := mk_b h2
  have ht' := mk_b g2
  have e1 := h1.symm.trans g1
  have e2 := h3.symm.trans g3
  have e3 := h5.symm.trans g5
  have e4 := h7.symm.trans g7
  have e5 := h9.symm.trans g9
  rw [nI_eq (by omega) (by omega)] at e1 e2 e3 e4 e5
  exact ⟨e1, e2, e3, e4, e5⟩
theorem rJ_give (hJ : J N S r) (hN : N ≤ 512) (hC : ∀ S' r', J (N + 1) S' r' → C S' r') (hQ : ∀ k S1 r1, w_M_give S1 r1 p1 p2 (if dup then 1 else 0) p4 p5 p6 (fun b S2 r2 => chk K C k b S2 r2) → Q k S1 r1) : w_L_give S r p1 p2 (if dup then 1 else 0) p4 p5 p6 Q := by
  have hJ' := hJ
  have hb := hJ.bud hN
  obtain ⟨A, ib, q, h1, h2, h3, h4, h5, h6⟩ := hJ
  refine rT_give (dup := dup) hb (fun hn => ⟨rfl, hQ _ _ _ ?_⟩) (fun t n a b v hg S3 k3 e3 x3 => hQ _ _ _ ?_)
  · exact rM_give (dup := dup) h3 (fun _ => chk_err rfl (by decide) (hC _ _ (hJ'.err (by decide)))) (fun t n a b v w => absurd w (hn t n a b v))
  · obtain ⟨g1, g2⟩ := gvf_ok (n := n) (dup := dup) hg.2.1 hg.2.2.2.1.2 hg.2.2.2.2.1.2 hg.2.2.2.2.2.2
    have gl := frm_le g1
    have gb := frm_b g2
    have t0 : TA A q S3 r := h2.same (fun x hx => k3.1 x (by revert x; decide)) (k3.2.1 7 (by decide)) (fun x _ => k3.2.2.1 x) k3.2.2.2.1
    have x0 : kX S S3 := ⟨fun k hk => k3.1 k (by simp; omega), fun j hj => k3.2.1 j (by simp; omega)⟩
    generalize hbs : frm (hdr t n dup ++ gvb t a b v) = bs at *
    generalize hv : vp_updL (gO (sF S3 4 0)) (0 : Int32).toNatClampNeg ((nI bs.length).toInt64) = gv
    have x1 : kX S (sO (sF S3 4 0) gv) := (x0.trans (kX_sF (by decide))).trans kX_sO
    have t1 : TA (fr0 A) q (sO (sF S3 4 0) gv) r := TA.o (TA_fr0 t0)
    have ti : TI bs (sO (sF S3 4 0) gv) := ⟨e3, gl, gb, x3⟩
    refine rM_give (dup := dup) (h3.x x1) (fun hn => absurd hg (hn t n a b v)) (fun t' n' a' b' v' hg' S4 m4 y4 z4 w4 b4 => ?_)
    obtain ⟨rfl, rfl, rfl, rfl, rfl⟩ := gok_eq hg hg'
    rw [hbs] at b4 ⊢
    have hne : bs ≠ [] := by
      intro e
      have : (frm (hdr t n dup ++ gvb t a b v)).length = 0 := by rw [hbs, e]; rfl
      rw [frm_len] at this
      omega
    refine chk_ok z4 ?_ (hC _ _ ⟨fr0 A, bs, q, inv_w (inv_fr0 h1) (by omega) (by omega), t1.y y4, m4, ti.y y4, MI_some hne w4 b4, by omega⟩)
    rw [y4.2.2.2.2, ← hv]
    exact gO_set _ _
end GV2
