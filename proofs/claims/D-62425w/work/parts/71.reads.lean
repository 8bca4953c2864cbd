/-! ===== the calls that only look: frames, length, octet, session, order ===== -/
theorem pr_lt {n j : Nat} (hn : n < 2 ^ 31) (hj : j < 2 ^ 31) : nI n - 1 < nI j ↔ n ≤ j := by
  cases n with
  | zero =>
    constructor
    · intro _; omega
    · intro _
      rw [Int32.lt_iff_toInt_lt, nI_toInt hj, show (nI 0 - 1).toInt = -1 by decide]
      omega
  | succ m =>
    rw [nI_pred, nI_ltI (by omega) hj]
    omega
theorem wi_yes {p lo hi : Int32} {K : Int32 → Prop} (h1 : ¬ p < lo) (h2 : ¬ hi < p) (h : K 1) : w_M_within p lo hi K := ⟨fun c => absurd c h1, fun _ => ⟨fun c => absurd c h2, fun _ => h⟩⟩
theorem wi_no {p lo hi : Int32} {K : Int32 → Prop} (h1 : p < lo ∨ hi < p) (h : K 0) : w_M_within p lo hi K := ⟨fun _ => h, fun c => ⟨fun _ => h, fun c2 => by rcases h1 with h1 | h1; exact absurd h1 c; exact absurd h1 c2⟩⟩
theorem J.err {N : Nat} {S : XS} {r : List AE} {e : Nat} {k : Int32} (he : 7 ≤ e) (h : J N S r) : J (N + 1) (sF (sF S 800 0) 800 k) (r ++ [xO e []]) := by
  obtain ⟨A, ib, q, h1, h2, h3, h4, h5, h6⟩ := h
  have y : kY S (sF (sF S 800 0) 800 k) := (kY_sF (by decide)).trans (kY_sF (by decide))
  have e8 : ∀ j, j ≠ 800 → gF (sF (sF S 800 0) 800 k) j = gF S j := fun j hj => by rw [gF_sF, if_neg hj, gF_sF, if_neg hj]
  exact ⟨A, ib, q + 1, inv_w h1 (by omega) (by omega), (h2.app he).y y, h3.same (fun x hx => e8 x (by rintro rfl; revert hx; decide)) (fun _ _ => rfl), h4.y y, h5.same (e8 _ (by decide)) (e8 _ (by decide)) rfl, by omega⟩
theorem J.rd0 {N : Nat} {S : XS} {r : List AE} (h : J N S r) : J (N + 1) (sF S 800 0) r := by
  obtain ⟨A, ib, q, h1, h2, h3, h4, h5, h6⟩ := h
  have y : kY S (sF S 800 0) := kY_sF (by decide)
  have e8 : ∀ j, j ≠ 800 → gF (sF S 800 0) j = gF S j := fun j hj => by rw [gF_sF, if_neg hj]
  exact ⟨A, ib, q, inv_w h1 (by omega) (by omega), h2.y y, h3.same (fun x hx => e8 x (by rintro rfl; revert hx; decide)) (fun _ _ => rfl), h4.y y, h5.same (e8 _ (by decide)) (e8 _ (by decide)) rfl, by omega⟩
theorem J.o {N : Nat} {S : XS} {r : List AE} {v : Nat → Int64} (h : J N S r) : J N (sO S v) r := by
  obtain ⟨A, ib, q, h1, h2, h3, h4, h5, h6⟩ := h
  exact ⟨A, ib, q, h1, h2.o, h3.x kX_sO, h4.o, h5.x kX_sO, h6⟩
theorem J.bud {N : Nat} {S : XS} {r : List AE} (h : J N S r) (hN : N ≤ 512) : bud r := by
  obtain ⟨A, ib, q, h1, h2, h3, h4, h5, h6⟩ := h
  exact TT_bud h2 (by omega)
section RD
variable {N : Nat} {S : XS} {r : List AE} {K : Int32 → XS → List AE → Prop} {C : XS → List AE → Prop} {Q : Int32 → XS → List AE → Prop} {p p1 p2 : Int32}
theorem rJ_frames (hJ : J N S r) (hC : ∀ S' r', J (N + 1) S' r' → C S' r') : w_T_frames S r (fun x S r => w_M_frames S r (fun y S r => (x = y → C S r) ∧ (¬ x = y → K 0 S r))) := by
  have hJ' := hJ
  obtain ⟨A, ib, q, h1, h2, h3, h4, h5, h6⟩ := hJ
  exact ⟨fun _ => hC _ _ hJ'.rd0, fun w => absurd (h2.2.1.1.trans h3.2.1.1.symm) w⟩
/-- which frame is kept at a place -/
def keptAt (fr : List (List Nat)) (p : Int32) (i : Nat) : Prop := p = nI i ∧ i < fr.length ∧ i < 20
theorem rT_kept {K : Nat → XS → List AE → Prop} {KT : Nat → XS → List AE → Prop} {fr : List (List Nat)} {q : Nat} (hF : TFr fr q S r) (hb : bud r) (h0 : (∀ i, ¬ keptAt fr p i) → KT 9 S (r ++ [xO 9 []])) (h1 : ∀ i a B f, keptAt fr p i → rl r a = some (xO 1 [.ref (a + 1), .int (nI (fr.getD i []).length), .int B]) → rl r (a + 1) = some (xI 1 120 f) → (fr.getD i []).length ≤ 120 → xrow (fr.getD i []) f → K a S r) : w_T_kept S r p K KT := by
  obtain ⟨f1, f2, na, fa, g1, g2, g3, g4, g5, g6, g7⟩ := hF
  have bad : (∀ i, ¬ keptAt fr p i) → w_T_kept_18 K KT S r := fun w => ⟨hb, h0 w⟩
  refine ⟨fun c => bad (fun i hi => ?_), fun c => ?_⟩
  · rw [hi.1] at c
    exact nI_pos (by have := hi.2.2; omega) c
  · obtain ⟨j, hj, rfl⟩ := nI_of c
    refine ⟨fun d => bad (fun i hi => ?_), fun d => ?_⟩
    · rw [f1, hi.1, nI_leI (by omega) (by have := hi.2.2; omega)] at d
      have := hi.2.1
      omega
    · rw [f1, nI_leI (by omega) hj] at d
      refine ⟨fun e => ⟨vp_in_nI (by rw [li_20, nI_ltI hj (by omega)] at e; omega) (by decide), ?_⟩, fun e => bad (fun i hi => e ?_)⟩
      · rw [li_20, nI_ltI hj (by omega)] at e
        have hna := g5 j (by omega) (by omega)
        obtain ⟨L, B, f, q1, q2, q3⟩ := g3 j hna
        obtain ⟨q3, q4, q5⟩ := q3 (by omega) (by omega) (by omega)
        rw [nI_clamp hj, g2 j (by omega), if_pos hna]
        rw [q3] at q1
        exact h1 j (fa j) B f ⟨rfl, by omega, by omega⟩ q1 q2 q4 q5
      · rw [hi.1, li_20, nI_ltI (by have := hi.2.2; omega) (by omega)]
        exact hi.2.2
/-- the model's test for it -/
theorem kept_no {fr : List (List Nat)} (hl : fr.length < 1000000) (h : ∀ i, ¬ keptAt fr p i) : (p < 0 ∨ nI fr.length - 1 < p) ∨ (¬ p < 0 ∧ ¬ nI fr.length - 1 < p ∧ 20 ≤ p) := by
  by_cases c : p < 0
  · exact Or.inl (Or.inl c)
  · obtain ⟨j, hj, rfl⟩ := nI_of c
    by_cases d : nI fr.length - 1 < nI j
    · exact Or.inl (Or.inr d)
    · refine Or.inr ⟨c, d, ?_⟩
      rw [pr_lt (by omega) hj] at d
      rw [li_20, nI_leI (by omega) hj]
      refine Classical.byContradiction (fun e => h j ⟨rfl, by omega, by omega⟩)
theorem kept_yes {fr : List (List Nat)} {i : Nat} (hl : fr.length < 1000000) (h : keptAt fr p i) : ¬ p < 0 ∧ ¬ nI fr.length - 1 < p ∧ ¬ (20 : Int32) ≤ p ∧ vp_in p 20 ∧ p.toNatClampNeg = i := by
  obtain ⟨rfl, h1, h2⟩ := h
  refine ⟨nI_pos (by omega), ?_, ?_, vp_in_nI h2 (by decide), nI_clamp (by omega)⟩
  · rw [pr_lt (by omega) (by omega)]
    omega
  · rw [li_20, nI_leI (by omega) (by omega)]
    omega
theorem rJ_length (hJ : J N S r) (hN : N ≤ 512) (hC : ∀ S' r', J (N + 1) S' r' → C S' r') (hQ : ∀ k S1 r1, w_M_length S1 r1 p (fun b S2 r2 => chk K C k b S2 r2) → Q k S1 r1) : w_L_length S r p Q := by
  have hJ' := hJ
  have hb := hJ.bud hN
  obtain ⟨A, ib, q, h1, h2, h3, h4, h5, h6⟩ := hJ
  refine rT_kept h2.2.1 hb (fun hn => ⟨rfl, hQ _ _ _ ?_⟩) (fun i a B f hk e1 e2 e3 e4 => ⟨_, _, _, e1, hQ _ _ _ ?_⟩)
  · have bad : w_M_length_34 (fun b S2 r2 => chk K C 1 b S2 r2) (sF S 800 0) (r ++ [xO 9 []]) := chk_err (by rfl) (by decide) (hC _ _ (hJ'.err (by decide)))
    unfold w_M_length
    rw [h3.2.1.1]
    rcases kept_no h3.2.1.2.1 hn with w | ⟨w1, w2, w3⟩
    · exact wi_no w ⟨fun _ => bad, fun z => absurd rfl z⟩
    · exact wi_yes w1 w2 ⟨fun z => absurd z (by decide), fun _ => ⟨fun _ => bad, fun z => absurd w3 z⟩⟩
  · obtain ⟨w1, w2, w3, w4, w5⟩ := kept_yes h3.2.1.2.1 hk
    obtain ⟨m1, m2, m3⟩ := h3.2.1.2.2 i hk.2.1 hk.2.2
    unfold w_M_length
    rw [show gF (sO S (vp_updL (gO S) (0 : Int32).toNatClampNeg ((nI (A.2.1.getD i []).length).toInt64))) 815 = nI A.2.1.length from h3.2.1.1]
    refine wi_yes w1 w2 ⟨fun z => absurd z (by decide), fun _ => ⟨fun z => absurd z w3, fun _ => ⟨w4, ?_⟩⟩⟩
    rw [w5]
    refine chk_ok rfl ?_ (hC _ _ hJ'.o.rd0)
    rw [show gA (sO S (vp_updL (gO S) (0 : Int32).toNatClampNeg ((nI (A.2.1.getD i []).length).toInt64))) 14 i = nI (A.2.1.getD i []).length from m2]
    exact gO_set S _
theorem rJ_octet (hJ : J N S r) (hN : N ≤ 512) (hC : ∀ S' r', J (N + 1) S' r' → C S' r') (hQ : ∀ k S1 r1, w_M_octet S1 r1 p p2 (fun b S2 r2 => chk K C k b S2 r2) → Q k S1 r1) : w_L_octet S r p p2 Q := by
  have hJ' := hJ
  have hb := hJ.bud hN
  obtain ⟨A, ib, q, h1, h2, h3, h4, h5, h6⟩ := hJ
  have bad : ∀ r1, J (N + 1) (sF (sF S 800 0) 800 1) r1 → w_M_octet_55 (fun b S2 r2 => chk K C 1 b S2 r2) (sF S 800 0) r1 := fun r1 w => chk_err (by rfl) (by decide) (hC _ _ w)
  have je : J (N + 1) (sF (sF S 800 0) 800 1) (r ++ [xO 9 []]) := hJ'.err (by decide)
  refine rT_kept h2.2.1 hb (fun hn => ⟨rfl, hQ _ _ _ ?_⟩) (fun i a B f hk e1 e2 e3 e4 => ?_)
  · unfold w_M_octet
    rw [h3.2.1.1]
    rcases kept_no h3.2.1.2.1 hn with w | ⟨w1, w2, w3⟩
    · exact wi_no w ⟨fun _ => bad _ je, fun z => absurd rfl z⟩
    · exact wi_yes w1 w2 ⟨fun z => absurd z (by decide), fun _ => ⟨fun _ => bad _ je, fun z => absurd w3 z⟩⟩
  · obtain ⟨w1, w2, w3, w4, w5⟩ := kept_yes h3.2.1.2.1 hk
    obtain ⟨m1, m2, m3⟩ := h3.2.1.2.2 i hk.2.1 hk.2.2
    have no : (p2 < 0 ∨ nI (A.2.1.getD i []).length - 1 < p2) → Q 1 S (r ++ [xO 9 []]) := by
      intro w
      refine hQ _ _ _ ?_
      unfold w_M_octet
      rw [h3.2.1.1]
      refine wi_yes w1 w2 ⟨fun z => absurd z (by decide), fun _ => ⟨fun z => absurd z w3, fun _ => ⟨w4, ?_⟩⟩⟩
      rw [w5, m2]
      exact wi_no w ⟨fun _ => bad _ je, fun z => absurd rfl z⟩
    refine ⟨fun c => ⟨hb, rfl, no (Or.inl c)⟩, fun c => ⟨_, _, _, e1, fun d => ⟨f, e2, ?_⟩, fun d => ⟨hb, rfl, no (Or.inr ?_)⟩⟩⟩
    · obtain ⟨j, hj, rfl⟩ := nI_of c
      rw [nI_ltI hj (by omega)] at d
      refine ⟨vp_in_nI (by omega) (by decide), hQ _ _ _ ?_⟩
      rw [nI_clamp hj, e4 j d]
      generalize hv : vp_updL (gO S) (0 : Int32).toNatClampNeg ((nI ((A.2.1.getD i []).getD j 0)).toInt64) = v
      unfold w_M_octet
      rw [show gF (sO S v) 815 = nI A.2.1.length from h3.2.1.1]
      refine wi_yes w1 w2 ⟨fun z => absurd z (by decide), fun _ => ⟨fun z => absurd z w3, fun _ => ⟨w4, ?_⟩⟩⟩
      rw [w5, show gA (sO S v) 14 i = nI (A.2.1.getD i []).length from m2]
      have e5 : (120 * p + nI j : Int32) = nI (120 * i + j) := by
        rw [hk.1, li_120, nI_mul, nI_add]
      have hi20 := hk.2.2
      refine wi_yes c ?_ ⟨fun z => absurd z (by decide), fun _ => ⟨?_, ?_⟩⟩
      · rw [pr_lt (by omega) hj]
        omega
      · rw [e5]
        exact vp_in_nI (by omega) (by decide)
      · rw [e5, nI_clamp (by omega)]
        refine chk_ok rfl ?_ (hC _ _ hJ'.o.rd0)
        rw [show gA (sO S v) 13 (120 * i + j) = _ from m3 j d, ← hv]
        exact gO_set S _
    · obtain ⟨j, hj, rfl⟩ := nI_of c
      rw [nI_ltI hj (by omega)] at d
      rw [pr_lt (by omega) hj]
      omega
end RD
