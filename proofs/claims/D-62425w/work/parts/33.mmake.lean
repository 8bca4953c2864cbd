/-! ===== the model's frames: body, make, goes ===== -/
def nm (kind k : Nat) : Nat :=
  if kind = 48 ∨ kind = 49 then (if k = 0 then 112 else 0)
  else if kind = 50 then (if k = 0 then 7 else if k = 1 then 16 else 0)
  else if kind = 52 then (if k = 0 then 36 else if k = 1 then 123 else 0)
  else if kind = 65 then (if k = 0 then 108 else 0)
  else if kind = 68 then (if k = 0 then 11 else if k = 1 then 54 else if k = 2 then 38 else 0)
  else if kind = 70 then (if k = 0 then 11 else if k = 1 then 41 else 0)
  else if kind = 71 then (if k = 0 then 11 else if k = 1 then 41 else if k = 2 then 38 else 0)
  else if kind = 56 then (if k = 0 then 11 else if k = 1 then 39 else if k = 2 then 14 else 151)
  else 0
def sg (kind k : Nat) : Bool := (kind == 52 || kind == 56) && k == 1
def kinds : List Nat := [48, 49, 50, 52, 53, 65, 68, 70, 71, 56]
def itm (kind k v : Nat) : List Nat := if sg kind k then ltr (nm kind k) v else fld (nm kind k) v
theorem kcase {P : Nat → Prop} {kind : Nat} (hk : kind ∈ kinds) (h48 : P 48) (h49 : P 49) (h50 : P 50) (h52 : P 52) (h53 : P 53) (h65 : P 65) (h68 : P 68) (h70 : P 70) (h71 : P 71) (h56 : P 56) : P kind := by
  simp only [kinds, List.mem_cons, List.not_mem_nil, or_false] at hk
  rcases hk with rfl | rfl | rfl | rfl | rfl | rfl | rfl | rfl | rfl | rfl <;> assumption
theorem k4 {P : Nat → Prop} {k : Nat} (hk : k < 4) (h0 : P 0) (h1 : P 1) (h2 : P 2) (h3 : P 3) : P k := by
  obtain rfl | rfl | rfl | rfl : k = 0 ∨ k = 1 ∨ k = 2 ∨ k = 3 := by omega
  all_goals assumption
theorem rM_name {K : Int32 → Prop} {kind k : Nat} (hk : kind ∈ kinds) (h4 : k < 4) (h : K (nI (nm kind k))) : w_M_name (nI kind) (nI k) K := by
  revert h
  refine kcase (P := fun kind => K (nI (nm kind k)) → w_M_name (nI kind) (nI k) K) hk ?_ ?_ ?_ ?_ ?_ ?_ ?_ ?_ ?_ ?_ <;> refine k4 (P := fun k => K (nI (nm _ k)) → w_M_name (nI _) (nI k) K) h4 ?_ ?_ ?_ ?_ <;> intro h <;> (repeat' (first | exact h | exact absurd (by decide) c | exact absurd c (by decide) | (refine ⟨fun c => ?_, fun c => ?_⟩)))
theorem nm_lt (kind k : Nat) : nm kind k < 152 := by
  unfold nm
  (repeat' split) <;> omega
/-- what stands behind the head: the k-th value and on -/
def BD (kind : Nat) (vs : Nat → Int32) : Nat → Nat → List Nat → Prop
  | 0, _, bl => bl = []
  | n + 1, k, bl => ((nm kind k = 0 ∨ vs k = -1) ∧ bl = []) ∨ ∃ v bl', nm kind k ≠ 0 ∧ vs k = nI v ∧ v < 10000000 ∧ bl = itm kind k v ++ bl' ∧ BD kind vs n (k + 1) bl'
theorem itm_len (kind k v : Nat) : (itm kind k v).length = if sg kind k then plc (nm kind k) + 3 else plc (nm kind k) + plc v + 2 := by
  unfold itm
  split
  · exact ltr_len _ _
  · exact fld_len _ _
theorem vs4 {vs : Nat → Int32} {k : Nat} {P : Int32 → Prop} (hk : k < 4) (h : P (vs k)) : ((¬ nI k = 0 → ((¬ nI k = (1 : Int32) → ((¬ nI k = (2 : Int32) → P (vs 3)) ∧ (nI k = (2 : Int32) → P (vs 2)))) ∧ (nI k = (1 : Int32) → P (vs 1)))) ∧ (nI k = 0 → P (vs 0))) := by
  revert h
  refine k4 (P := fun k => P (vs k) → ((¬ nI k = 0 → ((¬ nI k = (1 : Int32) → ((¬ nI k = (2 : Int32) → P (vs 3)) ∧ (nI k = (2 : Int32) → P (vs 2)))) ∧ (nI k = (1 : Int32) → P (vs 1)))) ∧ (nI k = 0 → P (vs 0)))) hk ?_ ?_ ?_ ?_ <;> intro h <;> (repeat' (first | exact h | exact absurd (by decide) c | exact absurd c (by decide) | (refine ⟨fun c => ?_, fun c => ?_⟩)))
theorem sg54 {k6 : XS → List AE → Int32 → Int32 → Int32 → Int32 → Int32 → Int32 → Int32 → Int32 → Prop} {K : Int32 → XS → List AE → Prop} {S : XS} {r : List AE} {v2 v3 v4 v5 v6 v7 v9 v10 : Int32} {kind k : Nat} (hk : kind ∈ kinds) (h4 : k < 4) (h : w_M_body_85 k6 K S r (nI kind) v2 v3 v4 v5 v6 v7 (nI k) v9 v10 (if sg kind k then 1 else 0)) : w_M_body_54 k6 K S r (nI kind) v2 v3 v4 v5 v6 v7 (nI k) v9 v10 := by
  revert h
  refine kcase (P := fun kind => w_M_body_85 k6 K S r (nI kind) v2 v3 v4 v5 v6 v7 (nI k) v9 v10 (if sg kind k then 1 else 0) → w_M_body_54 k6 K S r (nI kind) v2 v3 v4 v5 v6 v7 (nI k) v9 v10) hk ?_ ?_ ?_ ?_ ?_ ?_ ?_ ?_ ?_ ?_ <;> refine k4 (P := fun k => w_M_body_85 k6 K S r (nI _) v2 v3 v4 v5 v6 v7 (nI k) v9 v10 (if sg _ k then 1 else 0) → w_M_body_54 k6 K S r (nI _) v2 v3 v4 v5 v6 v7 (nI k) v9 v10) h4 ?_ ?_ ?_ ?_ <;> intro h <;> (repeat' (first | exact h | exact absurd (by decide) c | exact absurd c (by decide) | (refine ⟨fun c => ?_, fun c => ?_⟩)))
theorem WS_nil {S : XS} {m : WP} {i : Nat} (hm : MO S m i) : WS S m i [] = S := by
  rcases hm with ⟨h1, rfl, h2⟩ | ⟨h1, s, rfl, h2, h3, h4⟩
  · refine XS_ext (fun k => ?_) (fun k => rfl) (fun k => ?_) (fun k => rfl) rfl
    · show gF (sF _ 802 _) k = _
      rw [gF_sF]
      split
      · rename_i e; rw [e, h2]; rfl
      · rfl
    · show gA (sA S 9 (wr (gA S 9) (0 + i) [])) k = _
      rw [gA_sA, wr_nil]
      split
      · rename_i e; rw [e]
      · rfl
  · refine XS_ext (fun k => ?_) (fun k => rfl) (fun k => ?_) (fun k => rfl) rfl
    · show gF (sF _ 818 _) k = _
      rw [gF_sF]
      split
      · rename_i e; rw [e, h4]; rfl
      · rfl
    · show gA (sA S 13 (if decide (s < 20) then wr (gA S 13) (120 * s + i) [] else gA S 13)) k = _
      rw [gA_sA, wr_nil]
      split
      · rename_i e; rw [e]; split <;> rfl
      · rfl

section RB
variable {K : Int32 → XS → List AE → Prop} {r : List AE} {m : WP}
/-- the walk over the values; without writing -/
theorem rM_body_0 {S : XS} {kind : Nat} (hk : kind ∈ kinds) {vs : Nat → Int32} : ∀ (n k acc : Nat) (bl : List Nat), n + k = 4 → BD kind vs n k bl → K (nI (acc + bl.length)) S r → w_M_body_6 K (n + 1) S r (nI kind) (vs 0) (vs 1) (vs 2) (vs 3) 0 (nI acc) (nI k)
  | 0, k, acc, bl, hn, hb, h => by
    obtain rfl : k = 4 := by omega
    subst hb
    exact ⟨fun _ => h, fun c => absurd (by decide) c⟩
  | n + 1, k, acc, bl, hn, hb, h => by
    refine ⟨fun c => ?_, fun _ => rM_name hk (by omega) ?_⟩
    · rw [li_4, nI_leI (by omega) (by omega)] at c
      omega
    · have hl := nm_lt kind k
      refine vs4 (P := fun v => w_M_body_54 _ K S r (nI kind) (vs 0) (vs 1) (vs 2) (vs 3) 0 (nI acc) (nI k) (nI (nm kind k)) v) (by omega) (sg54 hk (by omega) ?_)
      rcases hb with ⟨h1, rfl⟩ | ⟨v, bl', h1, h2, h3, rfl, h4⟩
      · rcases h1 with h1 | h1
        · rw [h1]
          exact ⟨fun _ => h, fun c => absurd rfl c⟩
        · rw [h1]
          exact ⟨fun _ => h, fun _ => ⟨fun c => absurd c (by decide), fun _ => h⟩⟩
      · rw [h2]
        refine ⟨fun c => absurd c (nI_ne0 (by omega) (by omega)), fun _ => ⟨fun _ => ⟨fun c => ?_, fun c => ?_⟩, fun c => absurd (nI_le (Nat.zero_le v) (by omega)) c⟩⟩
        · have hs : sg kind k = false := by
            cases e : sg kind k
            · rfl
            · rw [e] at c
              exact absurd c (by decide)
          refine rM_room (by omega) h3 ⟨fun _ => ⟨fun _ => ?_, fun c => absurd rfl c⟩, fun c => absurd rfl c⟩
          show w_M_body_6 K (n + 1) S r (nI kind) (vs 0) (vs 1) (vs 2) (vs 3) 0 _ (nI k + 1)
          rw [nI_add, nI_1]
          refine rM_body_0 hk n (k + 1) _ bl' (by omega) h4 ?_
          rw [List.length_append, itm_len, hs, ← Nat.add_assoc] at h
          exact h
        · have hs : sg kind k = true := by
            cases e : sg kind k
            · rw [e] at c
              exact absurd rfl c
            · rfl
          refine rM_places (by omega) ⟨fun _ => ⟨fun _ => ?_, fun c => absurd rfl c⟩, fun c => absurd rfl c⟩
          show w_M_body_6 K (n + 1) S r (nI kind) (vs 0) (vs 1) (vs 2) (vs 3) 0 _ (nI k + 1)
          rw [li_3, nI_add, nI_add, nI_1]
          refine rM_body_0 hk n (k + 1) _ bl' (by omega) h4 ?_
          rw [List.length_append, itm_len, hs, ← Nat.add_assoc] at h
          exact h
/-- with writing -/
theorem rM_body_1 {kind : Nat} (hk : kind ∈ kinds) {vs : Nat → Int32} : ∀ (n k acc i : Nat) (S : XS) (bl : List Nat), MO S m i → i + bl.length ≤ 120 → n + k = 4 → BD kind vs n k bl → K (nI (acc + bl.length)) (WS S m i bl) r → w_M_body_6 K (n + 1) S r (nI kind) (vs 0) (vs 1) (vs 2) (vs 3) 1 (nI acc) (nI k)
  | 0, k, acc, i, S, bl, hm, hi, hn, hb, h => by
    obtain rfl : k = 4 := by omega
    subst hb
    rw [WS_nil hm] at h
    exact ⟨fun _ => h, fun c => absurd (by decide) c⟩
  | n + 1, k, acc, i, S, bl, hm, hi, hn, hb, h => by
    refine ⟨fun c => ?_, fun _ => rM_name hk (by omega) ?_⟩
    · rw [li_4, nI_leI (by omega) (by omega)] at c
      omega
    · have hl := nm_lt kind k
      refine vs4 (P := fun v => w_M_body_54 _ K S r (nI kind) (vs 0) (vs 1) (vs 2) (vs 3) 1 (nI acc) (nI k) (nI (nm kind k)) v) (by omega) (sg54 hk (by omega) ?_)
      rcases hb with ⟨h1, rfl⟩ | ⟨v, bl', h1, h2, h3, rfl, h4⟩
      · rw [WS_nil hm] at h
        rcases h1 with h1 | h1
        · rw [h1]
          exact ⟨fun _ => h, fun c => absurd rfl c⟩
        · rw [h1]
          exact ⟨fun _ => h, fun _ => ⟨fun c => absurd c (by decide), fun _ => h⟩⟩
      · rw [h2]
        rw [List.length_append] at hi
        have hil := itm_len kind k v
        refine ⟨fun c => absurd c (nI_ne0 (by omega) (by omega)), fun _ => ⟨fun _ => ⟨fun c => ?_, fun c => ?_⟩, fun c => absurd (nI_le (Nat.zero_le v) (by omega)) c⟩⟩
        · have hs : sg kind k = false := by
            cases e : sg kind k
            · rfl
            · rw [e] at c
              exact absurd c (by decide)
          have hit : itm kind k v = fld (nm kind k) v := by unfold itm; rw [hs]; rfl
          rw [hs] at hil ⊢
          refine rM_room (by omega) h3 ⟨fun c => absurd c (by decide), fun _ => ⟨fun _ => ⟨fun c => absurd c (by decide), fun _ => ⟨fun c => absurd rfl c, fun _ => ?_⟩⟩, fun c => absurd rfl c⟩⟩
          refine rM_field hm (by omega) h3 (by rw [← hit]; omega) ?_
          show w_M_body_6 K (n + 1) _ r (nI kind) (vs 0) (vs 1) (vs 2) (vs 3) 1 _ (nI k + 1)
          rw [nI_add, nI_1, ← hit]
          refine rM_body_1 hk n (k + 1) _ (i + (itm kind k v).length) _ bl' (MO_WS hm rfl) (by omega) (by omega) h4 ?_
          rw [List.length_append, hil, ← Nat.add_assoc] at h
          rw [WS_app]
          exact h
        · have hs : sg kind k = true := by
            cases e : sg kind k
            · rw [e] at c
              exact absurd rfl c
            · rfl
          have hit : itm kind k v = ltr (nm kind k) v := by unfold itm; rw [hs]; rfl
          rw [hs] at hil ⊢
          refine rM_places (by omega) ⟨fun c => absurd c (by decide), fun _ => ⟨fun c => absurd c (by decide), fun _ => ?_⟩⟩
          refine rM_letter hm (by omega) (by rw [← hit]; omega) ⟨fun c => absurd c (by decide), fun _ => ⟨fun _ => ?_, fun c => absurd c (by decide)⟩⟩
          show w_M_body_6 K (n + 1) _ r (nI kind) (vs 0) (vs 1) (vs 2) (vs 3) 1 _ (nI k + 1)
          rw [li_3, nI_add, nI_add, nI_1, ← hit]
          refine rM_body_1 hk n (k + 1) _ (i + (itm kind k v).length) _ bl' (MO_WS hm rfl) (by omega) (by omega) h4 ?_
          rw [List.length_append, hil, ← Nat.add_assoc] at h
          rw [WS_app]
          exact h
end RB
