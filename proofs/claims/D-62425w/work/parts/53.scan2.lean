/-! ===== the scanner: a type's fields, a whole frame ===== -/
def pB3 (t a b : Nat) (s : List Nat) : Option (Nat × Nat × Nat × List Nat) :=
  if nm t 2 = 0 then some (a, b, 0, s) else match pN (nm t 2) s with
    | none => none
    | some (v, s') => some (a, b, v, s')
def pB2 (t a : Nat) (s : List Nat) : Option (Nat × Nat × Nat × List Nat) :=
  if t = 52 then (match pL 123 s with
    | none => none
    | some (x, s') => if x = 89 ∨ x = 78 then pB3 t a (if x = 89 then 1 else 0) s' else none)
  else if nm t 1 = 0 then pB3 t a 0 s else match pN (nm t 1) s with
    | none => none
    | some (b, s') => pB3 t a b s'
def pB (t : Nat) (s : List Nat) : Option (Nat × Nat × Nat × List Nat) :=
  if (t = 48 ∧ pst 112 s = false) ∨ t = 53 then some (0, 0, 0, s) else match pN (nm t 0) s with
    | none => none
    | some (a, s') => pB2 t a s'
theorem xcf_k {t : Nat} (ht : t ∈ mkinds) : xcf 1 (tno t) = nI (nm t 0) ∧ xcf 2 (tno t) = nI (nm t 1) ∧ xcf 3 (tno t) = nI (nm t 2) := by
  refine mcase (P := fun t => xcf 1 (tno t) = nI (nm t 0) ∧ xcf 2 (tno t) = nI (nm t 1) ∧ xcf 3 (tno t) = nI (nm t 2)) ht ?_ ?_ ?_ ?_ ?_ ?_ ?_ ?_ ?_ <;> exact ⟨rfl, rfl, rfl⟩
theorem tno_r {t : Nat} : 1 ≤ tno t ∧ tno t ≤ 9 := by unfold tno; (repeat' split) <;> omega
section SC2
variable {S : XS} {r : List AE} {KT : Nat → XS → List AE → Prop} {bs s : List Nat} {K : XS → List AE → Prop} {t : Nat}
theorem rS_114 {a b : Nat} (ht : t ∈ mkinds) (hs : sc bs s S) (hb : bud r) (g3 : gF S 303 = nI a) (g4 : gF S 304 = nI b) (g5 : gF S 305 = 0) (h0 : pB3 t a b s = none → FL KT S r) (h1 : ∀ v s', pB3 t a b s = some (a, b, v, s') → v < 1000000 → ∀ S', sc bs s' S' → kS S S' → gR S' 300 = gR S 300 → gF S' 301 = gF S 301 → gF S' 302 = gF S 302 → gF S' 303 = nI a → gF S' 304 = nI b → gF S' 305 = nI v → K S' r) : w_S_type_114 K KT S r (tno t) := by
  have hp := @tno_r t
  have hl := nm_lt t 2
  unfold w_S_type_114
  rw [(xcf_k ht).2.2]
  unfold pB3 at h0 h1
  refine ⟨⟨hp.1, by omega⟩, fun e => ?_, fun e => ⟨⟨hp.1, by omega⟩, ?_⟩⟩
  · rw [li_0, nI_leI (by omega) (by omega)] at e
    rw [if_pos (by omega)] at h1
    exact h1 0 s rfl (by decide) S hs (kS.refl S) rfl rfl rfl g3 g4 g5
  · rw [li_0, nI_leI (by omega) (by omega)] at e
    rw [if_neg (by omega)] at h0 h1
    refine rS_number (by omega) hs hb (fun w => ?_) (fun v s' w hv S1 p1 p2 => ?_)
    · rw [w] at h0
      exact h0 rfl
    · rw [w] at h1
      refine h1 v s' rfl hv _ (p1.keep (by decide) (by decide)) (p2.s.trans (kS_sF (by decide))) (p2.2.2.1 300) ?_ ?_ ?_ ?_ ?_
      · rw [gF_sF, if_neg (by decide)]; exact p2.1 301 (by decide)
      · rw [gF_sF, if_neg (by decide)]; exact p2.1 302 (by decide)
      · rw [gF_sF, if_neg (by decide)]; exact (p2.1 303 (by decide)).trans g3
      · rw [gF_sF, if_neg (by decide)]; exact (p2.1 304 (by decide)).trans g4
      · rw [gF_sF, if_pos rfl]
theorem rS_21 (ht : t ∈ mkinds) (hs : sc bs s S) (hb : bud r) (g3 : gF S 303 = 0) (g4 : gF S 304 = 0) (g5 : gF S 305 = 0) (hz : ¬ (t = 48 ∧ pst 112 s = false)) (h0 : pB t s = none → FL KT S r) (h1 : ∀ a b v s', pB t s = some (a, b, v, s') → a < 1000000 ∧ b < 1000000 ∧ v < 1000000 ∧ (t = 52 → b ≤ 1) → ∀ S', sc bs s' S' → kS S S' → gR S' 300 = gR S 300 → gF S' 301 = gF S 301 → gF S' 302 = gF S 302 → gF S' 303 = nI a → gF S' 304 = nI b → gF S' 305 = nI v → K S' r) : w_S_type_21 K KT S r (tno t) := by
  have hp := @tno_r t
  have t5 : tno t = 5 ↔ t = 53 := by
    simp only [mkinds, List.mem_cons, List.not_mem_nil, or_false] at ht
    rcases ht with rfl | rfl | rfl | rfl | rfl | rfl | rfl | rfl | rfl <;> decide
  have t4 : tno t = 4 ↔ t = 52 := by
    simp only [mkinds, List.mem_cons, List.not_mem_nil, or_false] at ht
    rcases ht with rfl | rfl | rfl | rfl | rfl | rfl | rfl | rfl | rfl <;> decide
  unfold w_S_type_21
  rw [(xcf_k ht).1, (xcf_k ht).2.1]
  unfold pB at h0 h1
  refine ⟨by omega, fun e => ⟨⟨hp.1, by omega⟩, ?_⟩, fun e => ?_⟩
  · have h53 : t ≠ 53 := fun w => e (t5.mpr w)
    rw [if_neg (fun w => w.elim hz h53)] at h0 h1
    refine rS_number (by have := nm_lt t 0; omega) hs hb (fun w => ?_) (fun a s1 w ha S1 p1 p2 => ?_)
    · rw [w] at h0
      exact h0 rfl
    · rw [w] at h0 h1
      simp only at h0 h1
      unfold pB2 at h0 h1
      have q3 : gF (sF S1 303 (nI a)) 303 = nI a := by rw [gF_sF, if_pos rfl]
      have q4 : gF (sF S1 303 (nI a)) 304 = 0 := by rw [gF_sF, if_neg (by decide)]; exact (p2.1 304 (by decide)).trans g4
      have q5 : gF (sF S1 303 (nI a)) 305 = 0 := by rw [gF_sF, if_neg (by decide)]; exact (p2.1 305 (by decide)).trans g5
      have k1 : kS S (sF S1 303 (nI a)) := p2.s.trans (kS_sF (by decide))
      have m300 : gR (sF S1 303 (nI a)) 300 = gR S 300 := p2.2.2.1 300
      have m301 : gF (sF S1 303 (nI a)) 301 = gF S 301 := by rw [gF_sF, if_neg (by decide)]; exact p2.1 301 (by decide)
      have m302 : gF (sF S1 303 (nI a)) 302 = gF S 302 := by rw [gF_sF, if_neg (by decide)]; exact p2.1 302 (by decide)
      have p1' : sc bs s1 (sF S1 303 (nI a)) := p1.keep (by decide) (by decide)
      generalize sF S1 303 (nI a) = S2 at *
      refine ⟨by omega, fun f => ⟨⟨hp.1, by omega⟩, fun i => ?_, fun i => ⟨⟨hp.1, by omega⟩, ?_⟩⟩, fun f => ⟨⟨hp.1, by omega⟩, ?_⟩⟩
      · have h52 : t ≠ 52 := fun w => f (t4.mpr w)
        have hl := nm_lt t 1
        rw [li_0, nI_leI (by omega) (by omega)] at i
        simp only [if_neg h52, if_pos (show nm t 1 = 0 by omega)] at h0 h1
        exact rS_114 (b := 0) ht p1' hb q3 q4 q5 (fun w => (h0 w).go k1) (fun v s' z1 z2 S' z3 z4 z5 z6 z7 z8 z9 z10 => h1 a 0 v s' z1 ⟨ha, by decide, z2, fun w => absurd w h52⟩ S' z3 (k1.trans z4) (z5.trans m300) (z6.trans m301) (z7.trans m302) z8 z9 z10)
      · have h52 : t ≠ 52 := fun w => f (t4.mpr w)
        have hl := nm_lt t 1
        rw [li_0, nI_leI (by omega) (by omega)] at i
        simp only [if_neg h52, if_neg (show ¬ nm t 1 = 0 by omega)] at h0 h1
        refine rS_number (by omega) p1' hb (fun w => ?_) (fun b s2 w hb2 S3 y1 y2 => ?_)
        · rw [w] at h0
          exact (h0 rfl).go k1
        · rw [w] at h0 h1
          simp only at h0 h1
          have k2 : kS S (sF S3 304 (nI b)) := (k1.trans y2.s).trans (kS_sF (by decide))
          refine rS_114 (b := b) ht (y1.keep (by decide) (by decide)) hb ?_ (by rw [gF_sF, if_pos rfl]) ?_ (fun w => (h0 w).go k2) (fun v s' z1 z2 S' z3 z4 z5 z6 z7 z8 z9 z10 => h1 a b v s' z1 ⟨ha, hb2, z2, fun w => absurd w h52⟩ S' z3 (k2.trans z4) (z5.trans ((y2.2.2.1 300).trans m300)) (z6.trans ?_) (z7.trans ?_) z8 z9 z10)
          · rw [gF_sF, if_neg (by decide)]; exact (y2.1 303 (by decide)).trans q3
          · rw [gF_sF, if_neg (by decide)]; exact (y2.1 305 (by decide)).trans q5
          · rw [gF_sF, if_neg (by decide)]; exact (y2.1 301 (by decide)).trans m301
          · rw [gF_sF, if_neg (by decide)]; exact (y2.1 302 (by decide)).trans m302
      · have h52 : t = 52 := t4.mp f
        simp only [if_pos h52] at h0 h1
        have hn1 : nm t 1 = 123 := by rw [h52]; rfl
        rw [hn1]
        refine rS_letter (by decide) p1' hb (fun w => ?_) (fun x s2 w hx S3 y1 y2 => ?_)
        · rw [w] at h0
          exact (h0 rfl).go k1
        · rw [w] at h0 h1
          simp only at h0 h1
          have k2 : kS S S3 := k1.trans y2.s
          have k77 : (x = 89 ∨ x = 78) → w_S_type_77 K KT S3 r (tno t) (nI x) := by
            intro hx2
            rw [if_pos hx2] at h0 h1
            have go : ∀ b, b = (if x = 89 then 1 else 0) → w_S_type_114 K KT (sF S3 304 (nI b)) r (tno t) := by
              rintro b rfl
              have k3 : kS S (sF S3 304 (nI (if x = 89 then 1 else 0))) := k2.trans (kS_sF (by decide))
              refine rS_114 (b := if x = 89 then 1 else 0) ht (y1.keep (by decide) (by decide)) hb ?_ (by rw [gF_sF, if_pos rfl]) ?_ (fun w => (h0 w).go k3) (fun v s' z1 z2 S' z3 z4 z5 z6 z7 z8 z9 z10 => h1 a _ v s' z1 ⟨ha, by split <;> decide, z2, fun _ => by split <;> decide⟩ S' z3 (k3.trans z4) (z5.trans ((y2.2.2.1 300).trans m300)) (z6.trans ?_) (z7.trans ?_) z8 z9 z10)
              · rw [gF_sF, if_neg (by decide)]; exact (y2.1 303 (by decide)).trans q3
              · rw [gF_sF, if_neg (by decide)]; exact (y2.1 305 (by decide)).trans q5
              · rw [gF_sF, if_neg (by decide)]; exact (y2.1 301 (by decide)).trans m301
              · rw [gF_sF, if_neg (by decide)]; exact (y2.1 302 (by decide)).trans m302
            refine ⟨fun i => go 0 ?_, fun i => go 1 ?_⟩
            · rw [li_89, nI_eq (by omega) (by omega)] at i
              rw [if_neg i]
            · rw [li_89, nI_eq (by omega) (by omega)] at i
              rw [if_pos i]
          refine ⟨fun i => need1 (k77 (Or.inl ?_)), fun i => ⟨fun j => need0 hb ?_, fun j => need1 (k77 (Or.inr ?_))⟩⟩
          · rw [li_89, nI_eq (by omega) (by omega)] at i; exact i
          · rw [li_89, nI_eq (by omega) (by omega)] at i
            rw [li_78, nI_eq (by omega) (by omega)] at j
            rw [if_neg (by omega)] at h0
            exact h0 rfl S3 k2
          · rw [li_78, nI_eq (by omega) (by omega)] at j; exact j
  · rw [if_pos (Or.inr (t5.mp e))] at h1
    exact h1 0 0 0 s rfl ⟨by decide, by decide, by decide, fun _ => by decide⟩ S hs (kS.refl S) rfl rfl rfl g3 g4 g5
theorem rS_type (ht : t ∈ mkinds) (hs : sc bs s S) (hb : bud r) (g0 : gR S 300 = tno t) (g3 : gF S 303 = 0) (g4 : gF S 304 = 0) (g5 : gF S 305 = 0) (h0 : pB t s = none → FL KT S r) (h1 : ∀ a b v s', pB t s = some (a, b, v, s') → a < 1000000 ∧ b < 1000000 ∧ v < 1000000 ∧ (t = 52 → b ≤ 1) → ∀ S', sc bs s' S' → kS S S' → gR S' 300 = gR S 300 → gF S' 301 = gF S 301 → gF S' 302 = gF S 302 → gF S' 303 = nI a → gF S' 304 = nI b → gF S' 305 = nI v → K S' r) : w_S_type S r K KT := by
  have hp := @tno_r t
  have t1 : tno t = 1 ↔ t = 48 := by
    simp only [mkinds, List.mem_cons, List.not_mem_nil, or_false] at ht
    rcases ht with rfl | rfl | rfl | rfl | rfl | rfl | rfl | rfl | rfl <;> decide
  unfold w_S_type
  rw [g0]
  refine ⟨by omega, fun e => rS_21 ht hs hb g3 g4 g5 (fun w => e (t1.mpr w.1)) h0 h1, fun e => rS_stands (by decide) hs ?_⟩
  cases hq : pst 112 s
  · refine ⟨fun _ => ?_, fun w => absurd rfl w⟩
    unfold pB at h1
    rw [if_pos (Or.inl ⟨t1.mp e, hq⟩)] at h1
    exact h1 0 0 0 s rfl ⟨by decide, by decide, by decide, fun _ => by decide⟩ S hs (kS.refl S) rfl rfl rfl g3 g4 g5
  · exact ⟨fun w => absurd w (by decide), fun _ => rS_21 ht hs hb g3 g4 g5 (fun w => by rw [hq] at w; exact absurd w.2 (by decide)) h0 h1⟩
end SC2
