/-! ===== the model: a good frame, whole ===== -/
def GD (fl : List (Nat × List Nat)) (t n d a b v : Nat) : Prop := clA fl ∧ lA fl 0 8 = some 70 ∧ lA fl 2 35 = some t ∧ t ∈ mkinds ∧ nA fl 3 34 = some n ∧ (d = 1 ∧ (fl.getD 4 fz).1 = 43 ∧ lA fl 4 43 = some 89 ∨ d = 0 ∧ (fl.getD 4 fz).1 ≠ 43) ∧ bdy fl t (4 + d) a b v
theorem flat_inj : ∀ (a b : List (Nat × List Nat)), (∀ f ∈ a, gdf f) → (∀ f ∈ b, gdf f) → flat a = flat b → a = b
  | [], [], _, _, _ => rfl
  | [], g :: b, _, hb, h => by
    have := flat_len4 (g :: b) hb
    rw [← h] at this
    simp only [List.length_cons, flat, List.length_nil] at this
    omega
  | f :: a, [], ha, _, h => by
    have := flat_len4 (f :: a) ha
    rw [h] at this
    simp only [List.length_cons, flat, List.length_nil] at this
    omega
  | f :: a, g :: b, ha, hb, h => by
    obtain ⟨h1, h2⟩ := fb_inj (ha f (by simp)) (hb g (by simp)) h
    rw [h1, flat_inj a b (fun x hx => ha x (by simp [hx])) (fun x hx => hb x (by simp [hx])) h2]
section G3
variable {K : Int32 → XS → List AE → Prop} {S : XS} {r : List AE} {fl : List (Nat × List Nat)} {t : Nat}
theorem rM_96 {n d : Nat} (hd : d ≤ 1) (ht : t ∈ mkinds) (hg : ∀ f ∈ fl, gdf f) (h5 : 5 ≤ fl.length) (hB : MB (flat fl) S) (hM : Mfl fl S) (g8 : gF S 808 = nI t) (g9 : gF S 809 = nI n) (g13 : gF S 813 = nI d) (h0 : (¬ ((d = 1 → lA fl 4 43 = some 89) ∧ ∃ a b v, bdy fl t (4 + d) a b v)) → ∀ S', kG S S' → K 0 S' r) (h1 : ∀ a b v, (d = 1 → lA fl 4 43 = some 89) → bdy fl t (4 + d) a b v → a < 1000000 ∧ b < 1000000 ∧ v < 1000000 ∧ (t = 52 → b ≤ 1) → ∀ S', kG S S' → msgM t n d a b v S' → K 1 S' r) : w_M_good_96 K S r := by
  have c117 : (d = 1 → lA fl 4 43 = some 89) → w_M_good_117 K S r := by
    intro hl
    have go : w_M_good_130 K S r (nI (4 + d)) := rM_130 ht hg h5 hB hM g8 (by omega) (fun hn => h0 (fun q => hn q.2)) (fun a b v q1 q2 S' k e1 e2 e3 e4 e5 e6 => h1 a b v hl q1 q2 S' k ⟨e1, e2.trans g9, e3.trans g13, e4, e5, e6⟩)
    refine ⟨fun w => ?_, fun w => ?_⟩
    · rw [g13, li_0, nI_eq (by omega) (by omega)] at w
      rw [w] at go
      exact go
    · rw [g13, li_0, nI_eq (by omega) (by omega)] at w
      rw [show d = 1 by omega] at go
      exact go
  refine ⟨fun w => c117 (fun q => ?_), fun w => rM_letterAt (i := 4) (name := 43) hB hM hg (by decide) (by decide) ⟨fun z => c117 (fun _ => ?_), fun z => h0 (fun q => z ?_) S (ke.refl _ _ _)⟩⟩
  · rw [g13, q] at w
    exact absurd w (by decide)
  · have z' : oI (lA fl 4 43) = nI 89 := z
    rw [oI_eq (fun v hv => by have := lA_lt hg hv; omega) (by decide)] at z'
    exact z'
  · rw [g13, li_0, nI_eq (by omega) (by omega)] at w
    rw [q.1 (by omega)]
    rfl
def kH (S S' : XS) : Prop := ke [804, 808, 809, 810, 811, 812, 813, 814] [10, 11, 12] S S'
theorem kC.h {S S' : XS} (h : kC S S') : kH S S' := ke.wide h (by decide) (by decide)
theorem kG.h {S S' : XS} (h : kG S S') : kH S S' := ke.wide h (by decide) (by decide)
theorem rM_good {bs : List Nat} (hB : MB bs S) (h0 : (¬ ∃ fl t n d a b v, bs = flat fl ∧ (∀ f ∈ fl, gdf f) ∧ GD fl t n d a b v) → ∀ S', kH S S' → K 0 S' r) (h1 : ∀ fl t n d a b v, bs = flat fl → (∀ f ∈ fl, gdf f) → GD fl t n d a b v → mok t n d a b v → ∀ S', kH S S' → msgM t n d a b v S' → K 1 S' r) : w_M_good S r K := by
  refine rM_cut hB (fun hn S1 k1 => ⟨fun _ => h0 (fun ⟨fl, t, n, d, a, b, v, q1, q2, _⟩ => hn ⟨fl, q1, q2⟩) S1 k1.h, fun w => absurd rfl w⟩) (fun fl e hg S1 k1 hM => ⟨fun w => absurd w (by decide), fun _ => ?_⟩)
  subst e
  have hB1 := hB.k k1
  have uniq : ∀ fl', flat fl = flat fl' → (∀ f ∈ fl', gdf f) → fl' = fl := fun fl' q1 q2 => (flat_inj fl fl' hg q2 q1).symm
  have h0' : (¬ ∃ t n d a b v, GD fl t n d a b v) → ∀ S', kH S S' → K 0 S' r := fun hn => h0 (fun ⟨fl', t, n, d, a, b, v, q1, q2, q3⟩ => by rw [uniq fl' q1 q2] at q3; exact hn ⟨t, n, d, a, b, v, q3⟩)
  refine rM_closed hB1 hM hg (fun hn => ⟨fun _ => h0' (fun ⟨t, n, d, a, b, v, q⟩ => hn q.1) S1 k1.h, fun w => absurd rfl w⟩) (fun hcl => ⟨fun w => absurd w (by decide), fun _ => ?_⟩)
  have h5 := hcl.1
  have h30 := fl30 hB1 hg
  refine rM_letterAt (i := 0) (name := 8) hB1 hM hg (by decide) (by decide) ⟨fun w => ?_, fun w => h0' (fun ⟨t, n, d, a, b, v, q⟩ => w ?_) S1 k1.h⟩
  · have w' : oI (lA fl 0 8) = nI 70 := w
    rw [oI_eq (fun v hv => by have := lA_lt hg hv; omega) (by decide)] at w'
    refine rM_letterAt (i := 2) (name := 35) hB1 hM hg (by decide) (by decide) ?_
    generalize hx : lA fl 2 35 = ot
    have kg1 : kG S1 (sF S1 808 (oI ot)) := ke_sF (by decide)
    refine rM_numberAt (i := 3) (name := 34) (hB1.g kg1) (hM.g kg1) hg (by decide) (by decide) ?_
    generalize hy : nA fl 3 34 = on
    have kz : ∀ S', kG S1 S' → kH S S' := fun S' k => ke.trans k1.h (kG.h k)
    rw [show gF (sF S1 808 (oI ot)) 808 = oI ot by rw [gF_sF, if_pos rfl]]
    have kg2 : ∀ x, kG S1 (sF (sF S1 808 (oI ot)) 809 x) := fun x => ke.trans kg1 (ke_sF (by decide))
    cases ot with
    | none => exact ⟨fun _ => h0' (fun ⟨t, n, d, a, b, v, q⟩ => by rw [q.2.2.1] at hx; cases hx) _ (kz _ (kg2 _)), fun z => absurd (by decide) z⟩
    | some t =>
      have htb := lA_lt hg hx
      refine ⟨fun z => absurd z (nI_pos (by omega)), fun _ => ?_⟩
      cases on with
      | none => exact ⟨fun _ => h0' (fun ⟨t, n, d, a, b, v, q⟩ => by rw [q.2.2.2.2.1] at hy; cases hy) _ (kz _ (kg2 _)), fun z => absurd (by decide) z⟩
      | some n =>
        have hnb := nA_lt hy
        refine ⟨fun z => absurd z (nI_pos (by omega)), fun _ => rM_isType (by omega) ⟨fun z => ?_, fun z => h0' (fun ⟨t', n', d, a, b, v, q⟩ => ?_) _ (kz _ (kg2 _))⟩⟩
        · have hm : t ∈ mkinds := Classical.byContradiction (fun q => z (if_neg q))
          have e4 : gA (sF S1 808 (oI (some t))) 10 (4 : Int32).toNatClampNeg = nI (fl.getD 4 fz).1 := (hM.2 4 (by omega)).1
          have hgd : gdf (fl.getD 4 fz) := hg _ (by rw [List.getD_eq_getElem?_getD, List.getElem?_eq_getElem (by omega)]; exact List.getElem_mem _)
          rw [e4]
          have c96 : ∀ d, d ≤ 1 → ((d = 1 ∧ (fl.getD 4 fz).1 = 43) ∨ (d = 0 ∧ (fl.getD 4 fz).1 ≠ 43)) → w_M_good_96 K (sF (sF (sF S1 808 (oI (some t))) 809 (oI (some n))) 813 (nI d)) r := by
            intro d hd hdd
            have kg3 : kG S1 (sF (sF (sF S1 808 (oI (some t))) 809 (oI (some n))) 813 (nI d)) := ke.trans (kg2 _) (ke_sF (by decide))
            refine rM_96 (n := n) hd hm hg h5 (hB1.g kg3) (hM.g kg3) rfl rfl rfl (fun hn S' k => h0' (fun ⟨t', n', d', a, b, v, q⟩ => ?_) S' (kz _ (ke.trans kg3 k))) (fun a b v q1 q2 q3 S' k1' q4 => ?_)
            · obtain ⟨y1, y2, y3, y4, y5, y6, y7⟩ := q
              rw [hx] at y3
              cases y3
              have hdd' : d' = d := by
                rcases y6 with ⟨u1, u2, -⟩ | ⟨u1, u2⟩ <;> rcases hdd with ⟨p1, p2⟩ | ⟨p1, p2⟩
                · omega
                · exact absurd u2 p2
                · exact absurd p2 u2
                · omega
              rw [hdd'] at y7 y6
              refine hn ⟨fun p => ?_, a, b, v, y7⟩
              rcases y6 with ⟨-, -, u3⟩ | ⟨u1, -⟩
              · exact u3
              · omega
            · refine h1 fl t n d a b v rfl hg ⟨hcl, w', hx, hm, hy, ?_, q2⟩ ⟨hm, hnb, hd, q3.1, q3.2.1, q3.2.2.1, q3.2.2.2⟩ S' (kz _ (ke.trans kg3 k1')) q4
              rcases hdd with ⟨p1, p2⟩ | ⟨p1, p2⟩
              · exact Or.inl ⟨p1, p2, q1 p1⟩
              · exact Or.inr ⟨p1, p2⟩
          refine ⟨fun y => c96 0 (by decide) (Or.inr ⟨rfl, fun q => y (by rw [q]; rfl)⟩), fun y => c96 1 (by decide) (Or.inl ⟨rfl, ?_⟩)⟩
          have y' : nI (fl.getD 4 fz).1 = nI 43 := y
          rw [nI_eq (by have := hgd.2.1; omega) (by decide)] at y'
          exact y'
        · have hm : t ∉ mkinds := fun q => by rw [if_pos q] at z; exact absurd z (by decide)
          have y3 := q.2.2.1
          rw [hx] at y3
          cases y3
          exact hm q.2.2.2.1
  · rw [q.2.1]
    rfl
end G3
