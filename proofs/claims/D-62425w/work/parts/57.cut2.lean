/-! ===== the model cuts a frame into fields: whole ===== -/
theorem num_app : ∀ (ds : List Nat) (x v : Nat), num (ds ++ [x]) v = 10 * num ds v + (x - 48)
  | [], x, v => rfl
  | d :: ds, x, v => num_app ds x _
theorem num_lt : ∀ (ds : List Nat) (v k : Nat), (∀ x ∈ ds, 48 ≤ x ∧ x ≤ 57) → v < 10 ^ k → num ds v < 10 ^ (k + ds.length)
  | [], v, k, _, h => h
  | d :: ds, v, k, hd, h => by
    have h1 := hd d (by simp)
    have := num_lt ds (10 * v + (d - 48)) (k + 1) (fun x hx => hd x (by simp [hx])) (by rw [Nat.pow_succ]; omega)
    rw [show k + (d :: ds).length = k + 1 + ds.length by simp only [List.length_cons]; omega]
    exact this
theorem rM_digit {K : Int32 → Prop} {x : Nat} (hx : x < 128) (h : K (if 48 ≤ x ∧ x ≤ 57 then 1 else 0)) : w_M_digit (nI x) K := by
  refine ⟨fun e => ?_, fun e => ⟨fun f => ?_, fun f => ?_⟩⟩
  · rw [li_48, nI_ltI (by omega) (by omega)] at e
    rw [if_neg (by omega)] at h
    exact h
  · rw [li_57, nI_ltI (by omega) (by omega)] at f
    rw [if_neg (by omega)] at h
    exact h
  · rw [li_48, nI_ltI (by omega) (by omega)] at e
    rw [li_57, nI_ltI (by omega) (by omega)] at f
    rw [if_pos (by omega)] at h
    exact h
section CUT2
variable {K : Int32 → XS → List AE → Prop} {S : XS} {r : List AE} {bs : List Nat}
theorem rM_19 {k7 : XS → List AE → Int32 → Prop} {j : Nat} {pre0 : List Nat} (hB : MB bs S) (h804 : gF S 804 = nI j) (hj : j < 41) : ∀ (s ds : List Nat) (g : Nat), bs = pre0 ++ (ds ++ s) → (∀ x ∈ ds, 48 ≤ x ∧ x ≤ 57) → ds.length ≤ 4 → s.length < g → ((¬ ∃ f s', ds ++ s = fb f ++ s' ∧ gdf f) → K 0 S r) → (∀ f s', ds ++ s = fb f ++ s' → gdf f → k7 (cst S j f.1 (pre0.length + (digs f.1).length + 1) (pre0.length + (digs f.1).length + 1 + f.2.length)) r (nI (pre0.length + (fb f).length))) → w_M_cut_19 k7 K g S r (nI (pre0 ++ ds).length) (nI (num ds 0)) (nI pre0.length)
  | s, ds, 0, e, hd, hl, hg, h0, h1 => absurd hg (Nat.not_lt_zero _)
  | [], ds, g + 1, e, hd, hl, hg, h0, h1 => by
    have hb := hB.2.1
    have hlen : bs.length = (pre0 ++ ds).length := by rw [e, List.append_nil]
    refine ⟨fun _ => rM_67 hB h804 hj e hd hl (fun x s1 w => by cases w) h0 h1, fun w => absurd (by rw [hB.1, hlen]; exact nI_le (Nat.le_refl _) (by omega)) w⟩
  | x :: s, ds, g + 1, e, hd, hl, hg, h0, h1 => by
    have hb := hB.2.1
    have e2 : bs = (pre0 ++ ds) ++ x :: s := by rw [e, List.append_assoc]
    obtain ⟨a1, a2, a3, a4⟩ := MB_at hB e2
    have hpl : (pre0 ++ ds).length = pre0.length + ds.length := List.length_append ..
    have hin : vp_in (nI (pre0 ++ ds).length) 120 := vp_in_nI a3 (by decide)
    have stop : (48 ≤ x ∧ x ≤ 57 → ds.length = 4) → w_M_cut_67 k7 K S r (nI (pre0 ++ ds).length) (nI (num ds 0)) (nI pre0.length) := by
      intro hs
      refine rM_67 hB h804 hj e hd hl (fun y s1 w hy => ?_) h0 h1
      cases w
      exact hs hy
    refine ⟨fun w => ?_, fun _ => ⟨hin, ?_⟩⟩
    · rw [hB.1, nI_leI (by omega) (by omega)] at w
      omega
    · rw [nI_clamp (by omega), a1]
      refine rM_digit a2 ⟨fun w => stop (fun q => ?_), fun w => ⟨fun z => stop (fun _ => ?_), fun z => ⟨hin, ?_⟩⟩⟩
      · rw [if_pos q] at w
        exact absurd w (by decide)
      · rw [hpl, nI_sub (by omega), li_4, nI_leI (by omega) (by omega)] at z
        omega
      · rw [hpl, nI_sub (by omega), li_4, nI_leI (by omega) (by omega)] at z
        have hx : 48 ≤ x ∧ x ≤ 57 := Classical.byContradiction (fun q => w (if_neg q))
        have hn := num_lt ds 0 0 hd (by decide)
        have hp4 : 10 ^ (0 + ds.length) ≤ 10 ^ 4 := Nat.pow_le_pow_right (by decide) (by omega)
        have e3 : (10 : Int32) * nI (num ds 0) + nI x - 48 = nI (num (ds ++ [x]) 0) := by
          rw [num_app, li_10, nI_mul, nI_add, li_48, nI_sub (by omega)]
          congr 1
          omega
        have hp3 : (pre0 ++ (ds ++ [x])).length = (pre0 ++ ds).length + 1 := by simp only [List.length_append, List.length_cons, List.length_nil]; omega
        have es : ds ++ x :: s = (ds ++ [x]) ++ s := by simp
        rw [e3, nI_1, ← hp3]
        rw [es] at e h0 h1
        refine rM_19 hB h804 hj s (ds ++ [x]) g e ?_ ?_ ?_ h0 h1
        · intro y hy
          rcases List.mem_append.mp hy with hy | hy
          · exact hd y hy
          · rw [List.mem_singleton.mp hy]; exact hx
        · rw [List.length_append]
          show _ + 1 ≤ _
          omega
        · simp only [List.length_cons] at hg
          omega
def fz : Nat × List Nat := (0, [])
def frm_at (fl : List (Nat × List Nat)) (i : Nat) : Nat := (flat (fl.take i)).length + (digs (fl.getD i fz).1).length + 1
def Mfl (fl : List (Nat × List Nat)) (S : XS) : Prop := gF S 804 = nI fl.length ∧ ∀ i < fl.length, gA S 10 i = nI (fl.getD i fz).1 ∧ gA S 11 i = nI (frm_at fl i) ∧ gA S 12 i = nI (frm_at fl i + (fl.getD i fz).2.length)
def kC (S S' : XS) : Prop := ke [804] [10, 11, 12] S S'
theorem flat_app : ∀ (a b : List (Nat × List Nat)), flat (a ++ b) = flat a ++ flat b
  | [], b => rfl
  | f :: a, b => by
    show fb f ++ flat (a ++ b) = fb f ++ flat a ++ flat b
    rw [flat_app a b, List.append_assoc]
theorem fb_len {f : Nat × List Nat} : (fb f).length = (digs f.1).length + 1 + f.2.length + 1 := by
  unfold fb
  simp only [List.length_append, List.length_cons, List.length_nil]
  omega
theorem flat_len4 : ∀ (fl : List (Nat × List Nat)), (∀ f ∈ fl, gdf f) → 4 * fl.length ≤ (flat fl).length
  | [], _ => Nat.le_refl _
  | f :: fl, h => by
    have h1 := flat_len4 fl (fun g hg => h g (by simp [hg]))
    have hf := h f (by simp)
    have h2 : 1 ≤ f.2.length := by
      cases e : f.2 with
      | nil => exact absurd e hf.2.2.1
      | cons _ _ => simp
    have h3 := (plc_pos f.1).1
    show _ ≤ (fb f ++ flat fl).length
    rw [List.length_append, fb_len, digs_len]
    simp only [List.length_cons]
    omega
theorem fl_l {fl : List (Nat × List Nat)} {f : Nat × List Nat} {i : Nat} (h : i < fl.length) : (fl ++ [f]).getD i fz = fl.getD i fz := by
  rw [List.getD_eq_getElem?_getD, List.getD_eq_getElem?_getD, List.getElem?_append_left h]
theorem fl_r {fl : List (Nat × List Nat)} {f : Nat × List Nat} : (fl ++ [f]).getD fl.length fz = f := by
  rw [List.getD_eq_getElem?_getD, List.getElem?_append_right (Nat.le_refl _), Nat.sub_self]
  rfl
theorem Mfl_cst {fl : List (Nat × List Nat)} {f : Nat × List Nat} (h : Mfl fl S) : Mfl (fl ++ [f]) (cst S fl.length f.1 ((flat fl).length + (digs f.1).length + 1) ((flat fl).length + (digs f.1).length + 1 + f.2.length)) := by
  refine ⟨by rw [List.length_append]; rfl, fun i hi => ?_⟩
  rw [List.length_append] at hi
  have hi2 : i < fl.length + 1 := hi
  show upd (gA S 10) fl.length _ i = _ ∧ upd (gA S 11) fl.length _ i = _ ∧ upd (gA S 12) fl.length _ i = _
  by_cases e : i = fl.length
  · subst e
    have hfr : frm_at (fl ++ [f]) fl.length = (flat fl).length + (digs f.1).length + 1 := by
      unfold frm_at
      rw [fl_r, List.take_left]
    rw [upd_at, upd_at, upd_at, fl_r, hfr]
    exact ⟨rfl, rfl, rfl⟩
  · have hfr : frm_at (fl ++ [f]) i = frm_at fl i := by
      unfold frm_at
      rw [fl_l (by omega), List.take_append_of_le_length (by omega)]
    rw [upd_ne _ _ e, upd_ne _ _ e, upd_ne _ _ e, fl_l (by omega), hfr]
    exact h.2 i (by omega)
theorem kC_cst (S : XS) (j t a b : Nat) : kC S (cst S j t a b) := (((ke_sA (by decide)).trans (ke_sA (by decide))).trans (ke_sA (by decide))).trans (ke_sF (by decide))
theorem MB.k {S' : XS} (h : MB bs S) (k : kC S S') : MB bs S' := by
  obtain ⟨h1, h2, h3, h4⟩ := h
  exact ⟨(k.1 802 (by decide)).trans h1, h2, h3, by rw [k.2.1 9 (by decide)]; exact h4⟩
theorem rM_7 : ∀ (g : Nat) (s : List Nat) (fl : List (Nat × List Nat)) (S : XS), bs = flat fl ++ s → (∀ f ∈ fl, gdf f) → MB bs S → Mfl fl S → s.length < g → ((¬ ∃ fl1, s = flat fl1 ∧ ∀ f ∈ fl1, gdf f) → ∀ S', kC S S' → K 0 S' r) → (∀ fl1, s = flat fl1 → (∀ f ∈ fl1, gdf f) → ∀ S', kC S S' → Mfl (fl ++ fl1) S' → K 1 S' r) → w_M_cut_7 K g S r (nI (flat fl).length)
  | 0, s, fl, S, e, hfl, hB, hM, hg, h0, h1 => absurd hg (Nat.not_lt_zero _)
  | g + 1, s, fl, S, e, hfl, hB, hM, hg, h0, h1 => by
    have hb := hB.2.1
    have hlen : bs.length = (flat fl).length + s.length := by rw [e, List.length_append]
    have h4 := flat_len4 fl hfl
    refine ⟨fun w => ?_, fun w => ?_⟩
    · rw [hB.1, nI_leI (by omega) (by omega)] at w
      have : s = [] := List.eq_nil_of_length_eq_zero (by omega)
      refine h1 [] this (fun f hf => by cases hf) S (ke.refl _ _ _) ?_
      rw [List.append_nil]
      exact hM
    · rw [hB.1, nI_leI (by omega) (by omega)] at w
      have hne : s ≠ [] := by
        rintro rfl
        simp only [List.length_nil] at hlen
        omega
      refine ⟨s.length + 1, ?_⟩
      have hgo := rM_19 (K := K) (r := r) (k7 := fun S r v1 => w_M_cut_7 K g S r v1) (pre0 := flat fl) hB hM.1 (by omega) s [] (s.length + 1) (by rw [List.nil_append]; exact e) (fun x hx => by cases hx) (by decide) (Nat.lt_succ_self _) (fun hn => h0 (fun ⟨fl1, q1, q2⟩ => ?_) S (ke.refl _ _ _)) (fun f s' q1 q2 => ?_)
      · rw [List.append_nil] at hgo
        exact hgo
      · cases fl1 with
        | nil => exact hne q1
        | cons f fl2 => exact hn ⟨f, flat fl2, q1, q2 f (by simp)⟩
      · rw [List.nil_append] at q1
        have hpl : (flat fl).length + (fb f).length = (flat (fl ++ [f])).length := by
          rw [flat_app, List.length_append]
          show _ = _ + (fb f ++ []).length
          rw [List.append_nil]
        rw [hpl]
        have hfl' : ∀ g ∈ fl ++ [f], gdf g := by
          intro g hg
          rcases List.mem_append.mp hg with hg | hg
          · exact hfl g hg
          · rw [List.mem_singleton.mp hg]; exact q2
        have e' : bs = flat (fl ++ [f]) ++ s' := by
          rw [e, q1, flat_app]
          show _ = flat fl ++ (fb f ++ []) ++ s'
          rw [List.append_nil, List.append_assoc]
        have hfbl := @fb_len f
        refine rM_7 g s' (fl ++ [f]) _ e' hfl' (hB.k (kC_cst _ _ _ _ _)) (Mfl_cst hM) (by rw [q1, List.length_append] at hg; omega) (fun hn S' k => h0 (fun ⟨fl1, z1, z2⟩ => ?_) S' (ke.trans (kC_cst _ _ _ _ _) k)) (fun fl1 z1 z2 S' k1 k2 => h1 (f :: fl1) (by rw [q1, z1]; rfl) ?_ S' (ke.trans (kC_cst _ _ _ _ _) k1) ?_)
        · cases fl1 with
          | nil => exact hne z1
          | cons f' fl2 =>
            have z1' : fb f ++ s' = fb f' ++ flat fl2 := by rw [← q1]; exact z1
            obtain ⟨y1, y2⟩ := fb_inj q2 (z2 f' (by simp)) z1'
            exact hn ⟨fl2, y2, fun g hg => z2 g (by simp [hg])⟩
        · intro g hg
          rcases List.mem_cons.mp hg with rfl | hg
          · exact q2
          · exact z2 g hg
        · rw [List.append_assoc] at k2
          exact k2
theorem rM_cut (hB : MB bs S) (h0 : (¬ ∃ fl, bs = flat fl ∧ ∀ f ∈ fl, gdf f) → ∀ S', kC S S' → K 0 S' r) (h1 : ∀ fl, bs = flat fl → (∀ f ∈ fl, gdf f) → ∀ S', kC S S' → Mfl fl S' → K 1 S' r) : w_M_cut S r K := by
  have k0 : kC S (sF S 804 0) := ke_sF (by decide)
  refine ⟨bs.length + 1, rM_7 (bs.length + 1) bs [] (sF S 804 0) rfl (fun f hf => by cases hf) (hB.k k0) ⟨rfl, fun i hi => absurd hi (Nat.not_lt_zero i)⟩ (Nat.lt_succ_self _) (fun hn S' k => h0 hn S' (ke.trans k0 k)) (fun fl z1 z2 S' k1 k2 => h1 fl z1 z2 S' (ke.trans k0 k1) k2)⟩
end CUT2
