/-! ===== the model: the number or the letter that a field is ===== -/
def isd (x : Nat) : Bool := decide (48 ≤ x ∧ x ≤ 57)
def nA (fl : List (Nat × List Nat)) (i name : Nat) : Option Nat := if i < fl.length ∧ (fl.getD i fz).1 = name ∧ (fl.getD i fz).2.length ≤ 6 ∧ (fl.getD i fz).2.all isd = true then some (num (fl.getD i fz).2 0) else none
def lA (fl : List (Nat × List Nat)) (i name : Nat) : Option Nat := if i < fl.length ∧ (fl.getD i fz).1 = name ∧ (fl.getD i fz).2.length = 1 then some ((fl.getD i fz).2.getD 0 0) else none
def oI : Option Nat → Int32
  | none => -1
  | some v => nI v
theorem flat_cut {fl : List (Nat × List Nat)} {i : Nat} (h : i < fl.length) : flat fl = flat (fl.take i) ++ (digs (fl.getD i fz).1 ++ (61 :: ((fl.getD i fz).2 ++ (1 :: flat (fl.drop (i + 1)))))) := by
  have e : fl = fl.take i ++ (fl.getD i fz :: fl.drop (i + 1)) := by
    rw [List.getD_eq_getElem?_getD, List.getElem?_eq_getElem h]
    show fl = fl.take i ++ (fl[i] :: fl.drop (i + 1))
    rw [← List.drop_eq_getElem_cons h, List.take_append_drop]
  have e2 : flat fl = flat (fl.take i) ++ flat (fl.getD i fz :: fl.drop (i + 1)) := by
    rw [← flat_app, ← e]
  rw [e2]
  congr 1
  show fb (fl.getD i fz) ++ flat (fl.drop (i + 1)) = _
  unfold fb
  simp
theorem flat_at {fl : List (Nat × List Nat)} {i k : Nat} (h : i < fl.length) (hk : k < (fl.getD i fz).2.length) : (flat fl).getD (frm_at fl i + k) 0 = (fl.getD i fz).2.getD k 0 ∧ frm_at fl i + (fl.getD i fz).2.length < (flat fl).length := by
  have e := flat_cut h
  constructor
  · unfold frm_at
    rw [e, gd_r (by omega), gd_r (by omega)]
    generalize hx : (flat (fl.take i)).length + (digs (fl.getD i fz).1).length + 1 + k - (flat (fl.take i)).length - (digs (fl.getD i fz).1).length = x
    have : x = k + 1 := by omega
    rw [this]
    show ((fl.getD i fz).2 ++ _).getD k 0 = _
    rw [gd_l hk]
  · have hl := congrArg List.length e
    simp only [List.length_append, List.length_cons] at hl
    unfold frm_at
    omega
theorem frm_lt {fl : List (Nat × List Nat)} {i : Nat} (h : i < fl.length) : frm_at fl i + (fl.getD i fz).2.length < (flat fl).length := by
  have hl := congrArg List.length (flat_cut h)
  simp only [List.length_append, List.length_cons] at hl
  unfold frm_at
  omega
section ATS
variable {K : Int32 → XS → List AE → Prop} {S : XS} {r : List AE} {fl : List (Nat × List Nat)}
theorem fl30 (hB : MB (flat fl) S) (hg : ∀ f ∈ fl, gdf f) : fl.length ≤ 30 := by
  have := flat_len4 fl hg
  have := hB.2.1
  omega
theorem rM_num48 {i : Nat} (hB : MB (flat fl) S) (hM : Mfl fl S) (hg : ∀ f ∈ fl, gdf f) (hi : i < fl.length) (h6 : (fl.getD i fz).2.length ≤ 6) (h : K (oI (if (fl.getD i fz).2.all isd = true then some (num (fl.getD i fz).2 0) else none)) S r) : ∀ (g k : Nat), k + g = (fl.getD i fz).2.length → (∀ j < k, isd ((fl.getD i fz).2.getD j 0) = true) → w_M_numberAt_48 K (g + 1) S r (nI i) (nI (num ((fl.getD i fz).2.take k) 0)) (nI (frm_at fl i + k))
  | g, k, hk, hd => by
    have h30 := fl30 hB hg
    have hb := hB.2.1
    obtain ⟨a1, a2, a3⟩ := hM.2 i hi
    have hlt := frm_lt hi
    refine ⟨vp_in_nI (by omega) (by decide), ?_⟩
    rw [nI_clamp (by omega), a3]
    generalize hv : (fl.getD i fz).2 = vs at *
    cases g with
    | zero =>
      have : k = vs.length := by omega
      subst this
      refine ⟨fun _ => ?_, fun w => absurd (nI_le (Nat.le_refl _) (by omega)) w⟩
      rw [List.take_length]
      have hall : vs.all isd = true := by
        rw [List.all_eq_true]
        intro x hx
        obtain ⟨n, hn, e⟩ := List.mem_iff_getElem.mp hx
        have := hd n hn
        rw [List.getD_eq_getElem?_getD, List.getElem?_eq_getElem hn] at this
        rw [← e]
        exact this
      rw [if_pos hall] at h
      exact h
    | succ g =>
      have hfa := flat_at hi (k := k) (by rw [hv]; omega)
      rw [hv] at hfa
      have hx : vs.getD k 0 < 128 := by rw [← hfa.1]; exact gd_lt hB.2.2.1 _
      refine ⟨fun w => ?_, fun _ => ⟨vp_in_nI (by omega) (by decide), ?_⟩⟩
      · rw [nI_leI (by omega) (by omega)] at w
        omega
      · rw [nI_clamp (by omega), hB.2.2.2 (frm_at fl i + k) (by omega), hfa.1]
        refine rM_digit hx ⟨fun w => ⟨vp_in_nI (by omega) (by decide), ?_⟩, fun w => ?_⟩
        · have hdg : 48 ≤ vs.getD k 0 ∧ vs.getD k 0 ≤ 57 := Classical.byContradiction (fun q => w (if_neg q))
          have htk : vs.take (k + 1) = vs.take k ++ [vs.getD k 0] := by
            rw [List.getD_eq_getElem?_getD, List.getElem?_eq_getElem (by omega)]
            exact (List.take_append_getElem (by omega)).symm
          have hall : ∀ x ∈ vs.take k, 48 ≤ x ∧ x ≤ 57 := by
            intro x hx2
            obtain ⟨n, hn, e⟩ := List.mem_iff_getElem.mp hx2
            rw [List.length_take] at hn
            have := hd n (by omega)
            rw [List.getD_eq_getElem?_getD, List.getElem?_eq_getElem (by omega)] at this
            rw [List.getElem_take] at e
            rw [← e]
            exact of_decide_eq_true this
          have hnl := num_lt (vs.take k) 0 0 hall (by decide)
          have hp6 : 10 ^ (0 + (vs.take k).length) ≤ 10 ^ 6 := Nat.pow_le_pow_right (by decide) (by rw [List.length_take]; omega)
          have e3 : (10 : Int32) * nI (num (vs.take k) 0) + nI (vs.getD k 0) - 48 = nI (num (vs.take (k + 1)) 0) := by
            rw [htk, num_app, li_10, nI_mul, nI_add, li_48, nI_sub (by omega)]
            congr 1
            omega
          rw [e3, nI_1]
          have := rM_num48 hB hM hg hi (by rw [hv]; exact h6) (by rw [hv]; exact h) g (k + 1) (by rw [hv]; omega) (by
            rw [hv]
            intro j hj
            by_cases e : j = k
            · rw [e]; exact decide_eq_true hdg
            · exact hd j (by omega))
          rw [hv] at this
          exact this
        · have hno : ¬ (48 ≤ vs.getD k 0 ∧ vs.getD k 0 ≤ 57) := fun q => by rw [if_pos q] at w; exact absurd w (by decide)
          have hall : ¬ vs.all isd = true := by
            intro q
            rw [List.all_eq_true] at q
            refine hno (of_decide_eq_true (q (vs.getD k 0) ?_))
            rw [List.getD_eq_getElem?_getD, List.getElem?_eq_getElem (by omega)]
            exact List.getElem_mem _
          rw [if_neg hall] at h
          exact h
theorem nI_m1 {v : Nat} (h : v < 2 ^ 31) : nI v ≠ -1 := by
  intro e
  have := congrArg Int32.toInt e
  rw [nI_toInt h, show (-1 : Int32).toInt = -1 by decide] at this
  omega
theorem rM_numberAt {i name : Nat} (hB : MB (flat fl) S) (hM : Mfl fl S) (hg : ∀ f ∈ fl, gdf f) (hi : i < 41) (hn : name < 10000) (h : K (oI (nA fl i name)) S r) : w_M_numberAt S r (nI i) (nI name) K := by
  have h30 := fl30 hB hg
  have hb := hB.2.1
  unfold nA at h
  refine ⟨fun e => ?_, fun e => ⟨vp_in_nI hi (by decide), ?_⟩⟩
  · rw [hM.1, nI_leI (by omega) (by omega)] at e
    rw [if_neg (by omega)] at h
    exact h
  · rw [hM.1, nI_leI (by omega) (by omega)] at e
    have hi2 : i < fl.length := by omega
    obtain ⟨a1, a2, a3⟩ := hM.2 i hi2
    have hlt := frm_lt hi2
    have hgd : gdf (fl.getD i fz) := hg _ (by rw [List.getD_eq_getElem?_getD, List.getElem?_eq_getElem hi2]; exact List.getElem_mem _)
    rw [nI_clamp (by omega), a1, a2, a3, nI_sub (by omega)]
    have hv : vp_in (nI i) 41 := vp_in_nI hi (by decide)
    refine ⟨fun f => ?_, fun f => ⟨hv, hv, fun z => ⟨hv, ?_⟩, fun z => ?_⟩⟩
    · rw [nI_eq (by have := hgd.2.1; omega) (by omega)] at f
      rw [if_neg (fun q => f q.2.1)] at h
      exact h
    · rw [nI_eq (by have := hgd.2.1; omega) (by omega)] at f
      rw [li_6, nI_leI (by omega) (by omega)] at z
      refine ⟨(fl.getD i fz).2.length + 1, ?_⟩
      have := rM_num48 hB hM hg hi2 (by omega) (K := K) (r := r) (by
        by_cases q : (fl.getD i fz).2.all isd = true
        · rw [if_pos ⟨hi2, f, by omega, q⟩] at h
          rw [if_pos q]
          exact h
        · rw [if_neg (fun w => q w.2.2.2)] at h
          rw [if_neg q]
          exact h) (fl.getD i fz).2.length 0 (by omega) (fun j hj => absurd hj (Nat.not_lt_zero j))
      exact this
    · rw [li_6, nI_leI (by omega) (by omega)] at z
      rw [if_neg (fun q => by omega)] at h
      exact h
theorem rM_letterAt {i name : Nat} (hB : MB (flat fl) S) (hM : Mfl fl S) (hg : ∀ f ∈ fl, gdf f) (hi : i < 41) (hn : name < 10000) (h : K (oI (lA fl i name)) S r) : w_M_letterAt S r (nI i) (nI name) K := by
  have h30 := fl30 hB hg
  have hb := hB.2.1
  unfold lA at h
  refine ⟨fun e => ?_, fun e => ⟨vp_in_nI hi (by decide), ?_⟩⟩
  · rw [hM.1, nI_leI (by omega) (by omega)] at e
    rw [if_neg (by omega)] at h
    exact h
  · rw [hM.1, nI_leI (by omega) (by omega)] at e
    have hi2 : i < fl.length := by omega
    obtain ⟨a1, a2, a3⟩ := hM.2 i hi2
    have hlt := frm_lt hi2
    have hgd : gdf (fl.getD i fz) := hg _ (by rw [List.getD_eq_getElem?_getD, List.getElem?_eq_getElem hi2]; exact List.getElem_mem _)
    rw [nI_clamp (by omega), a1, a2, a3, nI_sub (by omega)]
    have hv : vp_in (nI i) 41 := vp_in_nI hi (by decide)
    refine ⟨fun f => ?_, fun f => ⟨hv, hv, fun z => ?_, fun z => ⟨hv, vp_in_nI (by omega) (by decide), ?_⟩⟩⟩
    · rw [nI_eq (by have := hgd.2.1; omega) (by omega)] at f
      rw [if_neg (fun q => f q.2.1)] at h
      exact h
    · rw [li_1, nI_eq (by omega) (by omega)] at z
      rw [if_neg (fun q => z (by omega))] at h
      exact h
    · rw [nI_eq (by have := hgd.2.1; omega) (by omega)] at f
      rw [li_1, nI_eq (by omega) (by omega)] at z
      rw [if_pos ⟨hi2, f, by omega⟩] at h
      have hfa := flat_at hi2 (k := 0) (by omega)
      rw [Nat.add_zero] at hfa
      rw [nI_clamp (by omega), hB.2.2.2 (frm_at fl i) (by omega), hfa.1]
      exact h
end ATS
