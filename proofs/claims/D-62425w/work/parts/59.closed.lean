/-! ===== the model: whether a frame is closed rightly ===== -/
def clA (fl : List (Nat × List Nat)) : Prop := 5 ≤ fl.length ∧ (fl.getD (fl.length - 1) fz).1 = 10 ∧ (fl.getD (fl.length - 1) fz).2.length = 3 ∧ nA fl (fl.length - 1) 10 = some (ssum (fun i => (flat fl).getD i 0) (flat (fl.take (fl.length - 1))).length % 256) ∧ nA fl 1 9 = some ((flat (fl.take (fl.length - 1))).length - (flat (fl.take 2)).length)
theorem take2 {fl : List (Nat × List Nat)} {i : Nat} (h : i < fl.length) : (flat (fl.take (i + 1))).length = frm_at fl i + (fl.getD i fz).2.length + 1 := by
  have e : fl.take (i + 1) = fl.take i ++ [fl.getD i fz] := by
    rw [List.getD_eq_getElem?_getD, List.getElem?_eq_getElem h]
    exact (List.take_append_getElem h).symm
  rw [e, flat_app, List.length_append]
  show _ + (fb (fl.getD i fz) ++ []).length = _
  rw [List.append_nil, fb_len]
  unfold frm_at
  omega
theorem take_mono {fl : List (Nat × List Nat)} {i j : Nat} (h : i ≤ j) : (flat (fl.take i)).length ≤ (flat (fl.take j)).length := by
  have e : fl.take j = fl.take i ++ (fl.take j).drop i := by
    have := List.take_append_drop i (fl.take j)
    rw [List.take_take, Nat.min_eq_left h] at this
    exact this.symm
  rw [e, flat_app, List.length_append]
  omega
theorem oI_lt {x : Option Nat} (h : ∀ v, x = some v → v < 2 ^ 31) : (0 ≤ oI x ↔ ∃ v, x = some v) := by
  cases x with
  | none => exact ⟨fun w => absurd w (by decide), fun ⟨v, w⟩ => by cases w⟩
  | some v => exact ⟨fun _ => ⟨v, rfl⟩, fun _ => nI_le (Nat.zero_le v) (h v rfl)⟩
theorem nA_lt {fl : List (Nat × List Nat)} {i name v : Nat} (h : nA fl i name = some v) : v < 1000000 := by
  unfold nA at h
  split at h
  · rename_i hc
    cases h
    have hn := num_lt (fl.getD i fz).2 0 0 (fun x hx => of_decide_eq_true (List.all_eq_true.mp hc.2.2.2 x hx)) (by decide)
    have hp : 10 ^ (0 + (fl.getD i fz).2.length) ≤ 10 ^ 6 := Nat.pow_le_pow_right (by decide) (by omega)
    omega
  · cases h
theorem oI_eq {x : Option Nat} {w : Nat} (h : ∀ v, x = some v → v < 2 ^ 31) (hw : w < 2 ^ 31) : oI x = nI w ↔ x = some w := by
  cases x with
  | none =>
    refine ⟨fun e => ?_, fun e => by cases e⟩
    exact absurd e.symm (nI_m1 hw)
  | some v =>
    show nI v = nI w ↔ _
    rw [nI_eq (h v rfl) hw]
    exact ⟨fun e => by rw [e], fun e => Option.some.inj e⟩
section CLO
variable {K : Int32 → XS → List AE → Prop} {S : XS} {r : List AE} {fl : List (Nat × List Nat)}
theorem rM_66 (hB : MB (flat fl) S) (hM : Mfl fl S) (hg : ∀ f ∈ fl, gdf f) (h5 : 5 ≤ fl.length) (h10 : (fl.getD (fl.length - 1) fz).1 = 10) (h3 : (fl.getD (fl.length - 1) fz).2.length = 3) (h0 : ¬ clA fl → K 0 S r) (h1 : clA fl → K 1 S r) : ∀ (g k : Nat), k + g = (flat (fl.take (fl.length - 1))).length → w_M_closed_66 K (g + 1) S r (nI (fl.length - 1)) (nI (flat (fl.take (fl.length - 1))).length) (nI (ssum (fun i => (flat fl).getD i 0) k)) (nI k)
  | 0, k, hk => by
    have h30 := fl30 hB hg
    have hb := hB.2.1
    have hE := take_mono (fl := fl) (Nat.sub_le fl.length 1)
    rw [List.take_length] at hE
    have hs := ssum_le (b := fun i => (flat fl).getD i 0) (n := k) (fun i _ => gd_lt hB.2.2.1 i)
    have hk2 : k = (flat (fl.take (fl.length - 1))).length := by omega
    refine ⟨fun _ => ?_, fun w => absurd (by rw [← hk2]; exact nI_le (Nat.le_refl _) (by omega)) w⟩
    rw [li_256, nI_mod (by omega) (by decide)]
    have t2 : (flat (fl.take 2)).length = frm_at fl 1 + (fl.getD 1 fz).2.length + 1 := take2 (i := 1) (by omega)
    have hm2 := take_mono (fl := fl) (show 2 ≤ fl.length - 1 by omega)
    have hmod : ssum (fun i => (flat fl).getD i 0) k % 256 < 256 := Nat.mod_lt _ (by decide)
    refine rM_numberAt (name := 10) hB hM hg (by omega) (by decide) ⟨fun w => h0 (fun q => w ?_), fun w => ?_⟩
    · rw [q.2.2.2.1, hk2]
      rfl
    · rw [oI_eq (fun v hv => by have := nA_lt hv; omega) (by omega)] at w
      refine rM_numberAt (i := 1) (name := 9) hB hM hg (by decide) (by decide) ?_
      have e12 : gA S 12 1 = nI (frm_at fl 1 + (fl.getD 1 fz).2.length) := (hM.2 1 (by omega)).2.2
      have ee : (nI (flat (fl.take (fl.length - 1))).length - gA S 12 (1 : Int32).toNatClampNeg - 1 : Int32) = nI ((flat (fl.take (fl.length - 1))).length - (flat (fl.take 2)).length) := by
        show (nI _ - gA S 12 1 - 1 : Int32) = _
        rw [e12, nI_sub (by omega), li_1, nI_sub (by omega)]
        congr 1
        omega
      rw [ee]
      refine ⟨fun z => h0 (fun q => z ?_), fun z => h1 ⟨h5, h10, h3, by rw [← hk2]; exact w, ?_⟩⟩
      · rw [q.2.2.2.2]
        rfl
      · rw [oI_eq (fun v hv => by have := nA_lt hv; omega) (by omega)] at z
        exact z
  | g + 1, k, hk => by
    have hb := hB.2.1
    have hE := take_mono (fl := fl) (Nat.sub_le fl.length 1)
    rw [List.take_length] at hE
    refine ⟨fun w => ?_, fun _ => ⟨vp_in_nI (by omega) (by decide), ?_⟩⟩
    · rw [nI_leI (by omega) (by omega)] at w
      omega
    · rw [nI_clamp (by omega), hB.2.2.2 k (by omega), nI_add, nI_1]
      exact rM_66 hB hM hg h5 h10 h3 h0 h1 g (k + 1) (by omega)
theorem rM_closed (hB : MB (flat fl) S) (hM : Mfl fl S) (hg : ∀ f ∈ fl, gdf f) (h0 : ¬ clA fl → K 0 S r) (h1 : clA fl → K 1 S r) : w_M_closed S r K := by
  have h30 := fl30 hB hg
  have hb := hB.2.1
  unfold w_M_closed
  by_cases hz : fl.length = 0
  · refine ⟨fun _ => h0 (fun q => by have := q.1; omega), fun w => absurd ?_ w⟩
    rw [hM.1, hz]
    decide
  · rw [hM.1, li_1, nI_sub (by omega)]
    refine ⟨fun w => h0 (fun q => ?_), fun w => ⟨vp_in_nI (by omega) (by decide), ?_⟩⟩
    · rw [li_4, nI_ltI (by omega) (by omega)] at w
      have := q.1
      omega
    · rw [li_4, nI_ltI (by omega) (by omega)] at w
      have hL : fl.length - 1 < fl.length := by omega
      obtain ⟨a1, a2, a3⟩ := hM.2 (fl.length - 1) hL
      have hlt := frm_lt hL
      have hgd : gdf (fl.getD (fl.length - 1) fz) := hg _ (by rw [List.getD_eq_getElem?_getD, List.getElem?_eq_getElem hL]; exact List.getElem_mem _)
      have hv : vp_in (nI (fl.length - 1)) 41 := vp_in_nI (by omega) (by decide)
      rw [nI_clamp (by omega), a1, a3, a2, nI_sub (by omega)]
      refine ⟨fun z => h0 (fun q => ?_), fun z => ⟨hv, hv, fun y => h0 (fun q => ?_), fun y => ?_⟩⟩
      · rw [q.2.1] at z
        exact z rfl
      · rw [Nat.add_sub_cancel_left, q.2.2.1] at y
        exact y rfl
      · rw [li_10, nI_eq (by have := hgd.2.1; omega) (by omega)] at z
        rw [li_3, nI_eq (by omega) (by omega)] at y
        refine rM_numberAt (name := 10) hB hM hg (by omega) (by decide) ⟨fun u => ⟨hv, ?_⟩, fun u => h0 (fun q => u ?_)⟩
        · have hE : frm_at fl (fl.length - 1) = (flat (fl.take (fl.length - 1))).length + 3 := by
            unfold frm_at
            rw [z]
            rfl
          rw [a2, hE, li_3, nI_sub (by omega), Nat.add_sub_cancel]
          exact ⟨_, rM_66 hB hM hg (by omega) z (by omega) h0 h1 (flat (fl.take (fl.length - 1))).length 0 (by omega)⟩
        · rw [q.2.2.2.1]
          have : ssum (fun i => (flat fl).getD i 0) (flat (fl.take (fl.length - 1))).length % 256 < 256 := Nat.mod_lt _ (by decide)
          exact nI_le (Nat.zero_le _) (by omega)
end CLO
