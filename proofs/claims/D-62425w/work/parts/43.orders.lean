/-! ===== orders ===== -/
def stt (x : RP) : Nat := if x.2.2.2.2 ≠ 0 then 4 else if x.2.2.1 ≤ x.2.2.2.1 then 2 else if x.2.2.2.1 = 0 then 0 else 1
def lft (x : RP) : Nat := if x.2.2.2.2 = 0 then x.2.2.1 - x.2.2.2.1 else 0
def rpo (n : Nat) (x : RP) : RP := (n, x.1, 48 + stt x, x.2.2.2.1, lft x)
def okO (x : RP) : Prop := 1 ≤ x.1 ∧ x.1 < 1000000 ∧ x.2.1 ≤ 2 ∧ x.2.2.1 < 1000000 ∧ x.2.2.2.1 ≤ x.2.2.1 ∧ x.2.2.2.2 ≤ 1
def cR (c : Nat → Nat) : Nat → Nat := if c 0 = 1 then up (up c 6 (c 4)) 2 (c 2 + 1) else up c 2 (c 2 + 1)
def frR (c : Nat → Nat) (fr : List (List Nat)) (x : RP) : List (List Nat) := if c 0 = 1 then fr ++ [frm (hdr 56 (c 2) false ++ repb x)] else fr
theorem stt_le (x : RP) : stt x ≤ 4 := by unfold stt; (repeat' split) <;> omega
theorem stt4 {x : RP} (h : x.2.2.2.2 ≠ 0) : stt x = 4 := if_pos h
theorem stt2 {x : RP} (h : x.2.2.2.2 = 0) (d : x.2.2.1 ≤ x.2.2.2.1) : stt x = 2 := by
  unfold stt
  rw [if_neg (fun q => q h), if_pos d]
theorem stt0 {x : RP} (h : x.2.2.2.2 = 0) (d : ¬ x.2.2.1 ≤ x.2.2.2.1) (e : x.2.2.2.1 = 0) : stt x = 0 := by
  unfold stt
  rw [if_neg (fun q => q h), if_neg d, if_pos e]
theorem stt1 {x : RP} (h : x.2.2.2.2 = 0) (d : ¬ x.2.2.1 ≤ x.2.2.2.1) (e : x.2.2.2.1 ≠ 0) : stt x = 1 := by
  unfold stt
  rw [if_neg (fun q => q h), if_neg d, if_neg e]
theorem stt_lt2 {x : RP} (h : x.2.2.2.2 = 0) (d : ¬ x.2.2.1 ≤ x.2.2.2.1) : stt x < 2 := by
  by_cases e : x.2.2.2.1 = 0
  · rw [stt0 h d e]; decide
  · rw [stt1 h d e]; decide
theorem rO_open {K : Int32 → Prop} {x : RP} {i s : Int32} (hx : okO x) (h : K (if stt x < 2 then 1 else 0)) : w_O_open i s (nI x.2.2.1) (nI x.2.2.2.1) (nI x.2.2.2.2) K := by
  obtain ⟨h1, h2, h3, h4, h5, h6⟩ := hx
  refine ⟨fun c => ?_, fun c => ⟨fun d => ?_, fun d => ?_⟩⟩
  · rw [li_0, nI_eq (by omega) (by omega)] at c
    rw [stt4 c, if_neg (by decide)] at h
    exact h
  · rw [li_0, nI_eq (by omega) (by omega)] at c
    rw [nI_leI (by omega) (by omega)] at d
    rw [stt2 c d, if_neg (by decide)] at h
    exact h
  · rw [li_0, nI_eq (by omega) (by omega)] at c
    rw [nI_leI (by omega) (by omega)] at d
    rw [if_pos (stt_lt2 c d)] at h
    exact h
theorem rO_state {K : Int32 → Prop} {x : RP} {i s : Int32} (hx : okO x) (h : K (nI (stt x))) : w_O_state i s (nI x.2.2.1) (nI x.2.2.2.1) (nI x.2.2.2.2) K := by
  have hx' := hx
  obtain ⟨h1, h2, h3, h4, h5, h6⟩ := hx
  refine ⟨fun c => rO_open hx' ?_, fun c => ?_⟩
  · rw [li_0, nI_eq (by omega) (by omega)] at c
    by_cases d : x.2.2.1 ≤ x.2.2.2.1
    · rw [stt2 c d] at h ⊢
      exact ⟨fun e => absurd (if_neg (by decide)) e, fun _ => h⟩
    · rw [if_pos (stt_lt2 c d)]
      refine ⟨fun _ => ⟨fun e => ?_, fun e => ?_⟩, fun e => absurd e (by decide)⟩
      · rw [li_0, nI_leI (by omega) (by omega)] at e
        rw [stt0 c d (by omega)] at h
        exact h
      · rw [li_0, nI_leI (by omega) (by omega)] at e
        rw [stt1 c d (by omega)] at h
        exact h
  · rw [li_0, nI_eq (by omega) (by omega)] at c
    rw [stt4 c] at h
    exact h
theorem chr5 : ∀ s : Nat, s < 5 → (((48 : Int32) + nI s).toUInt32 % 65536).toInt32 = nI (48 + s) := by decide +kernel
theorem rpo_ok {n : Nat} {x : RP} (hx : okO x) : (rpo n x).2.1 < 1000000 ∧ (rpo n x).2.2.1 < 128 ∧ (rpo n x).2.2.2.1 < 1000000 ∧ (rpo n x).2.2.2.2 < 1000000 := by
  obtain ⟨h1, h2, h3, h4, h5, h6⟩ := hx
  have := stt_le x
  refine ⟨h2, ?_, ?_, ?_⟩
  · show 48 + stt x < 128; omega
  · show x.2.2.2.1 < _; omega
  · show lft x < _
    unfold lft
    split <;> omega
section OT
variable {K : XS → List AE → Prop} {S : XS} {r : List AE} {c : Nat → Nat} {fr : List (List Nat)} {rp od : List RP} {us : List Nat} {q : Nat}
theorem rT_tell {x : RP} {p1 : Nat} (hT : TT c fr rp od us q S r) (hp : rl r p1 = some (ocell x)) (hx : okO x) (h01 : c 0 ≤ 1) (hc : c 2 < 1000000) (hq : q + 1 ≤ 5000) (hfr : fr.length < 999999) (h : ∀ S' r', TT (cR c) (frR c fr (rpo (c 2) x)) (rp ++ [rpo (c 2) x]) od us (q + 1) S' r' → kT S S' → kO r r' → K S' r') : w_T_tell S r p1 K := by
  have hok := rpo_ok (n := c 2) hx
  have hst := stt_le x
  refine ⟨_, _, _, _, _, hp, rO_state hx ?_⟩
  rw [chr5 _ (by omega)]
  obtain ⟨h1, h2, h3, h4, h5, h6⟩ := hx
  refine ⟨fun e => ?_, fun e => ?_⟩
  · rw [li_0, nI_eq (by omega) (by omega)] at e
    rw [nI_sub h5]
    have e2 : lft x = x.2.2.1 - x.2.2.2.1 := if_pos e
    rw [← e2]
    exact rT_report hT h01 hc hq hfr hok h
  · rw [li_0, nI_eq (by omega) (by omega)] at e
    have e2 : lft x = 0 := if_neg e
    have := rT_report (K := K) hT h01 hc hq hfr hok h
    have e3 : (rpo (c 2) x).2.2.2.2 = 0 := e2
    rw [e3] at this
    exact this
theorem rM_state {K : Int32 → XS → List AE → Prop} {k : Nat} (hD : MD od S) (hk : k < od.length) (hx : okO (od.getD k oz)) (h : K (nI (stt (od.getD k oz))) S r) : w_M_state S r (nI k) K := by
  obtain ⟨d1, d2, d3⟩ := hD
  obtain ⟨a1, a2, a3, a4, a5⟩ := d3 k hk
  have hv : vp_in (nI k) 40 := vp_in_nI (by omega) (by decide)
  unfold w_M_state
  rw [nI_clamp (by omega), a3, a4, a5]
  generalize od.getD k oz = x at *
  obtain ⟨h1, h2, h3, h4, h5, h6⟩ := hx
  refine ⟨hv, fun e => ⟨hv, hv, fun f => ⟨hv, fun g => ?_, fun g => ?_⟩, fun f => ?_⟩, fun e => ?_⟩
  · rw [li_0, nI_eq (by omega) (by omega)] at e
    rw [nI_eq (by omega) (by omega)] at f
    rw [li_0, nI_leI (by omega) (by omega)] at g
    rw [stt0 e (by omega) (by omega)] at h
    exact h
  · rw [li_0, nI_eq (by omega) (by omega)] at e
    rw [nI_eq (by omega) (by omega)] at f
    rw [li_0, nI_leI (by omega) (by omega)] at g
    rw [stt1 e (by omega) (by omega)] at h
    exact h
  · rw [li_0, nI_eq (by omega) (by omega)] at e
    rw [nI_eq (by omega) (by omega)] at f
    rw [stt2 e (by omega)] at h
    exact h
  · rw [li_0, nI_eq (by omega) (by omega)] at e
    rw [stt4 e] at h
    exact h
theorem rM_tell {k : Nat} (hM : MM c fr rp od us S) (hk : k < od.length) (hx : okO (od.getD k oz)) (h01 : c 0 ≤ 1) (hc : c 2 < 1600) (hr : rok rp (c 2)) (hfr : fr.length < 999999) (h : ∀ S', MM (cR c) (frR c fr (rpo (c 2) (od.getD k oz))) (rp ++ [rpo (c 2) (od.getD k oz)]) od us S' → kM S S' → K S' r) : w_M_tell S r (nI k) K := by
  have hD := hM.2.2.2.1
  have hv : vp_in (nI k) 40 := vp_in_nI (by have := hD.2.1; omega) (by decide)
  have hok := rpo_ok (n := c 2) hx
  refine ⟨hv, rM_state hD hk hx ⟨hv, hv, fun e => ⟨hv, hv, ?_⟩, fun e => ?_⟩⟩
  · obtain ⟨a1, a2, a3, a4, a5⟩ := hD.2.2 k hk
    have h40 := hD.2.1
    rw [nI_clamp (by omega)] at *
    obtain ⟨h1, h2, h3, h4, h5, h6⟩ := hx
    rw [a5, li_0, nI_eq (by omega) (by omega)] at e
    refine sndR (x := rpo (c 2) (od.getD k oz)) hM h01 hc hr hfr rfl hok ⟨a1, ?_, a4, ?_⟩ h
    · rw [li_48, nI_add]; rfl
    · rw [a3, a4, nI_sub h5]
      have e2 : lft (od.getD k oz) = (od.getD k oz).2.2.1 - (od.getD k oz).2.2.2.1 := if_pos e
      rw [← e2]
      rfl
  · obtain ⟨a1, a2, a3, a4, a5⟩ := hD.2.2 k hk
    have h40 := hD.2.1
    rw [nI_clamp (by omega)] at *
    obtain ⟨h1, h2, h3, h4, h5, h6⟩ := hx
    rw [a5, li_0, nI_eq (by omega) (by omega)] at e
    refine sndR (x := rpo (c 2) (od.getD k oz)) hM h01 hc hr hfr rfl hok ⟨a1, ?_, a4, ?_⟩ h
    · rw [li_48, nI_add]; rfl
    · have e2 : lft (od.getD k oz) = 0 := if_neg e
      show (0 : Int32) = nI (lft (od.getD k oz))
      rw [e2]
      rfl
/-- used ids -/
def uok (us : List Nat) : Prop := us.length < 520 ∧ ∀ x ∈ us, x < 1000000
theorem us_at {us : List Nat} {k : Nat} (h : k < us.length) : us.getD k 0 ∈ us := by
  rw [List.getD_eq_getElem?_getD, List.getElem?_eq_getElem h]
  exact List.getElem_mem _
theorem us_no {us : List Nat} {v : Nat} (h : ∀ j < us.length, us.getD j 0 ≠ v) : v ∉ us := by
  intro hm
  obtain ⟨n, hn, e⟩ := List.mem_iff_getElem.mp hm
  refine h n hn ?_
  rw [List.getD_eq_getElem?_getD, List.getElem?_eq_getElem hn, e]
  rfl
theorem rT_used2 {K : Int32 → XS → List AE → Prop} {v : Nat} (hU : TU us S) (hu : uok us) (hv : v < 1000000) (h : K (if v ∈ us then 1 else 0) S r) : ∀ (g k : Nat), k ≤ us.length → k + g = us.length + 1 → (∀ j < k, us.getD j 0 ≠ v) → w_T_isUsed_2 K g S r (nI v) (nI k)
  | 0, k, hk0, hk, hj => absurd hk (by omega)
  | g + 1, k, hk0, hk, hj => by
    have hu1 := hu.1
    refine ⟨fun e => ?_, fun e => ⟨?_, fun f => ?_, fun f => ?_⟩⟩
    · rw [hU.1, nI_leI (by omega) (by omega)] at e
      rw [if_neg (us_no (fun j hj2 => hj j (by omega)))] at h
      exact h
    · rw [hU.1, nI_leI (by omega) (by omega)] at e
      exact vp_in_nI (by omega) (by decide)
    · rw [hU.1, nI_leI (by omega) (by omega)] at e
      have := hu.2 _ (us_at (show k < us.length by omega))
      rw [nI_clamp (by omega), hU.2 k (by omega), nI_eq (by omega) (by omega)] at f
      rw [nI_1]
      refine rT_used2 hU hu hv h g (k + 1) (by omega) (by omega) (fun j hj2 => ?_)
      by_cases e2 : j = k
      · rw [e2]; exact f
      · exact hj j (by omega)
    · rw [hU.1, nI_leI (by omega) (by omega)] at e
      have hm := us_at (show k < us.length by omega)
      have := hu.2 _ hm
      rw [nI_clamp (by omega), hU.2 k (by omega), nI_eq (by omega) (by omega)] at f
      rw [f] at hm
      rw [if_pos hm] at h
      exact h
theorem rT_isUsed {K : Int32 → XS → List AE → Prop} {v : Nat} (hU : TU us S) (hu : uok us) (hv : v < 1000000) (h : K (if v ∈ us then 1 else 0) S r) : w_T_isUsed S r (nI v) K := ⟨us.length + 1, rT_used2 hU hu hv h (us.length + 1) 0 (Nat.zero_le _) (by omega) (fun j hj => absurd hj (by omega))⟩
theorem rM_used4 {K : Int32 → XS → List AE → Prop} {v : Nat} (hU : MU us S) (hu : uok us) (hv : v < 1000000) (h : K (if v ∈ us then 1 else 0) S r) : ∀ (g k : Nat) (b : Bool), k ≤ us.length → k + g = us.length + 1 → ((b = true ∧ v ∈ us) ∨ (b = false ∧ ∀ j < k, us.getD j 0 ≠ v)) → w_M_isUsed_4 K g S r (nI v) (if b then 1 else 0) (nI k)
  | 0, k, b, hk0, hk, hj => absurd hk (by omega)
  | g + 1, k, b, hk0, hk, hj => by
    have hu1 := hu.1
    refine ⟨fun e => ?_, fun e => ⟨fun f => ?_, fun f => ⟨?_, fun d => ?_, fun d => ?_⟩⟩⟩
    · rw [hU.1, nI_leI (by omega) (by omega)] at e
      have hb : (if b then (1 : Int32) else 0) = (if v ∈ us then 1 else 0) := by
        rcases hj with ⟨rfl, hm⟩ | ⟨rfl, hm⟩
        · rw [if_pos hm]; rfl
        · rw [if_neg (us_no (fun j hj2 => hm j (by omega)))]; rfl
      rw [hb]
      refine ⟨?_, h⟩
      split <;> rfl
    · rw [hU.1, nI_leI (by omega) (by omega)] at e
      rcases hj with ⟨rfl, hm⟩ | ⟨rfl, hm⟩
      · show w_M_isUsed_4 K g S r (nI v) 1 (nI k + 1)
        rw [nI_1]
        exact rM_used4 hU hu hv h g (k + 1) true (by omega) (by omega) (Or.inl ⟨rfl, hm⟩)
      · exact absurd rfl f
    · rw [hU.1, nI_leI (by omega) (by omega)] at e
      exact vp_in_nI (by omega) (by decide)
    · rw [hU.1, nI_leI (by omega) (by omega)] at e
      have := hu.2 _ (us_at (show k < us.length by omega))
      rw [nI_clamp (by omega), hU.2 k (by omega), nI_eq (by omega) (by omega)] at d
      show w_M_isUsed_4 K g S r (nI v) 0 (nI k + 1)
      rw [nI_1]
      refine rM_used4 hU hu hv h g (k + 1) false (by omega) (by omega) ?_
      rcases hj with ⟨rfl, hm⟩ | ⟨rfl, hm⟩
      · exact absurd f (by decide)
      · refine Or.inr ⟨rfl, fun j hj2 => ?_⟩
        by_cases e2 : j = k
        · rw [e2]; exact d
        · exact hm j (by omega)
    · rw [hU.1, nI_leI (by omega) (by omega)] at e
      have hm := us_at (show k < us.length by omega)
      have := hu.2 _ hm
      rw [nI_clamp (by omega), hU.2 k (by omega), nI_eq (by omega) (by omega)] at d
      rw [d] at hm
      show w_M_isUsed_4 K g S r (nI v) 1 (nI k + 1)
      rw [nI_1]
      exact rM_used4 hU hu hv h g (k + 1) true (by omega) (by omega) (Or.inl ⟨rfl, hm⟩)
theorem rM_isUsed {K : Int32 → XS → List AE → Prop} {v : Nat} (hU : MU us S) (hu : uok us) (hv : v < 1000000) (h : K (if v ∈ us then 1 else 0) S r) : w_M_isUsed S r (nI v) K := ⟨us.length + 1, rM_used4 hU hu hv h (us.length + 1) 0 false (Nat.zero_le _) (by omega) (Or.inr ⟨rfl, fun j hj => absurd hj (by omega)⟩)⟩
/-- orders: what holds of them -/
def ook (od : List RP) (us : List Nat) : Prop := (∀ k < od.length, okO (od.getD k oz) ∧ (od.getD k oz).1 ∈ us) ∧ ∀ j k, j < od.length → k < od.length → (od.getD j oz).1 = (od.getD k oz).1 → j = k
/-- which order has this id -/
def hasId (od : List RP) (p : Int32) (k : Nat) : Prop := k < od.length ∧ nI (od.getD k oz).1 = p
theorem hasId_eq {od : List RP} {us : List Nat} {p : Int32} {j k : Nat} (ho : ook od us) (h1 : hasId od p j) (h2 : hasId od p k) : j = k := by
  have a := (ho.1 j h1.1).1
  have b := (ho.1 k h2.1).1
  have e := h1.2.trans h2.2.symm
  rw [nI_eq (by have := a.2.1; omega) (by have := b.2.1; omega)] at e
  exact ho.2 j k h1.1 h2.1 e
theorem rT_find2 {K : Nat → XS → List AE → Prop} {oa : Nat → Nat} {p : Int32} (hD : TDx od S r oa) (h0 : (∀ k, ¬ hasId od p k) → K 0 S r) (h1 : ∀ k, hasId od p k → K (oa k) S r) : ∀ (g k : Nat), k ≤ od.length → k + g = od.length + 1 → (∀ j < k, ¬ hasId od p j) → w_T_find_2 K g S r p (nI k)
  | 0, k, hk0, hk, hj => absurd hk (by omega)
  | g + 1, k, hk0, hk, hj => by
    obtain ⟨d1, d2, d3, d4⟩ := hD
    refine ⟨fun e => ?_, fun e => ?_⟩
    · rw [d1, nI_leI (by omega) (by omega)] at e
      exact h0 (fun j hh => hj j (by have := hh.1; omega) hh)
    · rw [d1, nI_leI (by omega) (by omega)] at e
      obtain ⟨e1, e2⟩ := d3 k (by omega)
      rw [nI_clamp (by omega), e1]
      refine ⟨vp_in_nI (by omega) (by decide), _, _, _, _, _, e2, fun f => ?_, fun f => ⟨vp_in_nI (by omega) (by decide), ?_⟩⟩
      · rw [nI_1]
        refine rT_find2 ⟨d1, d2, d3, d4⟩ h0 h1 g (k + 1) (by omega) (by omega) (fun j hj2 => ?_)
        by_cases e3 : j = k
        · rw [e3]; exact fun q => f q.2
        · exact hj j (by omega)
      · exact h1 k ⟨by omega, f⟩
theorem rT_find {K : Nat → XS → List AE → Prop} {oa : Nat → Nat} {p : Int32} (hD : TDx od S r oa) (h0 : (∀ k, ¬ hasId od p k) → K 0 S r) (h1 : ∀ k, hasId od p k → K (oa k) S r) : w_T_find S r p K := ⟨od.length + 1, rT_find2 hD h0 h1 (od.length + 1) 0 (Nat.zero_le _) (by omega) (fun j hj => absurd hj (by omega))⟩
/-- the model's search, with a test that a place must meet -/
theorem rM_open4 {K : Int32 → XS → List AE → Prop} {p : Int32} (hD : MD od S) (ho : ook od us) (h0 : (∀ k, hasId od p k → ¬ stt (od.getD k oz) < 2) → K (-1) S r) (h1 : ∀ k, hasId od p k → stt (od.getD k oz) < 2 → K (nI k) S r) : ∀ (g k : Nat) (v : Int32), k ≤ od.length → k + g = od.length + 1 → ((v = -1 ∧ ∀ j < k, hasId od p j → ¬ stt (od.getD j oz) < 2) ∨ ∃ j, j < k ∧ v = nI j ∧ hasId od p j ∧ stt (od.getD j oz) < 2) → w_M_openOrder_4 K g S r p v (nI k)
  | 0, k, v, hk0, hk, hj => absurd hk (by omega)
  | g + 1, k, v, hk0, hk, hj => by
    have d2 := hD.2.1
    refine ⟨fun e => ?_, fun e => ?_⟩
    · rw [hD.1, nI_leI (by omega) (by omega)] at e
      rcases hj with ⟨rfl, hm⟩ | ⟨j, j1, rfl, j2, j3⟩
      · exact h0 (fun j hh => hm j (by have := hh.1; omega) hh)
      · exact h1 j j2 j3
    · rw [hD.1, nI_leI (by omega) (by omega)] at e
      have go : ∀ v', ((v' = -1 ∧ ∀ j < k + 1, hasId od p j → ¬ stt (od.getD j oz) < 2) ∨ ∃ j, j < k + 1 ∧ v' = nI j ∧ hasId od p j ∧ stt (od.getD j oz) < 2) → w_M_openOrder_4 K g S r p v' (nI k + 1) := by
        intro v' hv'
        rw [nI_1]
        exact rM_open4 hD ho h0 h1 g (k + 1) v' (by omega) (by omega) hv'
      have keep : ¬ (hasId od p k ∧ stt (od.getD k oz) < 2) → ((v = -1 ∧ ∀ j < k + 1, hasId od p j → ¬ stt (od.getD j oz) < 2) ∨ ∃ j, j < k + 1 ∧ v = nI j ∧ hasId od p j ∧ stt (od.getD j oz) < 2) := by
        intro hn
        rcases hj with ⟨a, hm⟩ | ⟨j, j1, j2⟩
        · refine Or.inl ⟨a, fun j hj2 hh => ?_⟩
          by_cases e3 : j = k
          · subst e3
            exact fun q => hn ⟨hh, q⟩
          · exact hm j (by omega) hh
        · exact Or.inr ⟨j, by omega, j2⟩
      obtain ⟨a1, -⟩ := hD.2.2 k (by omega)
      rw [nI_clamp (by omega), a1]
      refine ⟨vp_in_nI (by omega) (by decide), fun f => go v (keep (fun q => f q.1.2)), fun f => ?_⟩
      have ok := (ho.1 k (by omega)).1
      have hst := stt_le (od.getD k oz)
      refine rM_state hD (by omega) ok ⟨fun e2 => ?_, fun e2 => ?_⟩
      · rw [li_2, nI_leI (by omega) (by omega)] at e2
        exact go v (keep (fun q => by omega))
      · rw [li_2, nI_leI (by omega) (by omega)] at e2
        exact go (nI k) (Or.inr ⟨k, by omega, rfl, ⟨by omega, f⟩, by omega⟩)
theorem rM_openOrder {K : Int32 → XS → List AE → Prop} {p : Int32} (hD : MD od S) (ho : ook od us) (h0 : (∀ k, hasId od p k → ¬ stt (od.getD k oz) < 2) → K (-1) S r) (h1 : ∀ k, hasId od p k → stt (od.getD k oz) < 2 → K (nI k) S r) : w_M_openOrder S r p K := ⟨od.length + 1, rM_open4 hD ho h0 h1 (od.length + 1) 0 (-1) (Nat.zero_le _) (by omega) (Or.inl ⟨rfl, fun j hj => absurd hj (by omega)⟩)⟩
end OT
