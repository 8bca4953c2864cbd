/-! ===== the law's loop ===== -/
theorem J.w {N : Nat} {S : XS} {r : List AE} (h : J N S r) : J (N + 1) S r := by
  obtain ⟨A, ib, q, h1, h2, h3, h4, h5, h6⟩ := h
  exact ⟨A, ib, q, inv_w h1 (by omega) (by omega), h2, h3, h4, h5, by omega⟩
def c00 : Nat → Nat := fun k => if k = 1 then 1 else if k = 2 then 1 else 0
theorem J0 : J 0 S0 [] := by
  refine ⟨(c00, [], [], [], []), [], 0, ?_, ?_, ?_, ?_, ?_, by omega⟩
  · refine ⟨?_, ⟨(fun x hx => by cases hx), List.Pairwise.nil⟩, Nat.zero_le _, ⟨fun k hk => absurd hk (Nat.not_lt_zero _), fun j k hj => absurd hj (Nat.not_lt_zero _)⟩, ⟨by decide, (fun x hx => by cases hx)⟩, Nat.zero_le _, Nat.zero_le _, by show 0 < 20000; decide⟩
    show invc 1 0 c00
    simp [invc, c00]
  · refine ⟨⟨rfl, rfl, rfl, rfl, rfl, fun e => absurd e (by decide), rfl, rfl, rfl⟩, ⟨rfl, by show 0 < 1000000; decide, 0, fun _ => 0, Nat.zero_le _, fun k hk => ?_, fun k hk => absurd hk (Nat.not_lt_zero _), fun j k _ hk => absurd hk (Nat.not_lt_zero _), fun k _ hk => absurd hk (Nat.not_lt_zero _), Nat.zero_le _, Nat.zero_le _⟩, ⟨fun _ => 0, fun i hi => absurd hi (Nat.not_lt_zero _), fun i j _ hj => absurd hj (Nat.not_lt_zero _), rfl, rfl⟩, ⟨fun _ => 0, rfl, Nat.zero_le _, fun k hk => absurd hk (Nat.not_lt_zero _), fun i j _ hj => absurd hj (Nat.not_lt_zero _)⟩, ⟨rfl, fun k hk => absurd hk (Nat.not_lt_zero _)⟩⟩
    rw [if_neg (Nat.not_lt_zero _)]
    rfl
  · refine ⟨⟨rfl, rfl, rfl, rfl, rfl, fun e => absurd e (by decide), rfl, rfl, rfl⟩, ⟨rfl, by show 0 < 1000000; decide, fun k hk => absurd hk (Nat.not_lt_zero _)⟩, ?_, ⟨rfl, Nat.zero_le _, fun k hk => absurd hk (Nat.not_lt_zero _)⟩, ⟨rfl, fun k hk => absurd hk (Nat.not_lt_zero _)⟩⟩
    intro n h1 h2
    have h2' : n < 1 := h2
    omega
  · exact ⟨rfl, by decide, (fun x hx => by cases hx), fun i hi => absurd hi (Nat.not_lt_zero _)⟩
  · exact MI_nil rfl
theorem sub7 {L j : Nat} (hL : L < 2 ^ 31) (hj : j < 2 ^ 31) : Int32.ofNat L - 7 < nI j ↔ L < j + 7 := by
  show nI L - nI 7 < nI j ↔ _
  by_cases h : 7 ≤ L
  · rw [nI_sub h, nI_ltI (by omega) hj]
    omega
  · constructor
    · intro _; omega
    · intro _
      rw [Int32.lt_iff_toInt_lt, nI_toInt hj]
      have : L = 0 ∨ L = 1 ∨ L = 2 ∨ L = 3 ∨ L = 4 ∨ L = 5 ∨ L = 6 := by omega
      rcases this with rfl | rfl | rfl | rfl | rfl | rfl | rfl
      · rw [show (nI 0 - nI 7).toInt = -7 by decide]; omega
      · rw [show (nI 1 - nI 7).toInt = -6 by decide]; omega
      · rw [show (nI 2 - nI 7).toInt = -5 by decide]; omega
      · rw [show (nI 3 - nI 7).toInt = -4 by decide]; omega
      · rw [show (nI 4 - nI 7).toInt = -3 by decide]; omega
      · rw [show (nI 5 - nI 7).toInt = -2 by decide]; omega
      · rw [show (nI 6 - nI 7).toInt = -1 by decide]; omega
theorem law_loop (G : XG) (hL : G.L ≤ 3584) : ∀ (n N : Nat) (S : XS) (r : List AE), J N S r → 7 * N ≤ G.L → G.L < 7 * N + 7 * n + 7 → w_L_law_23 G (fun x _ _ => x = 1) (n + 1) S r (nI (7 * N)) := by
  intro n
  induction n with
  | zero =>
    intro N S r hJ hN hf
    refine ⟨fun _ => rfl, fun w => absurd ?_ w⟩
    rw [sub7 (by omega) (by omega)]
    omega
  | succ n ih =>
    intro N S r hJ hN0 hf
    refine ⟨fun _ => rfl, fun w => ?_⟩
    rw [sub7 (by omega) (by omega)] at w
    have hN : N ≤ 512 := by omega
    have vin : ∀ k, k < 7 → vp_in (nI (7 * N) + nI k) G.L := fun k hk => by
      rw [nI_add]
      exact vp_in_nI (by omega) (by omega)
    have v0 : vp_in (nI (7 * N)) G.L := vp_in_nI (by omega) (by omega)
    have v1 : vp_in (nI (7 * N) + 1) G.L := vin 1 (by decide)
    have v2 : vp_in (nI (7 * N) + 2) G.L := vin 2 (by decide)
    have v3 : vp_in (nI (7 * N) + 3) G.L := vin 3 (by decide)
    have v4 : vp_in (nI (7 * N) + 4) G.L := vin 4 (by decide)
    have v5 : vp_in (nI (7 * N) + 5) G.L := vin 5 (by decide)
    have v6 : vp_in (nI (7 * N) + 6) G.L := vin 6 (by decide)
    have hC : ∀ S' r', J (N + 1) S' r' → w_L_law_23 G (fun x _ _ => x = 1) (n + 1) S' r' (nI (7 * N) + 7) := by
      intro S' r' h
      have e : nI (7 * N) + 7 = nI (7 * (N + 1)) := by
        rw [li_7, nI_add]
        congr 1
      rw [e]
      exact ih (N + 1) S' r' h (by omega) (by omega)
    refine ⟨v0, fun _ => hC _ _ hJ.w, fun _ => ⟨v1, v2, v3, fun c => ⟨v4, v5, v6, ?_⟩, fun c => ⟨v4, v5, v6, ?_⟩⟩, fun _ => ⟨v1, v2, ?_⟩, fun _ => ⟨v1, ?_⟩, fun _ => ?_, fun _ => ?_, fun _ => ?_, fun _ => ⟨v1, v2, ?_⟩, fun _ => ?_, fun _ => ⟨v1, ?_⟩, fun _ => ⟨v1, v2, ?_⟩, fun _ => ⟨v1, ?_⟩, fun _ => ⟨v1, v2, ?_⟩⟩
    · exact rJ_give (dup := false) (K := fun x _ _ => x = 1) (C := fun S' r' => w_L_law_23 G (fun x _ _ => x = 1) (n + 1) S' r' (nI (7 * N) + 7)) hJ hN hC (fun k S1 r1 h => ⟨v1, v2, v3, fun _ => ⟨v4, v5, v6, h⟩, fun z => absurd c z⟩)
    · exact rJ_give (dup := true) (K := fun x _ _ => x = 1) (C := fun S' r' => w_L_law_23 G (fun x _ _ => x = 1) (n + 1) S' r' (nI (7 * N) + 7)) hJ hN hC (fun k S1 r1 h => ⟨v1, v2, v3, fun z => absurd z c, fun _ => ⟨v4, v5, v6, h⟩⟩)
    · exact rJ_spoil (K := fun x _ _ => x = 1) (C := fun S' r' => w_L_law_23 G (fun x _ _ => x = 1) (n + 1) S' r' (nI (7 * N) + 7)) hJ hN hC (fun k S1 r1 h => ⟨v1, v2, h⟩)
    · exact rJ_add (K := fun x _ _ => x = 1) (C := fun S' r' => w_L_law_23 G (fun x _ _ => x = 1) (n + 1) S' r' (nI (7 * N) + 7)) hJ hN hC (fun k S1 r1 h => ⟨v1, h⟩)
    · exact rJ_take (K := fun x _ _ => x = 1) (C := fun S' r' => w_L_law_23 G (fun x _ _ => x = 1) (n + 1) S' r' (nI (7 * N) + 7)) hJ hN hC (fun k S1 r1 h => h)
    · exact rJ_tick (K := fun x _ _ => x = 1) (C := fun S' r' => w_L_law_23 G (fun x _ _ => x = 1) (n + 1) S' r' (nI (7 * N) + 7)) hJ hN hC
    · exact rJ_restart (K := fun x _ _ => x = 1) (C := fun S' r' => w_L_law_23 G (fun x _ _ => x = 1) (n + 1) S' r' (nI (7 * N) + 7)) hJ hC
    · exact rJ_fill (K := fun x _ _ => x = 1) (C := fun S' r' => w_L_law_23 G (fun x _ _ => x = 1) (n + 1) S' r' (nI (7 * N) + 7)) hJ hN hC (fun k S1 r1 h => ⟨v1, v2, h⟩)
    · exact rJ_frames (K := fun x _ _ => x = 1) (C := fun S' r' => w_L_law_23 G (fun x _ _ => x = 1) (n + 1) S' r' (nI (7 * N) + 7)) hJ hC
    · exact rJ_length (K := fun x _ _ => x = 1) (C := fun S' r' => w_L_law_23 G (fun x _ _ => x = 1) (n + 1) S' r' (nI (7 * N) + 7)) hJ hN hC (fun k S1 r1 h => ⟨v1, h⟩)
    · exact rJ_octet (K := fun x _ _ => x = 1) (C := fun S' r' => w_L_law_23 G (fun x _ _ => x = 1) (n + 1) S' r' (nI (7 * N) + 7)) hJ hN hC (fun k S1 r1 h => ⟨v1, v2, h⟩)
    · exact rJ_session (K := fun x _ _ => x = 1) (C := fun S' r' => w_L_law_23 G (fun x _ _ => x = 1) (n + 1) S' r' (nI (7 * N) + 7)) hJ hN hC (fun k S1 r1 h => ⟨v1, h⟩)
    · exact rJ_order (K := fun x _ _ => x = 1) (C := fun S' r' => w_L_law_23 G (fun x _ _ => x = 1) (n + 1) S' r' (nI (7 * N) + 7)) hJ hN hC (fun k S1 r1 h => ⟨v1, v2, h⟩)
/-- THE LAW -/
theorem law_ok (G : XG) (l : Launch) (hL : G.L ≤ 3584) : xRn G l 16 xm_law (fun u _ => u = .inl (some (.int 1))) 0 [.ref 11, .null, .null, .null, .null, .null, .null] [] [] :=
  law_start (600 + 1) (law_loop G hL 600 0 S0 [] J0 (Nat.zero_le _) (by omega))
