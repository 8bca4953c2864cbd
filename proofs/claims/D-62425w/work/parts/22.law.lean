theorem lk_V_L_add_21_T_add_0_1 : xlkV xm_L_add 21 xm_T_add 0 1 := by unfold xlkV; decide +kernel
theorem lk_V_L_fill_31_T_fill_0_2 : xlkV xm_L_fill 31 xm_T_fill 0 2 := by unfold xlkV; decide +kernel
theorem lk_V_L_give_7_T_give_0_6 : xlkV xm_L_give 7 xm_T_give 0 6 := by unfold xlkV; decide +kernel
theorem lk_V_L_length_36_T_length_0_1 : xlkV xm_L_length 36 xm_T_length 0 1 := by unfold xlkV; decide +kernel
theorem lk_V_L_octet_39_T_octet_0_2 : xlkV xm_L_octet 39 xm_T_octet 0 2 := by unfold xlkV; decide +kernel
theorem lk_V_L_order_45_T_order_0_2 : xlkV xm_L_order 45 xm_T_order 0 2 := by unfold xlkV; decide +kernel
theorem lk_V_L_session_42_T_session_0_1 : xlkV xm_L_session 42 xm_T_session 0 1 := by unfold xlkV; decide +kernel
theorem lk_V_L_spoil_15_T_spoil_0_2 : xlkV xm_L_spoil 15 xm_T_spoil 0 2 := by unfold xlkV; decide +kernel
theorem lk_V_L_take_27_T_take_0_0 : xlkV xm_L_take 27 xm_T_take 0 0 := by unfold xlkV; decide +kernel
/-! L_give -/
def w_L_give  (S : XS) (r : List AE) (p2 : Int32) (p3 : Int32) (p4 : Int32) (p5 : Int32) (p6 : Int32) (p7 : Int32) (K : Int32 → XS → List AE → Prop) : Prop :=
  (w_T_give S r p2 p3 p4 p5 p6 p7 (fun x1 S2 r3 => (K 0 (sO S2 (vp_updL (gO S2) (0 : Int32).toNatClampNeg (x1.toInt64))) r3)) (fun ci S r => (ci = 7 ∧ (K 1 S r))))
set_option maxRecDepth 100000 in
theorem c_L_give {G : XG} {l : Launch} {d : Nat} (S : XS) (r : List AE) (p2 : Int32) (p3 : Int32) (p4 : Int32) (p5 : Int32) (p6 : Int32) (p7 : Int32) {K : Int32 → XS → List AE → Prop} (h : w_L_give  S r p2 p3 p4 p5 p6 p7 K) : xCt G l (d + 7) xm_L_give [.ref 16, .int p2, .int p3, .int p4, .int p5, .int p6, .int p7, .ref 39] (hL S r) (pI K) := by
  refine xCt.intro (by decide) (by decide) (List.forall_mem_cons.mpr ⟨rfl, (List.forall_mem_cons.mpr ⟨rfl, (List.forall_mem_cons.mpr ⟨rfl, (List.forall_mem_cons.mpr ⟨rfl, (List.forall_mem_cons.mpr ⟨rfl, (List.forall_mem_cons.mpr ⟨rfl, (List.forall_mem_cons.mpr ⟨rfl, (List.forall_mem_cons.mpr ⟨rfl, (fun _ h => by cases h)⟩)⟩)⟩)⟩)⟩)⟩)⟩)⟩) (Nat.le_of_ble_eq_true rfl) rfl ?_
  show xRn G l _ xm_L_give _ 0 [.ref 16, .int p2, .int p3, .int p4, .int p5, .int p6, .int p7, .ref 39, .null] [] (hL S r)
  refine xRn.blk (pc1 := 13) (ls1 := [.ref 16, .int p2, .int p3, .int p4, .int p5, .int p6, .int p7, .ref 39, .null]) (st1 := [.int p7, .int p6, .int p5, .int p4, .int p3, .int p2, .ref 16, .int 0, .ref 39]) (hp1 := (hL S r)) (ob := []) [(.aload 7, 2, 7, 0, 0, 0), (.iconst 0, 1, 0, 0, 0, 0), (.aload_n 0, 1, 0, 0, 0, 0), (.iload_n 1, 1, 1, 0, 0, 0), (.iload_n 2, 1, 2, 0, 0, 0), (.iload_n 3, 1, 3, 0, 0, 0), (.iload 4, 2, 4, 0, 0, 0), (.iload 5, 2, 5, 0, 0, 0), (.iload 6, 2, 6, 0, 0, 0)] [] (by decide +kernel) rfl xall_nil (xSee_nil _) rfl rfl ?_
  refine xRn.callV (al := [.int p2, .int p3, .int p4, .int p5, .int p6, .int p7]) (st := [.int 0, .ref 39]) (nx := 16) (by decide +kernel) lk_V_L_give_7_T_give_0_6 rfl rfl (c_T_give (d := d + 0) S r p2 p3 p4 p5 p6 p7 h) rfl (Nat.le_of_ble_eq_true rfl) rfl rfl ?_ ?_
  · rintro _ _ (⟨x1, S2, r3, e9, rfl, h⟩ | ⟨_, _, _, _, e9, _⟩)
    · cases e9
      show xRn G l _ _ _ 16 [.ref 16, .int p2, .int p3, .int p4, .int p5, .int p6, .int p7, .ref 39, .null] [.int x1, .int 0, .ref 39] (hL S2 r3)
      refine xRn.blk (pc1 := 18) (ls1 := [.ref 16, .int p2, .int p3, .int p4, .int p5, .int p6, .int p7, .ref 39, .null]) (st1 := []) (hp1 := (hL (sO S2 (vp_updL (gO S2) (0 : Int32).toNatClampNeg (x1.toInt64))) r3)) (ob := [(39 : Nat) = 39, vp_in 0 1]) [(.i2l, 1, 0, 0, 0, 0), (.lastore, 1, 0, 0, 0, 0)] [(39, xc23 S2)] (by decide +kernel) rfl (xall_cons rfl (xall_cons (by unfold vp_in; decide) xall_nil)) (xSee_cons rfl (xne_nil _) (xSee_nil _)) rfl rfl ?_
      refine xRn.goto (tgt := 25) (off := 7) (by decide +kernel) (by decide) ?_
      refine xRn.blk (pc1 := 26) (ls1 := [.ref 16, .int p2, .int p3, .int p4, .int p5, .int p6, .int p7, .ref 39, .null]) (st1 := [.int 0]) (hp1 := (hL (sO S2 (vp_updL (gO S2) (0 : Int32).toNatClampNeg (x1.toInt64))) r3)) (ob := []) [(.iconst 0, 1, 0, 0, 0, 0)] [] (by decide +kernel) rfl xall_nil (xSee_nil _) rfl rfl ?_
      exact xRn.iret (by decide +kernel) rfl rfl ⟨_, _, _, rfl, rfl, h⟩
    · cases e9
  · rintro n_ _ (⟨_, _, _, e9, _⟩ | ⟨_, _, S, r, e9, rfl, hx, h⟩) h16
    · cases e9
    · replace e9 := Sum.inr.inj e9
      subst e9
      obtain ⟨rfl, h⟩ := h
      refine xTh.catch1 (ci := 7) rfl (by decide) (by decide) (by decide +kernel) (by decide) (by decide +kernel) hx ?_
      refine xRn.blk (pc1 := 24) (ls1 := [.ref 16, .int p2, .int p3, .int p4, .int p5, .int p6, .int p7, .ref 39, .ref n_]) (st1 := [.int 1]) (hp1 := (hL S r)) (ob := []) [(.astore 8, 2, 8, 0, 0, 0), (.iconst 1, 1, 0, 0, 0, 1)] [] (by decide +kernel) rfl xall_nil (xSee_nil _) rfl rfl ?_
      exact xRn.iret (by decide +kernel) rfl rfl ⟨_, _, _, rfl, rfl, h⟩
/-! L_spoil -/
def w_L_spoil  (S : XS) (r : List AE) (p2 : Int32) (p3 : Int32) (K : Int32 → XS → List AE → Prop) : Prop :=
  (w_T_spoil S r p2 p3 (fun x1 S2 r3 => (K 0 (sO S2 (vp_updL (gO S2) (0 : Int32).toNatClampNeg (x1.toInt64))) r3)) (fun ci S r => (ci = 9 ∧ (K 1 S r)) ∨ (ci = 7 ∧ (K 2 S r))))
set_option maxRecDepth 100000 in
theorem c_L_spoil {G : XG} {l : Launch} {d : Nat} (S : XS) (r : List AE) (p2 : Int32) (p3 : Int32) {K : Int32 → XS → List AE → Prop} (h : w_L_spoil  S r p2 p3 K) : xCt G l (d + 7) xm_L_spoil [.ref 16, .int p2, .int p3, .ref 39] (hL S r) (pI K) := by
  refine xCt.intro (by decide) (by decide) (List.forall_mem_cons.mpr ⟨rfl, (List.forall_mem_cons.mpr ⟨rfl, (List.forall_mem_cons.mpr ⟨rfl, (List.forall_mem_cons.mpr ⟨rfl, (fun _ h => by cases h)⟩)⟩)⟩)⟩) (Nat.le_of_ble_eq_true rfl) rfl ?_
  show xRn G l _ xm_L_spoil _ 0 [.ref 16, .int p2, .int p3, .ref 39, .null] [] (hL S r)
  refine xRn.blk (pc1 := 5) (ls1 := [.ref 16, .int p2, .int p3, .ref 39, .null]) (st1 := [.int p3, .int p2, .ref 16, .int 0, .ref 39]) (hp1 := (hL S r)) (ob := []) [(.aload_n 3, 1, 3, 0, 0, 0), (.iconst 0, 1, 0, 0, 0, 0), (.aload_n 0, 1, 0, 0, 0, 0), (.iload_n 1, 1, 1, 0, 0, 0), (.iload_n 2, 1, 2, 0, 0, 0)] [] (by decide +kernel) rfl xall_nil (xSee_nil _) rfl rfl ?_
  refine xRn.callV (al := [.int p2, .int p3]) (st := [.int 0, .ref 39]) (nx := 8) (by decide +kernel) lk_V_L_spoil_15_T_spoil_0_2 rfl rfl (c_T_spoil (d := d + 0) S r p2 p3 h) rfl (Nat.le_of_ble_eq_true rfl) rfl rfl ?_ ?_
  · rintro _ _ (⟨x1, S2, r3, e9, rfl, h⟩ | ⟨_, _, _, _, e9, _⟩)
    · cases e9
      show xRn G l _ _ _ 8 [.ref 16, .int p2, .int p3, .ref 39, .null] [.int x1, .int 0, .ref 39] (hL S2 r3)
      refine xRn.blk (pc1 := 10) (ls1 := [.ref 16, .int p2, .int p3, .ref 39, .null]) (st1 := []) (hp1 := (hL (sO S2 (vp_updL (gO S2) (0 : Int32).toNatClampNeg (x1.toInt64))) r3)) (ob := [(39 : Nat) = 39, vp_in 0 1]) [(.i2l, 1, 0, 0, 0, 0), (.lastore, 1, 0, 0, 0, 0)] [(39, xc23 S2)] (by decide +kernel) rfl (xall_cons rfl (xall_cons (by unfold vp_in; decide) xall_nil)) (xSee_cons rfl (xne_nil _) (xSee_nil _)) rfl rfl ?_
      refine xRn.goto (tgt := 21) (off := 11) (by decide +kernel) (by decide) ?_
      refine xRn.blk (pc1 := 22) (ls1 := [.ref 16, .int p2, .int p3, .ref 39, .null]) (st1 := [.int 0]) (hp1 := (hL (sO S2 (vp_updL (gO S2) (0 : Int32).toNatClampNeg (x1.toInt64))) r3)) (ob := []) [(.iconst 0, 1, 0, 0, 0, 0)] [] (by decide +kernel) rfl xall_nil (xSee_nil _) rfl rfl ?_
      exact xRn.iret (by decide +kernel) rfl rfl ⟨_, _, _, rfl, rfl, h⟩
    · cases e9
  · rintro n_ _ (⟨_, _, _, e9, _⟩ | ⟨_, _, S, r, e9, rfl, hx, h⟩) h16
    · cases e9
    · replace e9 := Sum.inr.inj e9
      subst e9
      rcases h with ⟨rfl, h⟩ | ⟨rfl, h⟩
      · refine xTh.catch1 (ci := 9) rfl (by decide) (by decide) (by decide +kernel) (by decide) (by decide +kernel) hx ?_
        refine xRn.blk (pc1 := 16) (ls1 := [.ref 16, .int p2, .int p3, .ref 39, .ref n_]) (st1 := [.int 1]) (hp1 := (hL S r)) (ob := []) [(.astore 4, 2, 4, 0, 0, 0), (.iconst 1, 1, 0, 0, 0, 1)] [] (by decide +kernel) rfl xall_nil (xSee_nil _) rfl rfl ?_
        exact xRn.iret (by decide +kernel) rfl rfl ⟨_, _, _, rfl, rfl, h⟩
      · refine xTh.catch2 (cj := 9) (ci := 7) rfl (by decide) (by decide) (by decide) (by decide) (by decide +kernel) (by decide +kernel) (by decide) (by decide) (by decide) (by decide +kernel) hx ?_
        refine xRn.blk (pc1 := 20) (ls1 := [.ref 16, .int p2, .int p3, .ref 39, .ref n_]) (st1 := [.int 2]) (hp1 := (hL S r)) (ob := []) [(.astore 4, 2, 4, 0, 0, 0), (.iconst 2, 1, 0, 0, 0, 2)] [] (by decide +kernel) rfl xall_nil (xSee_nil _) rfl rfl ?_
        exact xRn.iret (by decide +kernel) rfl rfl ⟨_, _, _, rfl, rfl, h⟩
/-! L_add -/
def w_L_add  (S : XS) (r : List AE) (p2 : Int32) (K : Int32 → XS → List AE → Prop) : Prop :=
  (w_T_add S r p2 (fun x1 S2 r3 => (K 0 (sO S2 (vp_updL (gO S2) (0 : Int32).toNatClampNeg (x1.toInt64))) r3)) (fun ci S r => (ci = 7 ∧ (K 1 S r)) ∨ (ci = 8 ∧ (K 2 S r))))
set_option maxRecDepth 100000 in
theorem c_L_add {G : XG} {l : Launch} {d : Nat} (S : XS) (r : List AE) (p2 : Int32) {K : Int32 → XS → List AE → Prop} (h : w_L_add  S r p2 K) : xCt G l (d + 7) xm_L_add [.ref 16, .int p2, .ref 39] (hL S r) (pI K) := by
  refine xCt.intro (by decide) (by decide) (List.forall_mem_cons.mpr ⟨rfl, (List.forall_mem_cons.mpr ⟨rfl, (List.forall_mem_cons.mpr ⟨rfl, (fun _ h => by cases h)⟩)⟩)⟩) (Nat.le_of_ble_eq_true rfl) rfl ?_
  show xRn G l _ xm_L_add _ 0 [.ref 16, .int p2, .ref 39, .null] [] (hL S r)
  refine xRn.blk (pc1 := 4) (ls1 := [.ref 16, .int p2, .ref 39, .null]) (st1 := [.int p2, .ref 16, .int 0, .ref 39]) (hp1 := (hL S r)) (ob := []) [(.aload_n 2, 1, 2, 0, 0, 0), (.iconst 0, 1, 0, 0, 0, 0), (.aload_n 0, 1, 0, 0, 0, 0), (.iload_n 1, 1, 1, 0, 0, 0)] [] (by decide +kernel) rfl xall_nil (xSee_nil _) rfl rfl ?_
  refine xRn.callV (al := [.int p2]) (st := [.int 0, .ref 39]) (nx := 7) (by decide +kernel) lk_V_L_add_21_T_add_0_1 rfl rfl (c_T_add (d := d + 0) S r p2 h) rfl (Nat.le_of_ble_eq_true rfl) rfl rfl ?_ ?_
  · rintro _ _ (⟨x1, S2, r3, e9, rfl, h⟩ | ⟨_, _, _, _, e9, _⟩)
    · cases e9
      show xRn G l _ _ _ 7 [.ref 16, .int p2, .ref 39, .null] [.int x1, .int 0, .ref 39] (hL S2 r3)
      refine xRn.blk (pc1 := 9) (ls1 := [.ref 16, .int p2, .ref 39, .null]) (st1 := []) (hp1 := (hL (sO S2 (vp_updL (gO S2) (0 : Int32).toNatClampNeg (x1.toInt64))) r3)) (ob := [(39 : Nat) = 39, vp_in 0 1]) [(.i2l, 1, 0, 0, 0, 0), (.lastore, 1, 0, 0, 0, 0)] [(39, xc23 S2)] (by decide +kernel) rfl (xall_cons rfl (xall_cons (by unfold vp_in; decide) xall_nil)) (xSee_cons rfl (xne_nil _) (xSee_nil _)) rfl rfl ?_
      refine xRn.goto (tgt := 18) (off := 9) (by decide +kernel) (by decide) ?_
      refine xRn.blk (pc1 := 19) (ls1 := [.ref 16, .int p2, .ref 39, .null]) (st1 := [.int 0]) (hp1 := (hL (sO S2 (vp_updL (gO S2) (0 : Int32).toNatClampNeg (x1.toInt64))) r3)) (ob := []) [(.iconst 0, 1, 0, 0, 0, 0)] [] (by decide +kernel) rfl xall_nil (xSee_nil _) rfl rfl ?_
      exact xRn.iret (by decide +kernel) rfl rfl ⟨_, _, _, rfl, rfl, h⟩
    · cases e9
  · rintro n_ _ (⟨_, _, _, e9, _⟩ | ⟨_, _, S, r, e9, rfl, hx, h⟩) h16
    · cases e9
    · replace e9 := Sum.inr.inj e9
      subst e9
      rcases h with ⟨rfl, h⟩ | ⟨rfl, h⟩
      · refine xTh.catch1 (ci := 7) rfl (by decide) (by decide) (by decide +kernel) (by decide) (by decide +kernel) hx ?_
        refine xRn.blk (pc1 := 14) (ls1 := [.ref 16, .int p2, .ref 39, .ref n_]) (st1 := [.int 1]) (hp1 := (hL S r)) (ob := []) [(.astore_n 3, 1, 3, 0, 0, 0), (.iconst 1, 1, 0, 0, 0, 1)] [] (by decide +kernel) rfl xall_nil (xSee_nil _) rfl rfl ?_
        exact xRn.iret (by decide +kernel) rfl rfl ⟨_, _, _, rfl, rfl, h⟩
      · refine xTh.catch2 (cj := 7) (ci := 8) rfl (by decide) (by decide) (by decide) (by decide) (by decide +kernel) (by decide +kernel) (by decide) (by decide) (by decide) (by decide +kernel) hx ?_
        refine xRn.blk (pc1 := 17) (ls1 := [.ref 16, .int p2, .ref 39, .ref n_]) (st1 := [.int 2]) (hp1 := (hL S r)) (ob := []) [(.astore_n 3, 1, 3, 0, 0, 0), (.iconst 2, 1, 0, 0, 0, 2)] [] (by decide +kernel) rfl xall_nil (xSee_nil _) rfl rfl ?_
        exact xRn.iret (by decide +kernel) rfl rfl ⟨_, _, _, rfl, rfl, h⟩
/-! L_take -/
def w_L_take  (S : XS) (r : List AE) (K : Int32 → XS → List AE → Prop) : Prop :=
  (w_T_take S r  (fun x1 S2 r3 => (K 0 (sO S2 (vp_updL (gO S2) (0 : Int32).toNatClampNeg (x1.toInt64))) r3)) (fun ci S r => (ci = 8 ∧ (K 1 S r))))
set_option maxRecDepth 100000 in
theorem c_L_take {G : XG} {l : Launch} {d : Nat} (S : XS) (r : List AE) {K : Int32 → XS → List AE → Prop} (h : w_L_take  S r K) : xCt G l (d + 13) xm_L_take [.ref 16, .ref 39] (hL S r) (pI K) := by
  refine xCt.intro (by decide) (by decide) (List.forall_mem_cons.mpr ⟨rfl, (List.forall_mem_cons.mpr ⟨rfl, (fun _ h => by cases h)⟩)⟩) (Nat.le_of_ble_eq_true rfl) rfl ?_
  show xRn G l _ xm_L_take _ 0 [.ref 16, .ref 39, .null] [] (hL S r)
  refine xRn.blk (pc1 := 3) (ls1 := [.ref 16, .ref 39, .null]) (st1 := [.ref 16, .int 0, .ref 39]) (hp1 := (hL S r)) (ob := []) [(.aload_n 1, 1, 1, 0, 0, 0), (.iconst 0, 1, 0, 0, 0, 0), (.aload_n 0, 1, 0, 0, 0, 0)] [] (by decide +kernel) rfl xall_nil (xSee_nil _) rfl rfl ?_
  refine xRn.callV (al := []) (st := [.int 0, .ref 39]) (nx := 6) (by decide +kernel) lk_V_L_take_27_T_take_0_0 rfl rfl (c_T_take (d := d + 0) S r  h) rfl (Nat.le_of_ble_eq_true rfl) rfl rfl ?_ ?_
  · rintro _ _ (⟨x1, S2, r3, e9, rfl, h⟩ | ⟨_, _, _, _, e9, _⟩)
    · cases e9
      show xRn G l _ _ _ 6 [.ref 16, .ref 39, .null] [.int x1, .int 0, .ref 39] (hL S2 r3)
      refine xRn.blk (pc1 := 8) (ls1 := [.ref 16, .ref 39, .null]) (st1 := []) (hp1 := (hL (sO S2 (vp_updL (gO S2) (0 : Int32).toNatClampNeg (x1.toInt64))) r3)) (ob := [(39 : Nat) = 39, vp_in 0 1]) [(.i2l, 1, 0, 0, 0, 0), (.lastore, 1, 0, 0, 0, 0)] [(39, xc23 S2)] (by decide +kernel) rfl (xall_cons rfl (xall_cons (by unfold vp_in; decide) xall_nil)) (xSee_cons rfl (xne_nil _) (xSee_nil _)) rfl rfl ?_
      refine xRn.goto (tgt := 14) (off := 6) (by decide +kernel) (by decide) ?_
      refine xRn.blk (pc1 := 15) (ls1 := [.ref 16, .ref 39, .null]) (st1 := [.int 0]) (hp1 := (hL (sO S2 (vp_updL (gO S2) (0 : Int32).toNatClampNeg (x1.toInt64))) r3)) (ob := []) [(.iconst 0, 1, 0, 0, 0, 0)] [] (by decide +kernel) rfl xall_nil (xSee_nil _) rfl rfl ?_
      exact xRn.iret (by decide +kernel) rfl rfl ⟨_, _, _, rfl, rfl, h⟩
    · cases e9
  · rintro n_ _ (⟨_, _, _, e9, _⟩ | ⟨_, _, S, r, e9, rfl, hx, h⟩) h16
    · cases e9
    · replace e9 := Sum.inr.inj e9
      subst e9
      obtain ⟨rfl, h⟩ := h
      refine xTh.catch1 (ci := 8) rfl (by decide) (by decide) (by decide +kernel) (by decide) (by decide +kernel) hx ?_
      refine xRn.blk (pc1 := 13) (ls1 := [.ref 16, .ref 39, .ref n_]) (st1 := [.int 1]) (hp1 := (hL S r)) (ob := []) [(.astore_n 2, 1, 2, 0, 0, 0), (.iconst 1, 1, 0, 0, 0, 1)] [] (by decide +kernel) rfl xall_nil (xSee_nil _) rfl rfl ?_
      exact xRn.iret (by decide +kernel) rfl rfl ⟨_, _, _, rfl, rfl, h⟩
/-! L_fill -/
def w_L_fill  (S : XS) (r : List AE) (p2 : Int32) (p3 : Int32) (K : Int32 → XS → List AE → Prop) : Prop :=
  (w_T_fill S r p2 p3 (fun x1 S2 r3 => (K 0 (sO S2 (vp_updL (gO S2) (0 : Int32).toNatClampNeg (x1.toInt64))) r3)) (fun ci S r => (ci = 10 ∧ (K 1 S r)) ∨ (ci = 7 ∧ (K 2 S r))))
set_option maxRecDepth 100000 in
theorem c_L_fill {G : XG} {l : Launch} {d : Nat} (S : XS) (r : List AE) (p2 : Int32) (p3 : Int32) {K : Int32 → XS → List AE → Prop} (h : w_L_fill  S r p2 p3 K) : xCt G l (d + 8) xm_L_fill [.ref 16, .int p2, .int p3, .ref 39] (hL S r) (pI K) := by
  refine xCt.intro (by decide) (by decide) (List.forall_mem_cons.mpr ⟨rfl, (List.forall_mem_cons.mpr ⟨rfl, (List.forall_mem_cons.mpr ⟨rfl, (List.forall_mem_cons.mpr ⟨rfl, (fun _ h => by cases h)⟩)⟩)⟩)⟩) (Nat.le_of_ble_eq_true rfl) rfl ?_
  show xRn G l _ xm_L_fill _ 0 [.ref 16, .int p2, .int p3, .ref 39, .null] [] (hL S r)
  refine xRn.blk (pc1 := 5) (ls1 := [.ref 16, .int p2, .int p3, .ref 39, .null]) (st1 := [.int p3, .int p2, .ref 16, .int 0, .ref 39]) (hp1 := (hL S r)) (ob := []) [(.aload_n 3, 1, 3, 0, 0, 0), (.iconst 0, 1, 0, 0, 0, 0), (.aload_n 0, 1, 0, 0, 0, 0), (.iload_n 1, 1, 1, 0, 0, 0), (.iload_n 2, 1, 2, 0, 0, 0)] [] (by decide +kernel) rfl xall_nil (xSee_nil _) rfl rfl ?_
  refine xRn.callV (al := [.int p2, .int p3]) (st := [.int 0, .ref 39]) (nx := 8) (by decide +kernel) lk_V_L_fill_31_T_fill_0_2 rfl rfl (c_T_fill (d := d + 0) S r p2 p3 h) rfl (Nat.le_of_ble_eq_true rfl) rfl rfl ?_ ?_
  · rintro _ _ (⟨x1, S2, r3, e9, rfl, h⟩ | ⟨_, _, _, _, e9, _⟩)
    · cases e9
      show xRn G l _ _ _ 8 [.ref 16, .int p2, .int p3, .ref 39, .null] [.int x1, .int 0, .ref 39] (hL S2 r3)
      refine xRn.blk (pc1 := 10) (ls1 := [.ref 16, .int p2, .int p3, .ref 39, .null]) (st1 := []) (hp1 := (hL (sO S2 (vp_updL (gO S2) (0 : Int32).toNatClampNeg (x1.toInt64))) r3)) (ob := [(39 : Nat) = 39, vp_in 0 1]) [(.i2l, 1, 0, 0, 0, 0), (.lastore, 1, 0, 0, 0, 0)] [(39, xc23 S2)] (by decide +kernel) rfl (xall_cons rfl (xall_cons (by unfold vp_in; decide) xall_nil)) (xSee_cons rfl (xne_nil _) (xSee_nil _)) rfl rfl ?_
      refine xRn.goto (tgt := 21) (off := 11) (by decide +kernel) (by decide) ?_
      refine xRn.blk (pc1 := 22) (ls1 := [.ref 16, .int p2, .int p3, .ref 39, .null]) (st1 := [.int 0]) (hp1 := (hL (sO S2 (vp_updL (gO S2) (0 : Int32).toNatClampNeg (x1.toInt64))) r3)) (ob := []) [(.iconst 0, 1, 0, 0, 0, 0)] [] (by decide +kernel) rfl xall_nil (xSee_nil _) rfl rfl ?_
      exact xRn.iret (by decide +kernel) rfl rfl ⟨_, _, _, rfl, rfl, h⟩
    · cases e9
  · rintro n_ _ (⟨_, _, _, e9, _⟩ | ⟨_, _, S, r, e9, rfl, hx, h⟩) h16
    · cases e9
    · replace e9 := Sum.inr.inj e9
      subst e9
      rcases h with ⟨rfl, h⟩ | ⟨rfl, h⟩
      · refine xTh.catch1 (ci := 10) rfl (by decide) (by decide) (by decide +kernel) (by decide) (by decide +kernel) hx ?_
        refine xRn.blk (pc1 := 16) (ls1 := [.ref 16, .int p2, .int p3, .ref 39, .ref n_]) (st1 := [.int 1]) (hp1 := (hL S r)) (ob := []) [(.astore 4, 2, 4, 0, 0, 0), (.iconst 1, 1, 0, 0, 0, 1)] [] (by decide +kernel) rfl xall_nil (xSee_nil _) rfl rfl ?_
        exact xRn.iret (by decide +kernel) rfl rfl ⟨_, _, _, rfl, rfl, h⟩
      · refine xTh.catch2 (cj := 10) (ci := 7) rfl (by decide) (by decide) (by decide) (by decide) (by decide +kernel) (by decide +kernel) (by decide) (by decide) (by decide) (by decide +kernel) hx ?_
        refine xRn.blk (pc1 := 20) (ls1 := [.ref 16, .int p2, .int p3, .ref 39, .ref n_]) (st1 := [.int 2]) (hp1 := (hL S r)) (ob := []) [(.astore 4, 2, 4, 0, 0, 0), (.iconst 2, 1, 0, 0, 0, 2)] [] (by decide +kernel) rfl xall_nil (xSee_nil _) rfl rfl ?_
        exact xRn.iret (by decide +kernel) rfl rfl ⟨_, _, _, rfl, rfl, h⟩
/-! L_length -/
def w_L_length  (S : XS) (r : List AE) (p2 : Int32) (K : Int32 → XS → List AE → Prop) : Prop :=
  (w_T_length S r p2 (fun x1 S2 r3 => (K 0 (sO S2 (vp_updL (gO S2) (0 : Int32).toNatClampNeg (x1.toInt64))) r3)) (fun ci S r => (ci = 9 ∧ (K 1 S r))))
set_option maxRecDepth 100000 in
theorem c_L_length {G : XG} {l : Launch} {d : Nat} (S : XS) (r : List AE) (p2 : Int32) {K : Int32 → XS → List AE → Prop} (h : w_L_length  S r p2 K) : xCt G l (d + 8) xm_L_length [.ref 16, .int p2, .ref 39] (hL S r) (pI K) := by
  refine xCt.intro (by decide) (by decide) (List.forall_mem_cons.mpr ⟨rfl, (List.forall_mem_cons.mpr ⟨rfl, (List.forall_mem_cons.mpr ⟨rfl, (fun _ h => by cases h)⟩)⟩)⟩) (Nat.le_of_ble_eq_true rfl) rfl ?_
  show xRn G l _ xm_L_length _ 0 [.ref 16, .int p2, .ref 39, .null] [] (hL S r)
  refine xRn.blk (pc1 := 4) (ls1 := [.ref 16, .int p2, .ref 39, .null]) (st1 := [.int p2, .ref 16, .int 0, .ref 39]) (hp1 := (hL S r)) (ob := []) [(.aload_n 2, 1, 2, 0, 0, 0), (.iconst 0, 1, 0, 0, 0, 0), (.aload_n 0, 1, 0, 0, 0, 0), (.iload_n 1, 1, 1, 0, 0, 0)] [] (by decide +kernel) rfl xall_nil (xSee_nil _) rfl rfl ?_
  refine xRn.callV (al := [.int p2]) (st := [.int 0, .ref 39]) (nx := 7) (by decide +kernel) lk_V_L_length_36_T_length_0_1 rfl rfl (c_T_length (d := d + 0) S r p2 h) rfl (Nat.le_of_ble_eq_true rfl) rfl rfl ?_ ?_
  · rintro _ _ (⟨x1, S2, r3, e9, rfl, h⟩ | ⟨_, _, _, _, e9, _⟩)
    · cases e9
      show xRn G l _ _ _ 7 [.ref 16, .int p2, .ref 39, .null] [.int x1, .int 0, .ref 39] (hL S2 r3)
      refine xRn.blk (pc1 := 9) (ls1 := [.ref 16, .int p2, .ref 39, .null]) (st1 := []) (hp1 := (hL (sO S2 (vp_updL (gO S2) (0 : Int32).toNatClampNeg (x1.toInt64))) r3)) (ob := [(39 : Nat) = 39, vp_in 0 1]) [(.i2l, 1, 0, 0, 0, 0), (.lastore, 1, 0, 0, 0, 0)] [(39, xc23 S2)] (by decide +kernel) rfl (xall_cons rfl (xall_cons (by unfold vp_in; decide) xall_nil)) (xSee_cons rfl (xne_nil _) (xSee_nil _)) rfl rfl ?_
      refine xRn.goto (tgt := 15) (off := 6) (by decide +kernel) (by decide) ?_
      refine xRn.blk (pc1 := 16) (ls1 := [.ref 16, .int p2, .ref 39, .null]) (st1 := [.int 0]) (hp1 := (hL (sO S2 (vp_updL (gO S2) (0 : Int32).toNatClampNeg (x1.toInt64))) r3)) (ob := []) [(.iconst 0, 1, 0, 0, 0, 0)] [] (by decide +kernel) rfl xall_nil (xSee_nil _) rfl rfl ?_
      exact xRn.iret (by decide +kernel) rfl rfl ⟨_, _, _, rfl, rfl, h⟩
    · cases e9
  · rintro n_ _ (⟨_, _, _, e9, _⟩ | ⟨_, _, S, r, e9, rfl, hx, h⟩) h16
    · cases e9
    · replace e9 := Sum.inr.inj e9
      subst e9
      obtain ⟨rfl, h⟩ := h
      refine xTh.catch1 (ci := 9) rfl (by decide) (by decide) (by decide +kernel) (by decide) (by decide +kernel) hx ?_
      refine xRn.blk (pc1 := 14) (ls1 := [.ref 16, .int p2, .ref 39, .ref n_]) (st1 := [.int 1]) (hp1 := (hL S r)) (ob := []) [(.astore_n 3, 1, 3, 0, 0, 0), (.iconst 1, 1, 0, 0, 0, 1)] [] (by decide +kernel) rfl xall_nil (xSee_nil _) rfl rfl ?_
      exact xRn.iret (by decide +kernel) rfl rfl ⟨_, _, _, rfl, rfl, h⟩
/-! L_octet -/
def w_L_octet  (S : XS) (r : List AE) (p2 : Int32) (p3 : Int32) (K : Int32 → XS → List AE → Prop) : Prop :=
  (w_T_octet S r p2 p3 (fun x1 S2 r3 => (K 0 (sO S2 (vp_updL (gO S2) (0 : Int32).toNatClampNeg (x1.toInt64))) r3)) (fun ci S r => (ci = 9 ∧ (K 1 S r))))
set_option maxRecDepth 100000 in
theorem c_L_octet {G : XG} {l : Launch} {d : Nat} (S : XS) (r : List AE) (p2 : Int32) (p3 : Int32) {K : Int32 → XS → List AE → Prop} (h : w_L_octet  S r p2 p3 K) : xCt G l (d + 8) xm_L_octet [.ref 16, .int p2, .int p3, .ref 39] (hL S r) (pI K) := by
  refine xCt.intro (by decide) (by decide) (List.forall_mem_cons.mpr ⟨rfl, (List.forall_mem_cons.mpr ⟨rfl, (List.forall_mem_cons.mpr ⟨rfl, (List.forall_mem_cons.mpr ⟨rfl, (fun _ h => by cases h)⟩)⟩)⟩)⟩) (Nat.le_of_ble_eq_true rfl) rfl ?_
  show xRn G l _ xm_L_octet _ 0 [.ref 16, .int p2, .int p3, .ref 39, .null] [] (hL S r)
  refine xRn.blk (pc1 := 5) (ls1 := [.ref 16, .int p2, .int p3, .ref 39, .null]) (st1 := [.int p3, .int p2, .ref 16, .int 0, .ref 39]) (hp1 := (hL S r)) (ob := []) [(.aload_n 3, 1, 3, 0, 0, 0), (.iconst 0, 1, 0, 0, 0, 0), (.aload_n 0, 1, 0, 0, 0, 0), (.iload_n 1, 1, 1, 0, 0, 0), (.iload_n 2, 1, 2, 0, 0, 0)] [] (by decide +kernel) rfl xall_nil (xSee_nil _) rfl rfl ?_
  refine xRn.callV (al := [.int p2, .int p3]) (st := [.int 0, .ref 39]) (nx := 8) (by decide +kernel) lk_V_L_octet_39_T_octet_0_2 rfl rfl (c_T_octet (d := d + 0) S r p2 p3 h) rfl (Nat.le_of_ble_eq_true rfl) rfl rfl ?_ ?_
  · rintro _ _ (⟨x1, S2, r3, e9, rfl, h⟩ | ⟨_, _, _, _, e9, _⟩)
    · cases e9
      show xRn G l _ _ _ 8 [.ref 16, .int p2, .int p3, .ref 39, .null] [.int x1, .int 0, .ref 39] (hL S2 r3)
      refine xRn.blk (pc1 := 10) (ls1 := [.ref 16, .int p2, .int p3, .ref 39, .null]) (st1 := []) (hp1 := (hL (sO S2 (vp_updL (gO S2) (0 : Int32).toNatClampNeg (x1.toInt64))) r3)) (ob := [(39 : Nat) = 39, vp_in 0 1]) [(.i2l, 1, 0, 0, 0, 0), (.lastore, 1, 0, 0, 0, 0)] [(39, xc23 S2)] (by decide +kernel) rfl (xall_cons rfl (xall_cons (by unfold vp_in; decide) xall_nil)) (xSee_cons rfl (xne_nil _) (xSee_nil _)) rfl rfl ?_
      refine xRn.goto (tgt := 17) (off := 7) (by decide +kernel) (by decide) ?_
      refine xRn.blk (pc1 := 18) (ls1 := [.ref 16, .int p2, .int p3, .ref 39, .null]) (st1 := [.int 0]) (hp1 := (hL (sO S2 (vp_updL (gO S2) (0 : Int32).toNatClampNeg (x1.toInt64))) r3)) (ob := []) [(.iconst 0, 1, 0, 0, 0, 0)] [] (by decide +kernel) rfl xall_nil (xSee_nil _) rfl rfl ?_
      exact xRn.iret (by decide +kernel) rfl rfl ⟨_, _, _, rfl, rfl, h⟩
    · cases e9
  · rintro n_ _ (⟨_, _, _, e9, _⟩ | ⟨_, _, S, r, e9, rfl, hx, h⟩) h16
    · cases e9
    · replace e9 := Sum.inr.inj e9
      subst e9
      obtain ⟨rfl, h⟩ := h
      refine xTh.catch1 (ci := 9) rfl (by decide) (by decide) (by decide +kernel) (by decide) (by decide +kernel) hx ?_
      refine xRn.blk (pc1 := 16) (ls1 := [.ref 16, .int p2, .int p3, .ref 39, .ref n_]) (st1 := [.int 1]) (hp1 := (hL S r)) (ob := []) [(.astore 4, 2, 4, 0, 0, 0), (.iconst 1, 1, 0, 0, 0, 1)] [] (by decide +kernel) rfl xall_nil (xSee_nil _) rfl rfl ?_
      exact xRn.iret (by decide +kernel) rfl rfl ⟨_, _, _, rfl, rfl, h⟩
/-! L_session -/
def w_L_session  (S : XS) (r : List AE) (p2 : Int32) (K : Int32 → XS → List AE → Prop) : Prop :=
  (w_T_session S r p2 (fun x1 S2 r3 => (K 0 (sO S2 (vp_updL (gO S2) (0 : Int32).toNatClampNeg (x1.toInt64))) r3)) (fun ci S r => (ci = 9 ∧ (K 1 S r))))
set_option maxRecDepth 100000 in
theorem c_L_session {G : XG} {l : Launch} {d : Nat} (S : XS) (r : List AE) (p2 : Int32) {K : Int32 → XS → List AE → Prop} (h : w_L_session  S r p2 K) : xCt G l (d + 7) xm_L_session [.ref 16, .int p2, .ref 39] (hL S r) (pI K) := by
  refine xCt.intro (by decide) (by decide) (List.forall_mem_cons.mpr ⟨rfl, (List.forall_mem_cons.mpr ⟨rfl, (List.forall_mem_cons.mpr ⟨rfl, (fun _ h => by cases h)⟩)⟩)⟩) (Nat.le_of_ble_eq_true rfl) rfl ?_
  show xRn G l _ xm_L_session _ 0 [.ref 16, .int p2, .ref 39, .null] [] (hL S r)
  refine xRn.blk (pc1 := 4) (ls1 := [.ref 16, .int p2, .ref 39, .null]) (st1 := [.int p2, .ref 16, .int 0, .ref 39]) (hp1 := (hL S r)) (ob := []) [(.aload_n 2, 1, 2, 0, 0, 0), (.iconst 0, 1, 0, 0, 0, 0), (.aload_n 0, 1, 0, 0, 0, 0), (.iload_n 1, 1, 1, 0, 0, 0)] [] (by decide +kernel) rfl xall_nil (xSee_nil _) rfl rfl ?_
  refine xRn.callV (al := [.int p2]) (st := [.int 0, .ref 39]) (nx := 7) (by decide +kernel) lk_V_L_session_42_T_session_0_1 rfl rfl (c_T_session (d := d + 0) S r p2 h) rfl (Nat.le_of_ble_eq_true rfl) rfl rfl ?_ ?_
  · rintro _ _ (⟨x1, S2, r3, e9, rfl, h⟩ | ⟨_, _, _, _, e9, _⟩)
    · cases e9
      show xRn G l _ _ _ 7 [.ref 16, .int p2, .ref 39, .null] [.int x1, .int 0, .ref 39] (hL S2 r3)
      refine xRn.blk (pc1 := 9) (ls1 := [.ref 16, .int p2, .ref 39, .null]) (st1 := []) (hp1 := (hL (sO S2 (vp_updL (gO S2) (0 : Int32).toNatClampNeg (x1.toInt64))) r3)) (ob := [(39 : Nat) = 39, vp_in 0 1]) [(.i2l, 1, 0, 0, 0, 0), (.lastore, 1, 0, 0, 0, 0)] [(39, xc23 S2)] (by decide +kernel) rfl (xall_cons rfl (xall_cons (by unfold vp_in; decide) xall_nil)) (xSee_cons rfl (xne_nil _) (xSee_nil _)) rfl rfl ?_
      refine xRn.goto (tgt := 15) (off := 6) (by decide +kernel) (by decide) ?_
      refine xRn.blk (pc1 := 16) (ls1 := [.ref 16, .int p2, .ref 39, .null]) (st1 := [.int 0]) (hp1 := (hL (sO S2 (vp_updL (gO S2) (0 : Int32).toNatClampNeg (x1.toInt64))) r3)) (ob := []) [(.iconst 0, 1, 0, 0, 0, 0)] [] (by decide +kernel) rfl xall_nil (xSee_nil _) rfl rfl ?_
      exact xRn.iret (by decide +kernel) rfl rfl ⟨_, _, _, rfl, rfl, h⟩
    · cases e9
  · rintro n_ _ (⟨_, _, _, e9, _⟩ | ⟨_, _, S, r, e9, rfl, hx, h⟩) h16
    · cases e9
    · replace e9 := Sum.inr.inj e9
      subst e9
      obtain ⟨rfl, h⟩ := h
      refine xTh.catch1 (ci := 9) rfl (by decide) (by decide) (by decide +kernel) (by decide) (by decide +kernel) hx ?_
      refine xRn.blk (pc1 := 14) (ls1 := [.ref 16, .int p2, .ref 39, .ref n_]) (st1 := [.int 1]) (hp1 := (hL S r)) (ob := []) [(.astore_n 3, 1, 3, 0, 0, 0), (.iconst 1, 1, 0, 0, 0, 1)] [] (by decide +kernel) rfl xall_nil (xSee_nil _) rfl rfl ?_
      exact xRn.iret (by decide +kernel) rfl rfl ⟨_, _, _, rfl, rfl, h⟩
/-! L_order -/
def w_L_order  (S : XS) (r : List AE) (p2 : Int32) (p3 : Int32) (K : Int32 → XS → List AE → Prop) : Prop :=
  (w_T_order S r p2 p3 (fun x1 S2 r3 => (K 0 (sO S2 (vp_updL (gO S2) (0 : Int32).toNatClampNeg (x1.toInt64))) r3)) (fun ci S r => (ci = 10 ∧ (K 1 S r)) ∨ (ci = 9 ∧ (K 2 S r))))
set_option maxRecDepth 100000 in
theorem c_L_order {G : XG} {l : Launch} {d : Nat} (S : XS) (r : List AE) (p2 : Int32) (p3 : Int32) {K : Int32 → XS → List AE → Prop} (h : w_L_order  S r p2 p3 K) : xCt G l (d + 7) xm_L_order [.ref 16, .int p2, .int p3, .ref 39] (hL S r) (pI K) := by
  refine xCt.intro (by decide) (by decide) (List.forall_mem_cons.mpr ⟨rfl, (List.forall_mem_cons.mpr ⟨rfl, (List.forall_mem_cons.mpr ⟨rfl, (List.forall_mem_cons.mpr ⟨rfl, (fun _ h => by cases h)⟩)⟩)⟩)⟩) (Nat.le_of_ble_eq_true rfl) rfl ?_
  show xRn G l _ xm_L_order _ 0 [.ref 16, .int p2, .int p3, .ref 39, .null] [] (hL S r)
  refine xRn.blk (pc1 := 5) (ls1 := [.ref 16, .int p2, .int p3, .ref 39, .null]) (st1 := [.int p3, .int p2, .ref 16, .int 0, .ref 39]) (hp1 := (hL S r)) (ob := []) [(.aload_n 3, 1, 3, 0, 0, 0), (.iconst 0, 1, 0, 0, 0, 0), (.aload_n 0, 1, 0, 0, 0, 0), (.iload_n 1, 1, 1, 0, 0, 0), (.iload_n 2, 1, 2, 0, 0, 0)] [] (by decide +kernel) rfl xall_nil (xSee_nil _) rfl rfl ?_
  refine xRn.callV (al := [.int p2, .int p3]) (st := [.int 0, .ref 39]) (nx := 8) (by decide +kernel) lk_V_L_order_45_T_order_0_2 rfl rfl (c_T_order (d := d + 0) S r p2 p3 h) rfl (Nat.le_of_ble_eq_true rfl) rfl rfl ?_ ?_
  · rintro _ _ (⟨x1, S2, r3, e9, rfl, h⟩ | ⟨_, _, _, _, e9, _⟩)
    · cases e9
      show xRn G l _ _ _ 8 [.ref 16, .int p2, .int p3, .ref 39, .null] [.int x1, .int 0, .ref 39] (hL S2 r3)
      refine xRn.blk (pc1 := 10) (ls1 := [.ref 16, .int p2, .int p3, .ref 39, .null]) (st1 := []) (hp1 := (hL (sO S2 (vp_updL (gO S2) (0 : Int32).toNatClampNeg (x1.toInt64))) r3)) (ob := [(39 : Nat) = 39, vp_in 0 1]) [(.i2l, 1, 0, 0, 0, 0), (.lastore, 1, 0, 0, 0, 0)] [(39, xc23 S2)] (by decide +kernel) rfl (xall_cons rfl (xall_cons (by unfold vp_in; decide) xall_nil)) (xSee_cons rfl (xne_nil _) (xSee_nil _)) rfl rfl ?_
      refine xRn.goto (tgt := 21) (off := 11) (by decide +kernel) (by decide) ?_
      refine xRn.blk (pc1 := 22) (ls1 := [.ref 16, .int p2, .int p3, .ref 39, .null]) (st1 := [.int 0]) (hp1 := (hL (sO S2 (vp_updL (gO S2) (0 : Int32).toNatClampNeg (x1.toInt64))) r3)) (ob := []) [(.iconst 0, 1, 0, 0, 0, 0)] [] (by decide +kernel) rfl xall_nil (xSee_nil _) rfl rfl ?_
      exact xRn.iret (by decide +kernel) rfl rfl ⟨_, _, _, rfl, rfl, h⟩
    · cases e9
  · rintro n_ _ (⟨_, _, _, e9, _⟩ | ⟨_, _, S, r, e9, rfl, hx, h⟩) h16
    · cases e9
    · replace e9 := Sum.inr.inj e9
      subst e9
      rcases h with ⟨rfl, h⟩ | ⟨rfl, h⟩
      · refine xTh.catch1 (ci := 10) rfl (by decide) (by decide) (by decide +kernel) (by decide) (by decide +kernel) hx ?_
        refine xRn.blk (pc1 := 16) (ls1 := [.ref 16, .int p2, .int p3, .ref 39, .ref n_]) (st1 := [.int 1]) (hp1 := (hL S r)) (ob := []) [(.astore 4, 2, 4, 0, 0, 0), (.iconst 1, 1, 0, 0, 0, 1)] [] (by decide +kernel) rfl xall_nil (xSee_nil _) rfl rfl ?_
        exact xRn.iret (by decide +kernel) rfl rfl ⟨_, _, _, rfl, rfl, h⟩
      · refine xTh.catch2 (cj := 10) (ci := 9) rfl (by decide) (by decide) (by decide) (by decide) (by decide +kernel) (by decide +kernel) (by decide) (by decide) (by decide) (by decide +kernel) hx ?_
        refine xRn.blk (pc1 := 20) (ls1 := [.ref 16, .int p2, .int p3, .ref 39, .ref n_]) (st1 := [.int 2]) (hp1 := (hL S r)) (ob := []) [(.astore 4, 2, 4, 0, 0, 0), (.iconst 2, 1, 0, 0, 0, 2)] [] (by decide +kernel) rfl xall_nil (xSee_nil _) rfl rfl ?_
        exact xRn.iret (by decide +kernel) rfl rfl ⟨_, _, _, rfl, rfl, h⟩
