theorem lk_S_S_letter_25_S_need_1 : xlkS xm_S_letter 25 xm_S_need 1 := by unfold xlkS; decide +kernel
theorem lk_S_S_next_25_S_need_1 : xlkS xm_S_next 25 xm_S_need 1 := by unfold xlkS; decide +kernel
theorem lk_S_S_number_25_S_need_1 : xlkS xm_S_number 25 xm_S_need 1 := by unfold xlkS; decide +kernel
theorem lk_S_S_scan_25_S_need_1 : xlkS xm_S_scan 25 xm_S_need 1 := by unfold xlkS; decide +kernel
theorem lk_S_S_tag_25_S_need_1 : xlkS xm_S_tag 25 xm_S_need 1 := by unfold xlkS; decide +kernel
theorem lk_S_S_type_25_S_need_1 : xlkS xm_S_type 25 xm_S_need 1 := by unfold xlkS; decide +kernel
theorem lk_SN_S_scan_88_T_typeOf_1 : xlkSN xm_S_scan 88 xm_T_typeOf 1 := by unfold xlkSN; decide +kernel
theorem lk_V_S_letter_37_S_tag_3_1 : xlkV xm_S_letter 37 xm_S_tag 3 1 := by unfold xlkV; decide +kernel
theorem lk_V_S_letter_41_S_next_3_0 : xlkV xm_S_letter 41 xm_S_next 3 0 := by unfold xlkV; decide +kernel
theorem lk_V_S_number_37_S_tag_3_1 : xlkV xm_S_number 37 xm_S_tag 3 1 := by unfold xlkV; decide +kernel
theorem lk_V_S_number_41_S_next_3_0 : xlkV xm_S_number 41 xm_S_next 3 0 := by unfold xlkV; decide +kernel
theorem lk_V_S_scan_103_S_type_3_1 : xlkV xm_S_scan 103 xm_S_type 3 1 := by unfold xlkV; decide +kernel
theorem lk_V_S_scan_106_F_sum_1_1 : xlkV xm_S_scan 106 xm_F_sum 1 1 := by unfold xlkV; decide +kernel
theorem lk_V_S_scan_33_S_stands_3_1 : xlkV xm_S_scan 33 xm_S_stands 3 1 := by unfold xlkV; decide +kernel
theorem lk_V_S_scan_37_S_tag_3_1 : xlkV xm_S_scan 37 xm_S_tag 3 1 := by unfold xlkV; decide +kernel
theorem lk_V_S_scan_41_S_next_3_0 : xlkV xm_S_scan 41 xm_S_next 3 0 := by unfold xlkV; decide +kernel
theorem lk_V_S_scan_62_S_number_3_1 : xlkV xm_S_scan 62 xm_S_number 3 1 := by unfold xlkV; decide +kernel
theorem lk_V_S_scan_75_S_letter_3_1 : xlkV xm_S_scan 75 xm_S_letter 3 1 := by unfold xlkV; decide +kernel
theorem lk_V_S_tag_33_S_stands_3_1 : xlkV xm_S_tag 33 xm_S_stands 3 1 := by unfold xlkV; decide +kernel
theorem lk_V_S_type_33_S_stands_3_1 : xlkV xm_S_type 33 xm_S_stands 3 1 := by unfold xlkV; decide +kernel
theorem lk_V_S_type_62_S_number_3_1 : xlkV xm_S_type 62 xm_S_number 3 1 := by unfold xlkV; decide +kernel
theorem lk_V_S_type_75_S_letter_3_1 : xlkV xm_S_type 75 xm_S_letter 3 1 := by unfold xlkV; decide +kernel
theorem lk_V_T_garbled_210_S_scan_3_2 : xlkV xm_T_garbled 210 xm_S_scan 3 2 := by unfold xlkV; decide +kernel
theorem ha_S_9_7 : ∀ a ∈ Bundle.ownAtoms0 (xR 3) 9 (xR 7) xnames, (a ∈ lw_tbl ∧ xgw a = true) ∨ a ∈ xTw := by decide +kernel
/-! S_need -/
def w_S_need  (S : XS) (r : List AE) (p1 : Int32) (K : XS → List AE → Prop) (KT : Nat → XS → List AE → Prop) : Prop :=
  ((¬ p1 = 0 → (K S r)) ∧ (p1 = 0 → (bud r ∧ KT 7 S (r ++ [xO 7 []]))))
set_option maxRecDepth 100000 in
theorem c_S_need {G : XG} {l : Launch} {d : Nat} (S : XS) (r : List AE) (p1 : Int32) {K : XS → List AE → Prop} {KT : Nat → XS → List AE → Prop} (h : w_S_need  S r p1 K KT) : xCt G l (d + 6) xm_S_need [.int p1] (hL S r) (qV K KT) := by
  refine xCt.intro (by decide) (by decide) (List.forall_mem_cons.mpr ⟨rfl, (fun _ h => by cases h)⟩) (Nat.le_of_ble_eq_true rfl) rfl ?_
  show xRn G l _ xm_S_need _ 0 [.int p1] [] (hL S r)
  refine xRn.blk (pc1 := 1) (ls1 := [.int p1]) (st1 := [.int p1]) (hp1 := (hL S r)) (ob := []) [(.iload_n 0, 1, 0, 0, 0, 0)] [] (by decide +kernel) rfl xall_nil (xSee_nil _) rfl rfl ?_
  refine xRn.if_ne (tgt := 12) (nx := 4) (off := 11) (by decide +kernel) (by decide) rfl (fun c1 => ?_) (fun c1 => ?_)
  · have h := h.1 c1
    exact xRn.vret (by decide +kernel) rfl (Or.inl ⟨_, _, rfl, rfl, h⟩)
  · have h := h.2 c1
    obtain ⟨o2, h⟩ := h
    exact xRn.throwL (K := KT) (idx := 7) (ic := 9) (ci := 7) (pc1 := 7) (pc2 := 8) (pc3 := 11) (by decide +kernel) (by decide +kernel) (by decide +kernel) (by decide +kernel) rfl rfl rfl (by decide +kernel) (by decide) ha_S_9_7 (by decide +kernel) (by decide) (by omega) rfl o2 (fun _ _ h => Or.inr h) h
/-! S_next -/
def w_S_next_22   (K : Int32 → XS → List AE → Prop) (KT : Nat → XS → List AE → Prop) (S : XS) (r : List AE) : Prop :=
  (((gR S 400) : Nat) = 17) ∧ (vp_in (((gF S 401) + 1) - 1) 120) ∧ (K ((gA S 2) (((gF S 401) + 1) - 1).toNatClampNeg) (sF S 401 ((gF S 401) + 1)) r)
set_option maxRecDepth 100000 in
theorem t_S_next_22 {G : XG} {l : Launch} {d : Nat} {K : Int32 → XS → List AE → Prop} {KT : Nat → XS → List AE → Prop} (S : XS) (r : List AE) (h : w_S_next_22 K KT S r) : xRn G l (d + 7) xm_S_next (qI K KT) 22 [.ref 20] [] (hL S r) := by
  obtain ⟨o1, o2, h⟩ := h
  refine xRn.blk (pc1 := 46) (ls1 := [.ref 20]) (st1 := [.int ((gA S 2) (((gF S 401) + 1) - 1).toNatClampNeg)]) (hp1 := (hL (sF S 401 ((gF S 401) + 1)) r)) (ob := [(20 : Nat) = 20, (20 : Nat) = 20, (20 : Nat) = 20, ((gR S 400) : Nat) = 17, (20 : Nat) = 20, (18 : Nat) = 18, vp_in (((gF S 401) + 1) - 1) 120]) [(.aload_n 0, 1, 0, 0, 0, 0), (.dup, 1, 0, 0, 0, 0), (.getfield 10, 3, 1, 3, 0, 0), (.iconst 1, 1, 0, 0, 0, 1), (.iadd, 1, 0, 0, 0, 0), (.putfield 10, 3, 1, 3, 0, 0), (.aload_n 0, 1, 0, 0, 0, 0), (.getfield 16, 3, 0, 3, 0, 0), (.getfield 29, 3, 0, 1, 1, 0), (.aload_n 0, 1, 0, 0, 0, 0), (.getfield 10, 3, 1, 3, 0, 0), (.iconst 1, 1, 0, 0, 0, 1), (.isub, 1, 0, 0, 0, 0), (.baload, 1, 0, 0, 2, 0)] [(20, xc4 S), (17, xc1 S), (18, xc2 S)] (by decide +kernel) rfl (xall_cons rfl (xall_cons rfl (xall_cons rfl (xall_cons o1 (xall_cons rfl (xall_cons rfl (xall_cons o2 xall_nil))))))) (xSee_cons rfl (xne_cons (by decide) (xne_cons (by decide) (xne_nil _))) (xSee_cons rfl (xne_cons (by decide) (xne_nil _)) (xSee_cons rfl (xne_nil _) (xSee_nil _)))) rfl rfl ?_
  exact xRn.iret (by decide +kernel) rfl rfl (Or.inl ⟨_, _, _, rfl, rfl, h⟩)
def w_S_next  (S : XS) (r : List AE) (K : Int32 → XS → List AE → Prop) (KT : Nat → XS → List AE → Prop) : Prop :=
  (((gR S 400) : Nat) = 17) ∧ (((gF S 101) ≤ (gF S 401) → (w_S_need S r 0 (fun S6 r7 => (w_S_next_22 K KT S6 r7)) (fun ci S r => KT ci S r))) ∧ (¬ (gF S 101) ≤ (gF S 401) → (w_S_need S r 1 (fun S9 r10 => (w_S_next_22 K KT S9 r10)) (fun ci S r => KT ci S r))))
set_option maxRecDepth 100000 in
theorem c_S_next {G : XG} {l : Launch} {d : Nat} (S : XS) (r : List AE) {K : Int32 → XS → List AE → Prop} {KT : Nat → XS → List AE → Prop} (h : w_S_next  S r K KT) : xCt G l (d + 7) xm_S_next [.ref 20] (hL S r) (qI K KT) := by
  refine xCt.intro (by decide) (by decide) (List.forall_mem_cons.mpr ⟨rfl, (fun _ h => by cases h)⟩) (Nat.le_of_ble_eq_true rfl) rfl ?_
  show xRn G l _ xm_S_next _ 0 [.ref 20] [] (hL S r)
  obtain ⟨o3, h⟩ := h
  refine xRn.blk (pc1 := 11) (ls1 := [.ref 20]) (st1 := [.int (gF S 101), .int (gF S 401)]) (hp1 := (hL S r)) (ob := [(20 : Nat) = 20, (20 : Nat) = 20, ((gR S 400) : Nat) = 17]) [(.aload_n 0, 1, 0, 0, 0, 0), (.getfield 10, 3, 1, 3, 0, 0), (.aload_n 0, 1, 0, 0, 0, 0), (.getfield 16, 3, 0, 3, 0, 0), (.getfield 20, 3, 1, 1, 1, 0)] [(20, xc4 S), (17, xc1 S)] (by decide +kernel) rfl (xall_cons rfl (xall_cons rfl (xall_cons o3 xall_nil))) (xSee_cons rfl (xne_cons (by decide) (xne_nil _)) (xSee_cons rfl (xne_nil _) (xSee_nil _))) rfl rfl ?_
  refine xRn.ic_ge (tgt := 18) (nx := 14) (off := 7) (by decide +kernel) (by decide) rfl (fun c4 => ?_) (fun c4 => ?_)
  · have h := h.1 c4
    refine xRn.blk (pc1 := 19) (ls1 := [.ref 20]) (st1 := [.int 0]) (hp1 := (hL S r)) (ob := []) [(.iconst 0, 1, 0, 0, 0, 0)] [] (by decide +kernel) rfl xall_nil (xSee_nil _) rfl rfl ?_
    refine xRn.callS (al := [.int 0]) (st := []) (nx := 22) (by decide +kernel) lk_S_S_next_25_S_need_1 rfl (c_S_need (d := d + 0) S r 0 h) rfl (Nat.le_of_ble_eq_true rfl) rfl rfl ?_ ?_
    · rintro _ _ (⟨S6, r7, e9, rfl, h⟩ | ⟨_, _, _, _, e9, _⟩)
      · cases e9
        show xRn G l _ _ _ 22 [.ref 20] [] (hL S6 r7)
        refine xRn.forget (xle_eq xle_nil) ?_
        exact t_S_next_22   S6 r7 h
      · cases e9
    · rintro n_ _ (⟨_, _, e9, _⟩ | ⟨_, _, S, r, e9, rfl, hx, h⟩) h16
      · cases e9
      · replace e9 := Sum.inr.inj e9
        subst e9
        exact xTh.out (by decide) h16 (Or.inr ⟨_, _, _, _, rfl, rfl, hx, h⟩)
  · have h := h.2 c4
    refine xRn.blk (pc1 := 15) (ls1 := [.ref 20]) (st1 := [.int 1]) (hp1 := (hL S r)) (ob := []) [(.iconst 1, 1, 0, 0, 0, 1)] [] (by decide +kernel) rfl xall_nil (xSee_nil _) rfl rfl ?_
    refine xRn.goto (tgt := 19) (off := 4) (by decide +kernel) (by decide) ?_
    refine xRn.callS (al := [.int 1]) (st := []) (nx := 22) (by decide +kernel) lk_S_S_next_25_S_need_1 rfl (c_S_need (d := d + 0) S r 1 h) rfl (Nat.le_of_ble_eq_true rfl) rfl rfl ?_ ?_
    · rintro _ _ (⟨S9, r10, e9, rfl, h⟩ | ⟨_, _, _, _, e9, _⟩)
      · cases e9
        show xRn G l _ _ _ 22 [.ref 20] [] (hL S9 r10)
        refine xRn.forget (xle_eq xle_nil) ?_
        exact t_S_next_22   S9 r10 h
      · cases e9
    · rintro n_ _ (⟨_, _, e9, _⟩ | ⟨_, _, S, r, e9, rfl, hx, h⟩) h16
      · cases e9
      · replace e9 := Sum.inr.inj e9
        subst e9
        exact xTh.out (by decide) h16 (Or.inr ⟨_, _, _, _, rfl, rfl, hx, h⟩)
/-! S_stands -/
def w_S_stands_132   (K : Int32 → XS → List AE → Prop) (S : XS) (r : List AE) : Prop :=
  (K 0 S r)
set_option maxRecDepth 100000 in
theorem t_S_stands_132 {G : XG} {l : Launch} {d : Nat} {K : Int32 → XS → List AE → Prop} (S : XS) (r : List AE) (h : w_S_stands_132 K S r) : xRn G l (d + 0) xm_S_stands (pI K) 132 [.null, .null, .null, .null, .null, .null] [] (hL S r) := by
  refine xRn.blk (pc1 := 133) (ls1 := [.null, .null, .null, .null, .null, .null]) (st1 := [.int 0]) (hp1 := (hL S r)) (ob := []) [(.iconst 0, 1, 0, 0, 0, 0)] [] (by decide +kernel) rfl xall_nil (xSee_nil _) rfl rfl ?_
  exact xRn.iret (by decide +kernel) rfl rfl ⟨_, _, _, rfl, rfl, h⟩
def w_S_stands_98   (K : Int32 → XS → List AE → Prop) (S : XS) (r : List AE) (v3 : Int32) (v4 : Int32) : Prop :=
  ((v4 = 0 → (w_S_stands_132 K S r)) ∧ (¬ v4 = 0 → (((gR S 400) : Nat) = 17) ∧ (((gF S 101) ≤ v3 → (w_S_stands_132 K S r)) ∧ (¬ (gF S 101) ≤ v3 → (((gR S 400) : Nat) = 17) ∧ (vp_in v3 120) ∧ ((¬ ((gA S 2) v3.toNatClampNeg) = (61 : Int32) → (w_S_stands_132 K S r)) ∧ (((gA S 2) v3.toNatClampNeg) = (61 : Int32) → (K 1 S r)))))))
set_option maxRecDepth 100000 in
theorem t_S_stands_98 {G : XG} {l : Launch} {d : Nat} {K : Int32 → XS → List AE → Prop} (S : XS) (r : List AE) (v3 : Int32) (v4 : Int32) (h : w_S_stands_98 K S r v3 v4) : xRn G l (d + 0) xm_S_stands (pI K) 98 [.ref 20, .null, .null, .int v3, .int v4, .null] [] (hL S r) := by
  refine xRn.blk (pc1 := 100) (ls1 := [.ref 20, .null, .null, .int v3, .int v4, .null]) (st1 := [.int v4]) (hp1 := (hL S r)) (ob := []) [(.iload 4, 2, 4, 0, 0, 0)] [] (by decide +kernel) rfl xall_nil (xSee_nil _) rfl rfl ?_
  refine xRn.if_eq (tgt := 132) (nx := 103) (off := 32) (by decide +kernel) (by decide) rfl (fun c1 => ?_) (fun c1 => ?_)
  · have h := h.1 c1
    refine xRn.forget (xle_no (xle_eq (xle_eq (xle_no (xle_no (xle_eq xle_nil)))))) ?_
    exact t_S_stands_132   S r h
  · have h := h.2 c1
    obtain ⟨o2, h⟩ := h
    refine xRn.blk (pc1 := 111) (ls1 := [.ref 20, .null, .null, .int v3, .int v4, .null]) (st1 := [.int (gF S 101), .int v3]) (hp1 := (hL S r)) (ob := [(20 : Nat) = 20, ((gR S 400) : Nat) = 17]) [(.iload_n 3, 1, 3, 0, 0, 0), (.aload_n 0, 1, 0, 0, 0, 0), (.getfield 16, 3, 0, 3, 0, 0), (.getfield 20, 3, 1, 1, 1, 0)] [(20, xc4 S), (17, xc1 S)] (by decide +kernel) rfl (xall_cons rfl (xall_cons o2 xall_nil)) (xSee_cons rfl (xne_cons (by decide) (xne_nil _)) (xSee_cons rfl (xne_nil _) (xSee_nil _))) rfl rfl ?_
    refine xRn.ic_ge (tgt := 132) (nx := 114) (off := 21) (by decide +kernel) (by decide) rfl (fun c3 => ?_) (fun c3 => ?_)
    · have h := h.1 c3
      refine xRn.forget (xle_no (xle_eq (xle_eq (xle_no (xle_no (xle_eq xle_nil)))))) ?_
      exact t_S_stands_132   S r h
    · have h := h.2 c3
      obtain ⟨o4, o5, h⟩ := h
      refine xRn.blk (pc1 := 125) (ls1 := [.ref 20, .null, .null, .int v3, .int v4, .null]) (st1 := [.int 61, .int ((gA S 2) v3.toNatClampNeg)]) (hp1 := (hL S r)) (ob := [(20 : Nat) = 20, ((gR S 400) : Nat) = 17, (18 : Nat) = 18, vp_in v3 120]) [(.aload_n 0, 1, 0, 0, 0, 0), (.getfield 16, 3, 0, 3, 0, 0), (.getfield 29, 3, 0, 1, 1, 0), (.iload_n 3, 1, 3, 0, 0, 0), (.baload, 1, 0, 0, 2, 0), (.bipush 61, 2, 0, 0, 0, 61)] [(20, xc4 S), (17, xc1 S), (18, xc2 S)] (by decide +kernel) rfl (xall_cons rfl (xall_cons o4 (xall_cons rfl (xall_cons o5 xall_nil)))) (xSee_cons rfl (xne_cons (by decide) (xne_cons (by decide) (xne_nil _))) (xSee_cons rfl (xne_cons (by decide) (xne_nil _)) (xSee_cons rfl (xne_nil _) (xSee_nil _)))) rfl rfl ?_
      refine xRn.ic_ne (tgt := 132) (nx := 128) (off := 7) (by decide +kernel) (by decide) rfl (fun c6 => ?_) (fun c6 => ?_)
      · have h := h.1 c6
        refine xRn.forget (xle_no (xle_eq (xle_eq (xle_no (xle_no (xle_eq xle_nil)))))) ?_
        exact t_S_stands_132   S r h
      · have h := h.2 c6
        refine xRn.blk (pc1 := 129) (ls1 := [.ref 20, .null, .null, .int v3, .int v4, .null]) (st1 := [.int 1]) (hp1 := (hL S r)) (ob := []) [(.iconst 1, 1, 0, 0, 0, 1)] [] (by decide +kernel) rfl xall_nil (xSee_nil _) rfl rfl ?_
        refine xRn.goto (tgt := 133) (off := 4) (by decide +kernel) (by decide) ?_
        exact xRn.iret (by decide +kernel) rfl rfl ⟨_, _, _, rfl, rfl, h⟩
def w_S_stands_85 (k35 : XS → List AE → Int32 → Int32 → Int32 → Int32 → Prop)  (K : Int32 → XS → List AE → Prop) (S : XS) (r : List AE) (v1 : Int32) (v3 : Int32) (v4 : Int32) (v5 : Int32) : Prop :=
  (k35 S r v1 (v3 + 1) v4 (v5 / 10))
set_option maxRecDepth 100000 in
theorem t_S_stands_85 {G : XG} {l : Launch} {d : Nat} {k35 : XS → List AE → Int32 → Int32 → Int32 → Int32 → Prop} {K : Int32 → XS → List AE → Prop} (hk35 : ∀ (S : XS) (r : List AE) (v1 : Int32) (v3 : Int32) (v4 : Int32) (v5 : Int32), k35 S r v1 v3 v4 v5 → xRn G l (d + 0) xm_S_stands (pI K) 35 [.ref 20, .int v1, .null, .int v3, .int v4, .int v5] [] (hL S r)) (S : XS) (r : List AE) (v1 : Int32) (v3 : Int32) (v4 : Int32) (v5 : Int32) (h : w_S_stands_85 k35 K S r v1 v3 v4 v5) : xRn G l (d + 0) xm_S_stands (pI K) 85 [.ref 20, .int v1, .null, .int v3, .int v4, .int v5] [] (hL S r) := by
  refine xRn.blk (pc1 := 95) (ls1 := [.ref 20, .int v1, .null, .int (v3 + 1), .int v4, .int (v5 / 10)]) (st1 := []) (hp1 := (hL S r)) (ob := [¬ (10 : Int32) = 0]) [(.iinc 3 1, 3, 3, 0, 0, 1), (.iload 5, 2, 5, 0, 0, 0), (.bipush 10, 2, 0, 0, 0, 10), (.idiv, 1, 0, 0, 0, 0), (.istore 5, 2, 5, 0, 0, 0)] [] (by decide +kernel) rfl (xall_cons (by decide) xall_nil) (xSee_nil _) rfl rfl ?_
  refine xRn.goto (tgt := 35) (off := (-60)) (by decide +kernel) (by decide) ?_
  refine xRn.forget (xle_eq (xle_eq (xle_eq (xle_eq (xle_eq (xle_eq xle_nil)))))) ?_
  exact hk35 S r v1 (v3 + 1) v4 (v5 / 10) h
def w_S_stands_82 (k35 : XS → List AE → Int32 → Int32 → Int32 → Int32 → Prop)  (K : Int32 → XS → List AE → Prop) (S : XS) (r : List AE) (v1 : Int32) (v3 : Int32) (v5 : Int32) : Prop :=
  (w_S_stands_85 k35 K S r v1 v3 0 v5)
set_option maxRecDepth 100000 in
theorem t_S_stands_82 {G : XG} {l : Launch} {d : Nat} {k35 : XS → List AE → Int32 → Int32 → Int32 → Int32 → Prop} {K : Int32 → XS → List AE → Prop} (hk35 : ∀ (S : XS) (r : List AE) (v1 : Int32) (v3 : Int32) (v4 : Int32) (v5 : Int32), k35 S r v1 v3 v4 v5 → xRn G l (d + 0) xm_S_stands (pI K) 35 [.ref 20, .int v1, .null, .int v3, .int v4, .int v5] [] (hL S r)) (S : XS) (r : List AE) (v1 : Int32) (v3 : Int32) (v5 : Int32) (h : w_S_stands_82 k35 K S r v1 v3 v5) : xRn G l (d + 0) xm_S_stands (pI K) 82 [.ref 20, .int v1, .null, .int v3, .null, .int v5] [] (hL S r) := by
  refine xRn.blk (pc1 := 85) (ls1 := [.ref 20, .int v1, .null, .int v3, .int 0, .int v5]) (st1 := []) (hp1 := (hL S r)) (ob := []) [(.iconst 0, 1, 0, 0, 0, 0), (.istore 4, 2, 4, 0, 0, 0)] [] (by decide +kernel) rfl xall_nil (xSee_nil _) rfl rfl ?_
  refine xRn.forget (xle_eq (xle_eq (xle_eq (xle_eq (xle_eq (xle_eq xle_nil)))))) ?_
  exact t_S_stands_85  hk35 S r v1 v3 0 v5 h
def w_S_stands_35   (K : Int32 → XS → List AE → Prop) : Nat → XS → List AE → Int32 → Int32 → Int32 → Int32 → Prop
  | 0, _, _, _, _, _, _ => False
  | n + 1, S, r, v1, v3, v4, v5 => ((v5 ≤ 0 → (w_S_stands_98 K S r v3 v4)) ∧ (¬ v5 ≤ 0 → ((v4 = 0 → (w_S_stands_98 K S r v3 v4)) ∧ (¬ v4 = 0 → (((gR S 400) : Nat) = 17) ∧ (((gF S 101) ≤ v3 → (w_S_stands_82 (fun S r v1 v3 v4 v5 => w_S_stands_35 K n S r v1 v3 v4 v5) K S r v1 v3 v5)) ∧ (¬ (gF S 101) ≤ v3 → (((gR S 400) : Nat) = 17) ∧ (vp_in v3 120) ∧ (¬ v5 = 0) ∧ ((¬ ((gA S 2) v3.toNatClampNeg) = (48 + ((v1 / v5) - (v1 / v5) / 10 * 10)) → (w_S_stands_82 (fun S r v1 v3 v4 v5 => w_S_stands_35 K n S r v1 v3 v4 v5) K S r v1 v3 v5)) ∧ (((gA S 2) v3.toNatClampNeg) = (48 + ((v1 / v5) - (v1 / v5) / 10 * 10)) → (w_S_stands_85 (fun S r v1 v3 v4 v5 => w_S_stands_35 K n S r v1 v3 v4 v5) K S r v1 v3 1 v5)))))))))
set_option maxRecDepth 100000 in
theorem t_S_stands_35 {G : XG} {l : Launch} {d : Nat} {K : Int32 → XS → List AE → Prop} : ∀ (n : Nat) (S : XS) (r : List AE) (v1 : Int32) (v3 : Int32) (v4 : Int32) (v5 : Int32), w_S_stands_35 K n S r v1 v3 v4 v5 → xRn G l (d + 0) xm_S_stands (pI K) 35 [.ref 20, .int v1, .null, .int v3, .int v4, .int v5] [] (hL S r) := by
  intro n
  induction n with
  | zero => intro S r v1 v3 v4 v5 h; exact h.elim
  | succ n ih =>
    intro S r v1 v3 v4 v5 h
    refine xRn.blk (pc1 := 37) (ls1 := [.ref 20, .int v1, .null, .int v3, .int v4, .int v5]) (st1 := [.int v5]) (hp1 := (hL S r)) (ob := []) [(.iload 5, 2, 5, 0, 0, 0)] [] (by decide +kernel) rfl xall_nil (xSee_nil _) rfl rfl ?_
    refine xRn.if_le (tgt := 98) (nx := 40) (off := 61) (by decide +kernel) (by decide) rfl (fun c7 => ?_) (fun c7 => ?_)
    · have h := h.1 c7
      refine xRn.forget (xle_eq (xle_no (xle_eq (xle_eq (xle_eq (xle_no xle_nil)))))) ?_
      exact t_S_stands_98   S r v3 v4 h
    · have h := h.2 c7
      refine xRn.blk (pc1 := 42) (ls1 := [.ref 20, .int v1, .null, .int v3, .int v4, .int v5]) (st1 := [.int v4]) (hp1 := (hL S r)) (ob := []) [(.iload 4, 2, 4, 0, 0, 0)] [] (by decide +kernel) rfl xall_nil (xSee_nil _) rfl rfl ?_
      refine xRn.if_eq (tgt := 98) (nx := 45) (off := 56) (by decide +kernel) (by decide) rfl (fun c8 => ?_) (fun c8 => ?_)
      · have h := h.1 c8
        refine xRn.forget (xle_eq (xle_no (xle_eq (xle_eq (xle_eq (xle_no xle_nil)))))) ?_
        exact t_S_stands_98   S r v3 v4 h
      · have h := h.2 c8
        obtain ⟨o9, h⟩ := h
        refine xRn.blk (pc1 := 53) (ls1 := [.ref 20, .int v1, .null, .int v3, .int v4, .int v5]) (st1 := [.int (gF S 101), .int v3]) (hp1 := (hL S r)) (ob := [(20 : Nat) = 20, ((gR S 400) : Nat) = 17]) [(.iload_n 3, 1, 3, 0, 0, 0), (.aload_n 0, 1, 0, 0, 0, 0), (.getfield 16, 3, 0, 3, 0, 0), (.getfield 20, 3, 1, 1, 1, 0)] [(20, xc4 S), (17, xc1 S)] (by decide +kernel) rfl (xall_cons rfl (xall_cons o9 xall_nil)) (xSee_cons rfl (xne_cons (by decide) (xne_nil _)) (xSee_cons rfl (xne_nil _) (xSee_nil _))) rfl rfl ?_
        refine xRn.ic_ge (tgt := 82) (nx := 56) (off := 29) (by decide +kernel) (by decide) rfl (fun c10 => ?_) (fun c10 => ?_)
        · have h := h.1 c10
          refine xRn.forget (xle_eq (xle_eq (xle_eq (xle_eq (xle_no (xle_eq xle_nil)))))) ?_
          exact t_S_stands_82  ih S r v1 v3 v5 h
        · have h := h.2 c10
          obtain ⟨o11, o12, o13, h⟩ := h
          refine xRn.blk (pc1 := 75) (ls1 := [.ref 20, .int v1, .null, .int v3, .int v4, .int v5]) (st1 := [.int (48 + ((v1 / v5) - (v1 / v5) / 10 * 10)), .int ((gA S 2) v3.toNatClampNeg)]) (hp1 := (hL S r)) (ob := [(20 : Nat) = 20, ((gR S 400) : Nat) = 17, (18 : Nat) = 18, vp_in v3 120, ¬ v5 = 0, ¬ (10 : Int32) = 0]) [(.aload_n 0, 1, 0, 0, 0, 0), (.getfield 16, 3, 0, 3, 0, 0), (.getfield 29, 3, 0, 1, 1, 0), (.iload_n 3, 1, 3, 0, 0, 0), (.baload, 1, 0, 0, 2, 0), (.bipush 48, 2, 0, 0, 0, 48), (.iload_n 1, 1, 1, 0, 0, 0), (.iload 5, 2, 5, 0, 0, 0), (.idiv, 1, 0, 0, 0, 0), (.bipush 10, 2, 0, 0, 0, 10), (.irem, 1, 0, 0, 0, 0), (.iadd, 1, 0, 0, 0, 0)] [(20, xc4 S), (17, xc1 S), (18, xc2 S)] (by decide +kernel) rfl (xall_cons rfl (xall_cons o11 (xall_cons rfl (xall_cons o12 (xall_cons o13 (xall_cons (by decide) xall_nil)))))) (xSee_cons rfl (xne_cons (by decide) (xne_cons (by decide) (xne_nil _))) (xSee_cons rfl (xne_cons (by decide) (xne_nil _)) (xSee_cons rfl (xne_nil _) (xSee_nil _)))) rfl rfl ?_
          refine xRn.ic_ne (tgt := 82) (nx := 78) (off := 7) (by decide +kernel) (by decide) rfl (fun c14 => ?_) (fun c14 => ?_)
          · have h := h.1 c14
            refine xRn.forget (xle_eq (xle_eq (xle_eq (xle_eq (xle_no (xle_eq xle_nil)))))) ?_
            exact t_S_stands_82  ih S r v1 v3 v5 h
          · have h := h.2 c14
            refine xRn.blk (pc1 := 79) (ls1 := [.ref 20, .int v1, .null, .int v3, .int v4, .int v5]) (st1 := [.int 1]) (hp1 := (hL S r)) (ob := []) [(.iconst 1, 1, 0, 0, 0, 1)] [] (by decide +kernel) rfl xall_nil (xSee_nil _) rfl rfl ?_
            refine xRn.goto (tgt := 83) (off := 4) (by decide +kernel) (by decide) ?_
            refine xRn.blk (pc1 := 85) (ls1 := [.ref 20, .int v1, .null, .int v3, .int 1, .int v5]) (st1 := []) (hp1 := (hL S r)) (ob := []) [(.istore 4, 2, 4, 0, 0, 0)] [] (by decide +kernel) rfl xall_nil (xSee_nil _) rfl rfl ?_
            refine xRn.forget (xle_eq (xle_eq (xle_eq (xle_eq (xle_eq (xle_eq xle_nil)))))) ?_
            exact t_S_stands_85  ih S r v1 v3 1 v5 h
def w_S_stands_24   (K : Int32 → XS → List AE → Prop) (S : XS) (r : List AE) (v1 : Int32) (v2 : Int32) : Prop :=
  (∃ j, w_S_stands_35 K j S r v1 (gF S 401) 1 v2)
set_option maxRecDepth 100000 in
theorem t_S_stands_24 {G : XG} {l : Launch} {d : Nat} {K : Int32 → XS → List AE → Prop} (S : XS) (r : List AE) (v1 : Int32) (v2 : Int32) (h : w_S_stands_24 K S r v1 v2) : xRn G l (d + 0) xm_S_stands (pI K) 24 [.ref 20, .int v1, .int v2, .null, .null, .null] [] (hL S r) := by
  refine xRn.blk (pc1 := 35) (ls1 := [.ref 20, .int v1, .int v2, .int (gF S 401), .int 1, .int v2]) (st1 := []) (hp1 := (hL S r)) (ob := [(20 : Nat) = 20]) [(.aload_n 0, 1, 0, 0, 0, 0), (.getfield 10, 3, 1, 3, 0, 0), (.istore_n 3, 1, 3, 0, 0, 0), (.iconst 1, 1, 0, 0, 0, 1), (.istore 4, 2, 4, 0, 0, 0), (.iload_n 2, 1, 2, 0, 0, 0), (.istore 5, 2, 5, 0, 0, 0)] [(20, xc4 S)] (by decide +kernel) rfl (xall_cons rfl xall_nil) (xSee_cons rfl (xne_nil _) (xSee_nil _)) rfl rfl ?_
  refine xRn.forget (xle_eq (xle_eq (xle_no (xle_eq (xle_eq (xle_eq xle_nil)))))) ?_
  obtain ⟨n15, h⟩ := h
  exact t_S_stands_35   n15 S r v1 (gF S 401) 1 v2 h
def w_S_stands  (S : XS) (r : List AE) (p1 : Int32) (K : Int32 → XS → List AE → Prop) : Prop :=
  ((p1 ≤ (99 : Int32) → ((p1 ≤ (9 : Int32) → (w_S_stands_24 K S r p1 1)) ∧ (¬ p1 ≤ (9 : Int32) → (w_S_stands_24 K S r p1 10)))) ∧ (¬ p1 ≤ (99 : Int32) → (w_S_stands_24 K S r p1 100)))
set_option maxRecDepth 100000 in
theorem c_S_stands {G : XG} {l : Launch} {d : Nat} (S : XS) (r : List AE) (p1 : Int32) {K : Int32 → XS → List AE → Prop} (h : w_S_stands  S r p1 K) : xCt G l (d + 0) xm_S_stands [.ref 20, .int p1] (hL S r) (pI K) := by
  refine xCt.intro (by decide) (by decide) (List.forall_mem_cons.mpr ⟨rfl, (List.forall_mem_cons.mpr ⟨rfl, (fun _ h => by cases h)⟩)⟩) (Nat.le_of_ble_eq_true rfl) rfl ?_
  show xRn G l _ xm_S_stands _ 0 [.ref 20, .int p1, .null, .null, .null, .null] [] (hL S r)
  refine xRn.blk (pc1 := 3) (ls1 := [.ref 20, .int p1, .null, .null, .null, .null]) (st1 := [.int 99, .int p1]) (hp1 := (hL S r)) (ob := []) [(.iload_n 1, 1, 1, 0, 0, 0), (.bipush 99, 2, 0, 0, 0, 99)] [] (by decide +kernel) rfl xall_nil (xSee_nil _) rfl rfl ?_
  refine xRn.ic_le (tgt := 11) (nx := 6) (off := 8) (by decide +kernel) (by decide) rfl (fun c16 => ?_) (fun c16 => ?_)
  · have h := h.1 c16
    refine xRn.blk (pc1 := 14) (ls1 := [.ref 20, .int p1, .null, .null, .null, .null]) (st1 := [.int 9, .int p1]) (hp1 := (hL S r)) (ob := []) [(.iload_n 1, 1, 1, 0, 0, 0), (.bipush 9, 2, 0, 0, 0, 9)] [] (by decide +kernel) rfl xall_nil (xSee_nil _) rfl rfl ?_
    refine xRn.ic_le (tgt := 22) (nx := 17) (off := 8) (by decide +kernel) (by decide) rfl (fun c17 => ?_) (fun c17 => ?_)
    · have h := h.1 c17
      refine xRn.blk (pc1 := 24) (ls1 := [.ref 20, .int p1, .int 1, .null, .null, .null]) (st1 := []) (hp1 := (hL S r)) (ob := []) [(.iconst 1, 1, 0, 0, 0, 1), (.istore_n 2, 1, 2, 0, 0, 0)] [] (by decide +kernel) rfl xall_nil (xSee_nil _) rfl rfl ?_
      refine xRn.forget (xle_eq (xle_eq (xle_eq (xle_eq (xle_eq (xle_eq xle_nil)))))) ?_
      exact t_S_stands_24   S r p1 1 h
    · have h := h.2 c17
      refine xRn.blk (pc1 := 19) (ls1 := [.ref 20, .int p1, .null, .null, .null, .null]) (st1 := [.int 10]) (hp1 := (hL S r)) (ob := []) [(.bipush 10, 2, 0, 0, 0, 10)] [] (by decide +kernel) rfl xall_nil (xSee_nil _) rfl rfl ?_
      refine xRn.goto (tgt := 23) (off := 4) (by decide +kernel) (by decide) ?_
      refine xRn.blk (pc1 := 24) (ls1 := [.ref 20, .int p1, .int 10, .null, .null, .null]) (st1 := []) (hp1 := (hL S r)) (ob := []) [(.istore_n 2, 1, 2, 0, 0, 0)] [] (by decide +kernel) rfl xall_nil (xSee_nil _) rfl rfl ?_
      refine xRn.forget (xle_eq (xle_eq (xle_eq (xle_eq (xle_eq (xle_eq xle_nil)))))) ?_
      exact t_S_stands_24   S r p1 10 h
  · have h := h.2 c16
    refine xRn.blk (pc1 := 8) (ls1 := [.ref 20, .int p1, .null, .null, .null, .null]) (st1 := [.int 100]) (hp1 := (hL S r)) (ob := []) [(.bipush 100, 2, 0, 0, 0, 100)] [] (by decide +kernel) rfl xall_nil (xSee_nil _) rfl rfl ?_
    refine xRn.goto (tgt := 23) (off := 15) (by decide +kernel) (by decide) ?_
    refine xRn.blk (pc1 := 24) (ls1 := [.ref 20, .int p1, .int 100, .null, .null, .null]) (st1 := []) (hp1 := (hL S r)) (ob := []) [(.istore_n 2, 1, 2, 0, 0, 0)] [] (by decide +kernel) rfl xall_nil (xSee_nil _) rfl rfl ?_
    refine xRn.forget (xle_eq (xle_eq (xle_eq (xle_eq (xle_eq (xle_eq xle_nil)))))) ?_
    exact t_S_stands_24   S r p1 100 h
/-! S_tag -/
def w_S_tag  (S : XS) (r : List AE) (p1 : Int32) (K : XS → List AE → Prop) (KT : Nat → XS → List AE → Prop) : Prop :=
  (w_S_stands S r p1 (fun x1 S2 r3 => (w_S_need S2 r3 x1 (fun S5 r6 => ((p1 ≤ (99 : Int32) → ((p1 ≤ (9 : Int32) → (K (sF S5 401 ((gF S5 401) + 2)) r6)) ∧ (¬ p1 ≤ (9 : Int32) → (K (sF S5 401 ((gF S5 401) + 3)) r6)))) ∧ (¬ p1 ≤ (99 : Int32) → (K (sF S5 401 ((gF S5 401) + 4)) r6)))) (fun ci S r => KT ci S r))))
set_option maxRecDepth 100000 in
theorem c_S_tag {G : XG} {l : Launch} {d : Nat} (S : XS) (r : List AE) (p1 : Int32) {K : XS → List AE → Prop} {KT : Nat → XS → List AE → Prop} (h : w_S_tag  S r p1 K KT) : xCt G l (d + 7) xm_S_tag [.ref 20, .int p1] (hL S r) (qV K KT) := by
  refine xCt.intro (by decide) (by decide) (List.forall_mem_cons.mpr ⟨rfl, (List.forall_mem_cons.mpr ⟨rfl, (fun _ h => by cases h)⟩)⟩) (Nat.le_of_ble_eq_true rfl) rfl ?_
  show xRn G l _ xm_S_tag _ 0 [.ref 20, .int p1] [] (hL S r)
  refine xRn.blk (pc1 := 2) (ls1 := [.ref 20, .int p1]) (st1 := [.int p1, .ref 20]) (hp1 := (hL S r)) (ob := []) [(.aload_n 0, 1, 0, 0, 0, 0), (.iload_n 1, 1, 1, 0, 0, 0)] [] (by decide +kernel) rfl xall_nil (xSee_nil _) rfl rfl ?_
  refine xRn.callV (al := [.int p1]) (st := []) (nx := 5) (by decide +kernel) lk_V_S_tag_33_S_stands_3_1 rfl rfl (c_S_stands (d := d + 6) S r p1 h) rfl (Nat.le_of_ble_eq_true rfl) rfl rfl ?_ ?_
  · rintro _ _ ⟨x1, S2, r3, e9, rfl, h⟩
    cases e9
    show xRn G l _ _ _ 5 [.ref 20, .int p1] [.int x1] (hL S2 r3)
    refine xRn.callS (al := [.int x1]) (st := []) (nx := 8) (by decide +kernel) lk_S_S_tag_25_S_need_1 rfl (c_S_need (d := d + 0) S2 r3 x1 h) rfl (Nat.le_of_ble_eq_true rfl) rfl rfl ?_ ?_
    · rintro _ _ (⟨S5, r6, e9, rfl, h⟩ | ⟨_, _, _, _, e9, _⟩)
      · cases e9
        show xRn G l _ _ _ 8 [.ref 20, .int p1] [] (hL S5 r6)
        refine xRn.blk (pc1 := 16) (ls1 := [.ref 20, .int p1]) (st1 := [.int 99, .int p1, .int (gF S5 401), .ref 20]) (hp1 := (hL S5 r6)) (ob := [(20 : Nat) = 20]) [(.aload_n 0, 1, 0, 0, 0, 0), (.dup, 1, 0, 0, 0, 0), (.getfield 10, 3, 1, 3, 0, 0), (.iload_n 1, 1, 1, 0, 0, 0), (.bipush 99, 2, 0, 0, 0, 99)] [(20, xc4 S5)] (by decide +kernel) rfl (xall_cons rfl xall_nil) (xSee_cons rfl (xne_nil _) (xSee_nil _)) rfl rfl ?_
        refine xRn.ic_le (tgt := 23) (nx := 19) (off := 7) (by decide +kernel) (by decide) rfl (fun c7 => ?_) (fun c7 => ?_)
        · have h := h.1 c7
          refine xRn.blk (pc1 := 26) (ls1 := [.ref 20, .int p1]) (st1 := [.int 9, .int p1, .int (gF S5 401), .ref 20]) (hp1 := (hL S5 r6)) (ob := []) [(.iload_n 1, 1, 1, 0, 0, 0), (.bipush 9, 2, 0, 0, 0, 9)] [] (by decide +kernel) rfl xall_nil (xSee_nil _) rfl rfl ?_
          refine xRn.ic_le (tgt := 33) (nx := 29) (off := 7) (by decide +kernel) (by decide) rfl (fun c8 => ?_) (fun c8 => ?_)
          · have h := h.1 c8
            refine xRn.blk (pc1 := 38) (ls1 := [.ref 20, .int p1]) (st1 := []) (hp1 := (hL (sF S5 401 ((gF S5 401) + 2)) r6)) (ob := [(20 : Nat) = 20]) [(.iconst 2, 1, 0, 0, 0, 2), (.iadd, 1, 0, 0, 0, 0), (.putfield 10, 3, 1, 3, 0, 0)] [(20, xc4 S5)] (by decide +kernel) rfl (xall_cons rfl xall_nil) (xSee_cons rfl (xne_nil _) (xSee_nil _)) rfl rfl ?_
            exact xRn.vret (by decide +kernel) rfl (Or.inl ⟨_, _, rfl, rfl, h⟩)
          · have h := h.2 c8
            refine xRn.blk (pc1 := 30) (ls1 := [.ref 20, .int p1]) (st1 := [.int 3, .int (gF S5 401), .ref 20]) (hp1 := (hL S5 r6)) (ob := []) [(.iconst 3, 1, 0, 0, 0, 3)] [] (by decide +kernel) rfl xall_nil (xSee_nil _) rfl rfl ?_
            refine xRn.goto (tgt := 34) (off := 4) (by decide +kernel) (by decide) ?_
            refine xRn.blk (pc1 := 38) (ls1 := [.ref 20, .int p1]) (st1 := []) (hp1 := (hL (sF S5 401 ((gF S5 401) + 3)) r6)) (ob := [(20 : Nat) = 20]) [(.iadd, 1, 0, 0, 0, 0), (.putfield 10, 3, 1, 3, 0, 0)] [(20, xc4 S5)] (by decide +kernel) rfl (xall_cons rfl xall_nil) (xSee_cons rfl (xne_nil _) (xSee_nil _)) rfl rfl ?_
            exact xRn.vret (by decide +kernel) rfl (Or.inl ⟨_, _, rfl, rfl, h⟩)
        · have h := h.2 c7
          refine xRn.blk (pc1 := 20) (ls1 := [.ref 20, .int p1]) (st1 := [.int 4, .int (gF S5 401), .ref 20]) (hp1 := (hL S5 r6)) (ob := []) [(.iconst 4, 1, 0, 0, 0, 4)] [] (by decide +kernel) rfl xall_nil (xSee_nil _) rfl rfl ?_
          refine xRn.goto (tgt := 34) (off := 14) (by decide +kernel) (by decide) ?_
          refine xRn.blk (pc1 := 38) (ls1 := [.ref 20, .int p1]) (st1 := []) (hp1 := (hL (sF S5 401 ((gF S5 401) + 4)) r6)) (ob := [(20 : Nat) = 20]) [(.iadd, 1, 0, 0, 0, 0), (.putfield 10, 3, 1, 3, 0, 0)] [(20, xc4 S5)] (by decide +kernel) rfl (xall_cons rfl xall_nil) (xSee_cons rfl (xne_nil _) (xSee_nil _)) rfl rfl ?_
          exact xRn.vret (by decide +kernel) rfl (Or.inl ⟨_, _, rfl, rfl, h⟩)
      · cases e9
    · rintro n_ _ (⟨_, _, e9, _⟩ | ⟨_, _, S, r, e9, rfl, hx, h⟩) h16
      · cases e9
      · replace e9 := Sum.inr.inj e9
        subst e9
        exact xTh.out (by decide) h16 (Or.inr ⟨_, _, _, _, rfl, rfl, hx, h⟩)
  · rintro _ _ ⟨_, _, _, e9, _⟩
    cases e9
/-! S_number -/
def w_S_number_76   (K : Int32 → XS → List AE → Prop) (KT : Nat → XS → List AE → Prop) (S : XS) (r : List AE) (v2 : Int32) : Prop :=
  (K v2 S r)
set_option maxRecDepth 100000 in
theorem t_S_number_76 {G : XG} {l : Launch} {d : Nat} {K : Int32 → XS → List AE → Prop} {KT : Nat → XS → List AE → Prop} (S : XS) (r : List AE) (v2 : Int32) (h : w_S_number_76 K KT S r v2) : xRn G l (d + 8) xm_S_number (qI K KT) 76 [.null, .null, .int v2, .null, .null] [] (hL S r) := by
  refine xRn.blk (pc1 := 77) (ls1 := [.null, .null, .int v2, .null, .null]) (st1 := [.int v2]) (hp1 := (hL S r)) (ob := []) [(.iload_n 2, 1, 2, 0, 0, 0)] [] (by decide +kernel) rfl xall_nil (xSee_nil _) rfl rfl ?_
  exact xRn.iret (by decide +kernel) rfl rfl (Or.inl ⟨_, _, _, rfl, rfl, h⟩)
def w_S_number_72   (K : Int32 → XS → List AE → Prop) (KT : Nat → XS → List AE → Prop) (S : XS) (r : List AE) (v2 : Int32) : Prop :=
  (w_S_need S r 0 (fun S2 r3 => (w_S_number_76 K KT S2 r3 v2)) (fun ci S r => KT ci S r))
set_option maxRecDepth 100000 in
theorem t_S_number_72 {G : XG} {l : Launch} {d : Nat} {K : Int32 → XS → List AE → Prop} {KT : Nat → XS → List AE → Prop} (S : XS) (r : List AE) (v2 : Int32) (h : w_S_number_72 K KT S r v2) : xRn G l (d + 8) xm_S_number (qI K KT) 72 [.null, .null, .int v2, .null, .null] [] (hL S r) := by
  refine xRn.blk (pc1 := 73) (ls1 := [.null, .null, .int v2, .null, .null]) (st1 := [.int 0]) (hp1 := (hL S r)) (ob := []) [(.iconst 0, 1, 0, 0, 0, 0)] [] (by decide +kernel) rfl xall_nil (xSee_nil _) rfl rfl ?_
  refine xRn.callS (al := [.int 0]) (st := []) (nx := 76) (by decide +kernel) lk_S_S_number_25_S_need_1 rfl (c_S_need (d := d + 1) S r 0 h) rfl (Nat.le_of_ble_eq_true rfl) rfl rfl ?_ ?_
  · rintro _ _ (⟨S2, r3, e9, rfl, h⟩ | ⟨_, _, _, _, e9, _⟩)
    · cases e9
      show xRn G l _ _ _ 76 [.null, .null, .int v2, .null, .null] [] (hL S2 r3)
      refine xRn.forget (xle_eq (xle_eq (xle_eq (xle_eq (xle_eq xle_nil))))) ?_
      exact t_S_number_76   S2 r3 v2 h
    · cases e9
  · rintro n_ _ (⟨_, _, e9, _⟩ | ⟨_, _, S, r, e9, rfl, hx, h⟩) h16
    · cases e9
    · replace e9 := Sum.inr.inj e9
      subst e9
      exact xTh.out (by decide) h16 (Or.inr ⟨_, _, _, _, rfl, rfl, hx, h⟩)
def w_S_number_58   (K : Int32 → XS → List AE → Prop) (KT : Nat → XS → List AE → Prop) (S : XS) (r : List AE) (v2 : Int32) (v3 : Int32) (v4 : Int32) : Prop :=
  ((v3 ≤ 0 → (w_S_number_72 K KT S r v2)) ∧ (¬ v3 ≤ 0 → ((¬ v4 = (1 : Int32) → (w_S_number_72 K KT S r v2)) ∧ (v4 = (1 : Int32) → (w_S_need S r 1 (fun S7 r8 => (w_S_number_76 K KT S7 r8 v2)) (fun ci S r => KT ci S r))))))
set_option maxRecDepth 100000 in
theorem t_S_number_58 {G : XG} {l : Launch} {d : Nat} {K : Int32 → XS → List AE → Prop} {KT : Nat → XS → List AE → Prop} (S : XS) (r : List AE) (v2 : Int32) (v3 : Int32) (v4 : Int32) (h : w_S_number_58 K KT S r v2 v3 v4) : xRn G l (d + 8) xm_S_number (qI K KT) 58 [.null, .null, .int v2, .int v3, .int v4] [] (hL S r) := by
  refine xRn.blk (pc1 := 59) (ls1 := [.null, .null, .int v2, .int v3, .int v4]) (st1 := [.int v3]) (hp1 := (hL S r)) (ob := []) [(.iload_n 3, 1, 3, 0, 0, 0)] [] (by decide +kernel) rfl xall_nil (xSee_nil _) rfl rfl ?_
  refine xRn.if_le (tgt := 72) (nx := 62) (off := 13) (by decide +kernel) (by decide) rfl (fun c4 => ?_) (fun c4 => ?_)
  · have h := h.1 c4
    refine xRn.forget (xle_eq (xle_eq (xle_eq (xle_no (xle_no xle_nil))))) ?_
    exact t_S_number_72   S r v2 h
  · have h := h.2 c4
    refine xRn.blk (pc1 := 65) (ls1 := [.null, .null, .int v2, .int v3, .int v4]) (st1 := [.int 1, .int v4]) (hp1 := (hL S r)) (ob := []) [(.iload 4, 2, 4, 0, 0, 0), (.iconst 1, 1, 0, 0, 0, 1)] [] (by decide +kernel) rfl xall_nil (xSee_nil _) rfl rfl ?_
    refine xRn.ic_ne (tgt := 72) (nx := 68) (off := 7) (by decide +kernel) (by decide) rfl (fun c5 => ?_) (fun c5 => ?_)
    · have h := h.1 c5
      refine xRn.forget (xle_eq (xle_eq (xle_eq (xle_no (xle_no xle_nil))))) ?_
      exact t_S_number_72   S r v2 h
    · have h := h.2 c5
      refine xRn.blk (pc1 := 69) (ls1 := [.null, .null, .int v2, .int v3, .int v4]) (st1 := [.int 1]) (hp1 := (hL S r)) (ob := []) [(.iconst 1, 1, 0, 0, 0, 1)] [] (by decide +kernel) rfl xall_nil (xSee_nil _) rfl rfl ?_
      refine xRn.goto (tgt := 73) (off := 4) (by decide +kernel) (by decide) ?_
      refine xRn.callS (al := [.int 1]) (st := []) (nx := 76) (by decide +kernel) lk_S_S_number_25_S_need_1 rfl (c_S_need (d := d + 1) S r 1 h) rfl (Nat.le_of_ble_eq_true rfl) rfl rfl ?_ ?_
      · rintro _ _ (⟨S7, r8, e9, rfl, h⟩ | ⟨_, _, _, _, e9, _⟩)
        · cases e9
          show xRn G l _ _ _ 76 [.null, .null, .int v2, .int v3, .int v4] [] (hL S7 r8)
          refine xRn.forget (xle_eq (xle_eq (xle_eq (xle_no (xle_no xle_nil))))) ?_
          exact t_S_number_76   S7 r8 v2 h
        · cases e9
      · rintro n_ _ (⟨_, _, e9, _⟩ | ⟨_, _, S, r, e9, rfl, hx, h⟩) h16
        · cases e9
        · replace e9 := Sum.inr.inj e9
          subst e9
          exact xTh.out (by decide) h16 (Or.inr ⟨_, _, _, _, rfl, rfl, hx, h⟩)
def w_S_number_15   (K : Int32 → XS → List AE → Prop) (KT : Nat → XS → List AE → Prop) : Nat → XS → List AE → Int32 → Int32 → Int32 → Prop
  | 0, _, _, _, _, _ => False
  | n + 1, S, r, v2, v3, v4 => ((v4 < (48 : Int32) → (w_S_number_58 K KT S r v2 v3 v4)) ∧ (¬ v4 < (48 : Int32) → (((57 : Int32) < v4 → (w_S_number_58 K KT S r v2 v3 v4)) ∧ (¬ (57 : Int32) < v4 → (((6 : Int32) ≤ v3 → (w_S_number_58 K KT S r v2 v3 v4)) ∧ (¬ (6 : Int32) ≤ v3 → (w_S_next S r  (fun x12 S13 r14 => (w_S_number_15 K KT n S13 r14 (((10 * v2) + v4) - 48) (v3 + 1) x12)) (fun ci S r => KT ci S r))))))))
set_option maxRecDepth 100000 in
theorem t_S_number_15 {G : XG} {l : Launch} {d : Nat} {K : Int32 → XS → List AE → Prop} {KT : Nat → XS → List AE → Prop} : ∀ (n : Nat) (S : XS) (r : List AE) (v2 : Int32) (v3 : Int32) (v4 : Int32), w_S_number_15 K KT n S r v2 v3 v4 → xRn G l (d + 8) xm_S_number (qI K KT) 15 [.ref 20, .null, .int v2, .int v3, .int v4] [] (hL S r) := by
  intro n
  induction n with
  | zero => intro S r v2 v3 v4 h; exact h.elim
  | succ n ih =>
    intro S r v2 v3 v4 h
    refine xRn.blk (pc1 := 19) (ls1 := [.ref 20, .null, .int v2, .int v3, .int v4]) (st1 := [.int 48, .int v4]) (hp1 := (hL S r)) (ob := []) [(.iload 4, 2, 4, 0, 0, 0), (.bipush 48, 2, 0, 0, 0, 48)] [] (by decide +kernel) rfl xall_nil (xSee_nil _) rfl rfl ?_
    refine xRn.ic_lt (tgt := 58) (nx := 22) (off := 39) (by decide +kernel) (by decide) rfl (fun c9 => ?_) (fun c9 => ?_)
    · have h := h.1 c9
      refine xRn.forget (xle_no (xle_eq (xle_eq (xle_eq (xle_eq xle_nil))))) ?_
      exact t_S_number_58   S r v2 v3 v4 h
    · have h := h.2 c9
      refine xRn.blk (pc1 := 26) (ls1 := [.ref 20, .null, .int v2, .int v3, .int v4]) (st1 := [.int 57, .int v4]) (hp1 := (hL S r)) (ob := []) [(.iload 4, 2, 4, 0, 0, 0), (.bipush 57, 2, 0, 0, 0, 57)] [] (by decide +kernel) rfl xall_nil (xSee_nil _) rfl rfl ?_
      refine xRn.ic_gt (tgt := 58) (nx := 29) (off := 32) (by decide +kernel) (by decide) rfl (fun c10 => ?_) (fun c10 => ?_)
      · have h := h.1 c10
        refine xRn.forget (xle_no (xle_eq (xle_eq (xle_eq (xle_eq xle_nil))))) ?_
        exact t_S_number_58   S r v2 v3 v4 h
      · have h := h.2 c10
        refine xRn.blk (pc1 := 32) (ls1 := [.ref 20, .null, .int v2, .int v3, .int v4]) (st1 := [.int 6, .int v3]) (hp1 := (hL S r)) (ob := []) [(.iload_n 3, 1, 3, 0, 0, 0), (.bipush 6, 2, 0, 0, 0, 6)] [] (by decide +kernel) rfl xall_nil (xSee_nil _) rfl rfl ?_
        refine xRn.ic_ge (tgt := 58) (nx := 35) (off := 26) (by decide +kernel) (by decide) rfl (fun c11 => ?_) (fun c11 => ?_)
        · have h := h.1 c11
          refine xRn.forget (xle_no (xle_eq (xle_eq (xle_eq (xle_eq xle_nil))))) ?_
          exact t_S_number_58   S r v2 v3 v4 h
        · have h := h.2 c11
          refine xRn.blk (pc1 := 50) (ls1 := [.ref 20, .null, .int (((10 * v2) + v4) - 48), .int (v3 + 1), .int v4]) (st1 := [.ref 20]) (hp1 := (hL S r)) (ob := []) [(.bipush 10, 2, 0, 0, 0, 10), (.iload_n 2, 1, 2, 0, 0, 0), (.imul, 1, 0, 0, 0, 0), (.iload 4, 2, 4, 0, 0, 0), (.iadd, 1, 0, 0, 0, 0), (.bipush 48, 2, 0, 0, 0, 48), (.isub, 1, 0, 0, 0, 0), (.istore_n 2, 1, 2, 0, 0, 0), (.iinc 3 1, 3, 3, 0, 0, 1), (.aload_n 0, 1, 0, 0, 0, 0)] [] (by decide +kernel) rfl xall_nil (xSee_nil _) rfl rfl ?_
          refine xRn.callV (al := []) (st := []) (nx := 53) (by decide +kernel) lk_V_S_number_41_S_next_3_0 rfl rfl (c_S_next (d := d + 0) S r  h) rfl (Nat.le_of_ble_eq_true rfl) rfl rfl ?_ ?_
          · rintro _ _ (⟨x12, S13, r14, e9, rfl, h⟩ | ⟨_, _, _, _, e9, _⟩)
            · cases e9
              show xRn G l _ _ _ 53 [.ref 20, .null, .int (((10 * v2) + v4) - 48), .int (v3 + 1), .int v4] [.int x12] (hL S13 r14)
              refine xRn.blk (pc1 := 55) (ls1 := [.ref 20, .null, .int (((10 * v2) + v4) - 48), .int (v3 + 1), .int x12]) (st1 := []) (hp1 := (hL S13 r14)) (ob := []) [(.istore 4, 2, 4, 0, 0, 0)] [] (by decide +kernel) rfl xall_nil (xSee_nil _) rfl rfl ?_
              refine xRn.goto (tgt := 15) (off := (-40)) (by decide +kernel) (by decide) ?_
              refine xRn.forget (xle_eq (xle_eq (xle_eq (xle_eq (xle_eq xle_nil))))) ?_
              exact ih S13 r14 (((10 * v2) + v4) - 48) (v3 + 1) x12 h
            · cases e9
          · rintro n_ _ (⟨_, _, _, e9, _⟩ | ⟨_, _, S, r, e9, rfl, hx, h⟩) h16
            · cases e9
            · replace e9 := Sum.inr.inj e9
              subst e9
              exact xTh.out (by decide) h16 (Or.inr ⟨_, _, _, _, rfl, rfl, hx, h⟩)
def w_S_number  (S : XS) (r : List AE) (p1 : Int32) (K : Int32 → XS → List AE → Prop) (KT : Nat → XS → List AE → Prop) : Prop :=
  (w_S_tag S r p1 (fun S16 r17 => (w_S_next S16 r17  (fun x18 S19 r20 => (∃ j, w_S_number_15 K KT j S19 r20 0 0 x18)) (fun ci S r => KT ci S r))) (fun ci S r => KT ci S r))
set_option maxRecDepth 100000 in
theorem c_S_number {G : XG} {l : Launch} {d : Nat} (S : XS) (r : List AE) (p1 : Int32) {K : Int32 → XS → List AE → Prop} {KT : Nat → XS → List AE → Prop} (h : w_S_number  S r p1 K KT) : xCt G l (d + 8) xm_S_number [.ref 20, .int p1] (hL S r) (qI K KT) := by
  refine xCt.intro (by decide) (by decide) (List.forall_mem_cons.mpr ⟨rfl, (List.forall_mem_cons.mpr ⟨rfl, (fun _ h => by cases h)⟩)⟩) (Nat.le_of_ble_eq_true rfl) rfl ?_
  show xRn G l _ xm_S_number _ 0 [.ref 20, .int p1, .null, .null, .null] [] (hL S r)
  refine xRn.blk (pc1 := 2) (ls1 := [.ref 20, .int p1, .null, .null, .null]) (st1 := [.int p1, .ref 20]) (hp1 := (hL S r)) (ob := []) [(.aload_n 0, 1, 0, 0, 0, 0), (.iload_n 1, 1, 1, 0, 0, 0)] [] (by decide +kernel) rfl xall_nil (xSee_nil _) rfl rfl ?_
  refine xRn.callV (al := [.int p1]) (st := []) (nx := 5) (by decide +kernel) lk_V_S_number_37_S_tag_3_1 rfl rfl (c_S_tag (d := d + 0) S r p1 h) rfl (Nat.le_of_ble_eq_true rfl) rfl rfl ?_ ?_
  · rintro _ _ (⟨S16, r17, e9, rfl, h⟩ | ⟨_, _, _, _, e9, _⟩)
    · cases e9
      show xRn G l _ _ _ 5 [.ref 20, .int p1, .null, .null, .null] [] (hL S16 r17)
      refine xRn.blk (pc1 := 10) (ls1 := [.ref 20, .int p1, .int 0, .int 0, .null]) (st1 := [.ref 20]) (hp1 := (hL S16 r17)) (ob := []) [(.iconst 0, 1, 0, 0, 0, 0), (.istore_n 2, 1, 2, 0, 0, 0), (.iconst 0, 1, 0, 0, 0, 0), (.istore_n 3, 1, 3, 0, 0, 0), (.aload_n 0, 1, 0, 0, 0, 0)] [] (by decide +kernel) rfl xall_nil (xSee_nil _) rfl rfl ?_
      refine xRn.callV (al := []) (st := []) (nx := 13) (by decide +kernel) lk_V_S_number_41_S_next_3_0 rfl rfl (c_S_next (d := d + 0) S16 r17  h) rfl (Nat.le_of_ble_eq_true rfl) rfl rfl ?_ ?_
      · rintro _ _ (⟨x18, S19, r20, e9, rfl, h⟩ | ⟨_, _, _, _, e9, _⟩)
        · cases e9
          show xRn G l _ _ _ 13 [.ref 20, .int p1, .int 0, .int 0, .null] [.int x18] (hL S19 r20)
          refine xRn.blk (pc1 := 15) (ls1 := [.ref 20, .int p1, .int 0, .int 0, .int x18]) (st1 := []) (hp1 := (hL S19 r20)) (ob := []) [(.istore 4, 2, 4, 0, 0, 0)] [] (by decide +kernel) rfl xall_nil (xSee_nil _) rfl rfl ?_
          refine xRn.forget (xle_eq (xle_no (xle_eq (xle_eq (xle_eq xle_nil))))) ?_
          obtain ⟨n21, h⟩ := h
          exact t_S_number_15   n21 S19 r20 0 0 x18 h
        · cases e9
      · rintro n_ _ (⟨_, _, _, e9, _⟩ | ⟨_, _, S, r, e9, rfl, hx, h⟩) h16
        · cases e9
        · replace e9 := Sum.inr.inj e9
          subst e9
          exact xTh.out (by decide) h16 (Or.inr ⟨_, _, _, _, rfl, rfl, hx, h⟩)
    · cases e9
  · rintro n_ _ (⟨_, _, e9, _⟩ | ⟨_, _, S, r, e9, rfl, hx, h⟩) h16
    · cases e9
    · replace e9 := Sum.inr.inj e9
      subst e9
      exact xTh.out (by decide) h16 (Or.inr ⟨_, _, _, _, rfl, rfl, hx, h⟩)
/-! S_letter -/
def w_S_letter_46   (K : Int32 → XS → List AE → Prop) (KT : Nat → XS → List AE → Prop) (S : XS) (r : List AE) (v2 : Int32) : Prop :=
  (K ((v2.toUInt32 % 65536).toInt32) S r)
set_option maxRecDepth 100000 in
theorem t_S_letter_46 {G : XG} {l : Launch} {d : Nat} {K : Int32 → XS → List AE → Prop} {KT : Nat → XS → List AE → Prop} (S : XS) (r : List AE) (v2 : Int32) (h : w_S_letter_46 K KT S r v2) : xRn G l (d + 8) xm_S_letter (qI K KT) 46 [.null, .null, .int v2] [] (hL S r) := by
  refine xRn.blk (pc1 := 48) (ls1 := [.null, .null, .int v2]) (st1 := [.int ((v2.toUInt32 % 65536).toInt32)]) (hp1 := (hL S r)) (ob := []) [(.iload_n 2, 1, 2, 0, 0, 0), (.i2c, 1, 0, 0, 0, 0)] [] (by decide +kernel) rfl xall_nil (xSee_nil _) rfl rfl ?_
  exact xRn.iret (by decide +kernel) rfl (pk_nc _) (Or.inl ⟨_, _, _, rfl, rfl, h⟩)
def w_S_letter_30   (K : Int32 → XS → List AE → Prop) (KT : Nat → XS → List AE → Prop) (S : XS) (r : List AE) (v2 : Int32) : Prop :=
  (w_S_next S r  (fun x1 S2 r3 => ((¬ x1 = (1 : Int32) → (w_S_need S2 r3 0 (fun S6 r7 => (w_S_letter_46 K KT S6 r7 v2)) (fun ci S r => KT ci S r))) ∧ (x1 = (1 : Int32) → (w_S_need S2 r3 1 (fun S9 r10 => (w_S_letter_46 K KT S9 r10 v2)) (fun ci S r => KT ci S r))))) (fun ci S r => KT ci S r))
set_option maxRecDepth 100000 in
theorem t_S_letter_30 {G : XG} {l : Launch} {d : Nat} {K : Int32 → XS → List AE → Prop} {KT : Nat → XS → List AE → Prop} (S : XS) (r : List AE) (v2 : Int32) (h : w_S_letter_30 K KT S r v2) : xRn G l (d + 8) xm_S_letter (qI K KT) 30 [.ref 20, .null, .int v2] [] (hL S r) := by
  refine xRn.blk (pc1 := 31) (ls1 := [.ref 20, .null, .int v2]) (st1 := [.ref 20]) (hp1 := (hL S r)) (ob := []) [(.aload_n 0, 1, 0, 0, 0, 0)] [] (by decide +kernel) rfl xall_nil (xSee_nil _) rfl rfl ?_
  refine xRn.callV (al := []) (st := []) (nx := 34) (by decide +kernel) lk_V_S_letter_41_S_next_3_0 rfl rfl (c_S_next (d := d + 0) S r  h) rfl (Nat.le_of_ble_eq_true rfl) rfl rfl ?_ ?_
  · rintro _ _ (⟨x1, S2, r3, e9, rfl, h⟩ | ⟨_, _, _, _, e9, _⟩)
    · cases e9
      show xRn G l _ _ _ 34 [.ref 20, .null, .int v2] [.int x1] (hL S2 r3)
      refine xRn.blk (pc1 := 35) (ls1 := [.ref 20, .null, .int v2]) (st1 := [.int 1, .int x1]) (hp1 := (hL S2 r3)) (ob := []) [(.iconst 1, 1, 0, 0, 0, 1)] [] (by decide +kernel) rfl xall_nil (xSee_nil _) rfl rfl ?_
      refine xRn.ic_ne (tgt := 42) (nx := 38) (off := 7) (by decide +kernel) (by decide) rfl (fun c4 => ?_) (fun c4 => ?_)
      · have h := h.1 c4
        refine xRn.blk (pc1 := 43) (ls1 := [.ref 20, .null, .int v2]) (st1 := [.int 0]) (hp1 := (hL S2 r3)) (ob := []) [(.iconst 0, 1, 0, 0, 0, 0)] [] (by decide +kernel) rfl xall_nil (xSee_nil _) rfl rfl ?_
        refine xRn.callS (al := [.int 0]) (st := []) (nx := 46) (by decide +kernel) lk_S_S_letter_25_S_need_1 rfl (c_S_need (d := d + 1) S2 r3 0 h) rfl (Nat.le_of_ble_eq_true rfl) rfl rfl ?_ ?_
        · rintro _ _ (⟨S6, r7, e9, rfl, h⟩ | ⟨_, _, _, _, e9, _⟩)
          · cases e9
            show xRn G l _ _ _ 46 [.ref 20, .null, .int v2] [] (hL S6 r7)
            refine xRn.forget (xle_no (xle_eq (xle_eq xle_nil))) ?_
            exact t_S_letter_46   S6 r7 v2 h
          · cases e9
        · rintro n_ _ (⟨_, _, e9, _⟩ | ⟨_, _, S, r, e9, rfl, hx, h⟩) h16
          · cases e9
          · replace e9 := Sum.inr.inj e9
            subst e9
            exact xTh.out (by decide) h16 (Or.inr ⟨_, _, _, _, rfl, rfl, hx, h⟩)
      · have h := h.2 c4
        refine xRn.blk (pc1 := 39) (ls1 := [.ref 20, .null, .int v2]) (st1 := [.int 1]) (hp1 := (hL S2 r3)) (ob := []) [(.iconst 1, 1, 0, 0, 0, 1)] [] (by decide +kernel) rfl xall_nil (xSee_nil _) rfl rfl ?_
        refine xRn.goto (tgt := 43) (off := 4) (by decide +kernel) (by decide) ?_
        refine xRn.callS (al := [.int 1]) (st := []) (nx := 46) (by decide +kernel) lk_S_S_letter_25_S_need_1 rfl (c_S_need (d := d + 1) S2 r3 1 h) rfl (Nat.le_of_ble_eq_true rfl) rfl rfl ?_ ?_
        · rintro _ _ (⟨S9, r10, e9, rfl, h⟩ | ⟨_, _, _, _, e9, _⟩)
          · cases e9
            show xRn G l _ _ _ 46 [.ref 20, .null, .int v2] [] (hL S9 r10)
            refine xRn.forget (xle_no (xle_eq (xle_eq xle_nil))) ?_
            exact t_S_letter_46   S9 r10 v2 h
          · cases e9
        · rintro n_ _ (⟨_, _, e9, _⟩ | ⟨_, _, S, r, e9, rfl, hx, h⟩) h16
          · cases e9
          · replace e9 := Sum.inr.inj e9
            subst e9
            exact xTh.out (by decide) h16 (Or.inr ⟨_, _, _, _, rfl, rfl, hx, h⟩)
    · cases e9
  · rintro n_ _ (⟨_, _, _, e9, _⟩ | ⟨_, _, S, r, e9, rfl, hx, h⟩) h16
    · cases e9
    · replace e9 := Sum.inr.inj e9
      subst e9
      exact xTh.out (by decide) h16 (Or.inr ⟨_, _, _, _, rfl, rfl, hx, h⟩)
def w_S_letter_26   (K : Int32 → XS → List AE → Prop) (KT : Nat → XS → List AE → Prop) (S : XS) (r : List AE) (v2 : Int32) : Prop :=
  (w_S_need S r 0 (fun S12 r13 => (w_S_letter_30 K KT S12 r13 v2)) (fun ci S r => KT ci S r))
set_option maxRecDepth 100000 in
theorem t_S_letter_26 {G : XG} {l : Launch} {d : Nat} {K : Int32 → XS → List AE → Prop} {KT : Nat → XS → List AE → Prop} (S : XS) (r : List AE) (v2 : Int32) (h : w_S_letter_26 K KT S r v2) : xRn G l (d + 8) xm_S_letter (qI K KT) 26 [.ref 20, .null, .int v2] [] (hL S r) := by
  refine xRn.blk (pc1 := 27) (ls1 := [.ref 20, .null, .int v2]) (st1 := [.int 0]) (hp1 := (hL S r)) (ob := []) [(.iconst 0, 1, 0, 0, 0, 0)] [] (by decide +kernel) rfl xall_nil (xSee_nil _) rfl rfl ?_
  refine xRn.callS (al := [.int 0]) (st := []) (nx := 30) (by decide +kernel) lk_S_S_letter_25_S_need_1 rfl (c_S_need (d := d + 1) S r 0 h) rfl (Nat.le_of_ble_eq_true rfl) rfl rfl ?_ ?_
  · rintro _ _ (⟨S12, r13, e9, rfl, h⟩ | ⟨_, _, _, _, e9, _⟩)
    · cases e9
      show xRn G l _ _ _ 30 [.ref 20, .null, .int v2] [] (hL S12 r13)
      refine xRn.forget (xle_eq (xle_eq (xle_eq xle_nil))) ?_
      exact t_S_letter_30   S12 r13 v2 h
    · cases e9
  · rintro n_ _ (⟨_, _, e9, _⟩ | ⟨_, _, S, r, e9, rfl, hx, h⟩) h16
    · cases e9
    · replace e9 := Sum.inr.inj e9
      subst e9
      exact xTh.out (by decide) h16 (Or.inr ⟨_, _, _, _, rfl, rfl, hx, h⟩)
def w_S_letter  (S : XS) (r : List AE) (p1 : Int32) (K : Int32 → XS → List AE → Prop) (KT : Nat → XS → List AE → Prop) : Prop :=
  (w_S_tag S r p1 (fun S15 r16 => (w_S_next S15 r16  (fun x17 S18 r19 => ((x17 ≤ (32 : Int32) → (w_S_letter_26 K KT S18 r19 x17)) ∧ (¬ x17 ≤ (32 : Int32) → (((127 : Int32) ≤ x17 → (w_S_letter_26 K KT S18 r19 x17)) ∧ (¬ (127 : Int32) ≤ x17 → (w_S_need S18 r19 1 (fun S23 r24 => (w_S_letter_30 K KT S23 r24 x17)) (fun ci S r => KT ci S r))))))) (fun ci S r => KT ci S r))) (fun ci S r => KT ci S r))
set_option maxRecDepth 100000 in
theorem c_S_letter {G : XG} {l : Launch} {d : Nat} (S : XS) (r : List AE) (p1 : Int32) {K : Int32 → XS → List AE → Prop} {KT : Nat → XS → List AE → Prop} (h : w_S_letter  S r p1 K KT) : xCt G l (d + 8) xm_S_letter [.ref 20, .int p1] (hL S r) (qI K KT) := by
  refine xCt.intro (by decide) (by decide) (List.forall_mem_cons.mpr ⟨rfl, (List.forall_mem_cons.mpr ⟨rfl, (fun _ h => by cases h)⟩)⟩) (Nat.le_of_ble_eq_true rfl) rfl ?_
  show xRn G l _ xm_S_letter _ 0 [.ref 20, .int p1, .null] [] (hL S r)
  refine xRn.blk (pc1 := 2) (ls1 := [.ref 20, .int p1, .null]) (st1 := [.int p1, .ref 20]) (hp1 := (hL S r)) (ob := []) [(.aload_n 0, 1, 0, 0, 0, 0), (.iload_n 1, 1, 1, 0, 0, 0)] [] (by decide +kernel) rfl xall_nil (xSee_nil _) rfl rfl ?_
  refine xRn.callV (al := [.int p1]) (st := []) (nx := 5) (by decide +kernel) lk_V_S_letter_37_S_tag_3_1 rfl rfl (c_S_tag (d := d + 0) S r p1 h) rfl (Nat.le_of_ble_eq_true rfl) rfl rfl ?_ ?_
  · rintro _ _ (⟨S15, r16, e9, rfl, h⟩ | ⟨_, _, _, _, e9, _⟩)
    · cases e9
      show xRn G l _ _ _ 5 [.ref 20, .int p1, .null] [] (hL S15 r16)
      refine xRn.blk (pc1 := 6) (ls1 := [.ref 20, .int p1, .null]) (st1 := [.ref 20]) (hp1 := (hL S15 r16)) (ob := []) [(.aload_n 0, 1, 0, 0, 0, 0)] [] (by decide +kernel) rfl xall_nil (xSee_nil _) rfl rfl ?_
      refine xRn.callV (al := []) (st := []) (nx := 9) (by decide +kernel) lk_V_S_letter_41_S_next_3_0 rfl rfl (c_S_next (d := d + 0) S15 r16  h) rfl (Nat.le_of_ble_eq_true rfl) rfl rfl ?_ ?_
      · rintro _ _ (⟨x17, S18, r19, e9, rfl, h⟩ | ⟨_, _, _, _, e9, _⟩)
        · cases e9
          show xRn G l _ _ _ 9 [.ref 20, .int p1, .null] [.int x17] (hL S18 r19)
          refine xRn.blk (pc1 := 13) (ls1 := [.ref 20, .int p1, .int x17]) (st1 := [.int 32, .int x17]) (hp1 := (hL S18 r19)) (ob := []) [(.istore_n 2, 1, 2, 0, 0, 0), (.iload_n 2, 1, 2, 0, 0, 0), (.bipush 32, 2, 0, 0, 0, 32)] [] (by decide +kernel) rfl xall_nil (xSee_nil _) rfl rfl ?_
          refine xRn.ic_le (tgt := 26) (nx := 16) (off := 13) (by decide +kernel) (by decide) rfl (fun c20 => ?_) (fun c20 => ?_)
          · have h := h.1 c20
            refine xRn.forget (xle_eq (xle_no (xle_eq xle_nil))) ?_
            exact t_S_letter_26   S18 r19 x17 h
          · have h := h.2 c20
            refine xRn.blk (pc1 := 19) (ls1 := [.ref 20, .int p1, .int x17]) (st1 := [.int 127, .int x17]) (hp1 := (hL S18 r19)) (ob := []) [(.iload_n 2, 1, 2, 0, 0, 0), (.bipush 127, 2, 0, 0, 0, 127)] [] (by decide +kernel) rfl xall_nil (xSee_nil _) rfl rfl ?_
            refine xRn.ic_ge (tgt := 26) (nx := 22) (off := 7) (by decide +kernel) (by decide) rfl (fun c21 => ?_) (fun c21 => ?_)
            · have h := h.1 c21
              refine xRn.forget (xle_eq (xle_no (xle_eq xle_nil))) ?_
              exact t_S_letter_26   S18 r19 x17 h
            · have h := h.2 c21
              refine xRn.blk (pc1 := 23) (ls1 := [.ref 20, .int p1, .int x17]) (st1 := [.int 1]) (hp1 := (hL S18 r19)) (ob := []) [(.iconst 1, 1, 0, 0, 0, 1)] [] (by decide +kernel) rfl xall_nil (xSee_nil _) rfl rfl ?_
              refine xRn.goto (tgt := 27) (off := 4) (by decide +kernel) (by decide) ?_
              refine xRn.callS (al := [.int 1]) (st := []) (nx := 30) (by decide +kernel) lk_S_S_letter_25_S_need_1 rfl (c_S_need (d := d + 1) S18 r19 1 h) rfl (Nat.le_of_ble_eq_true rfl) rfl rfl ?_ ?_
              · rintro _ _ (⟨S23, r24, e9, rfl, h⟩ | ⟨_, _, _, _, e9, _⟩)
                · cases e9
                  show xRn G l _ _ _ 30 [.ref 20, .int p1, .int x17] [] (hL S23 r24)
                  refine xRn.forget (xle_eq (xle_no (xle_eq xle_nil))) ?_
                  exact t_S_letter_30   S23 r24 x17 h
                · cases e9
              · rintro n_ _ (⟨_, _, e9, _⟩ | ⟨_, _, S, r, e9, rfl, hx, h⟩) h16
                · cases e9
                · replace e9 := Sum.inr.inj e9
                  subst e9
                  exact xTh.out (by decide) h16 (Or.inr ⟨_, _, _, _, rfl, rfl, hx, h⟩)
        · cases e9
      · rintro n_ _ (⟨_, _, _, e9, _⟩ | ⟨_, _, S, r, e9, rfl, hx, h⟩) h16
        · cases e9
        · replace e9 := Sum.inr.inj e9
          subst e9
          exact xTh.out (by decide) h16 (Or.inr ⟨_, _, _, _, rfl, rfl, hx, h⟩)
    · cases e9
  · rintro n_ _ (⟨_, _, e9, _⟩ | ⟨_, _, S, r, e9, rfl, hx, h⟩) h16
    · cases e9
    · replace e9 := Sum.inr.inj e9
      subst e9
      exact xTh.out (by decide) h16 (Or.inr ⟨_, _, _, _, rfl, rfl, hx, h⟩)
/-! S_type -/
def w_S_type_114   (K : XS → List AE → Prop) (KT : Nat → XS → List AE → Prop) (S : XS) (r : List AE) (v2 : Nat) : Prop :=
  ((1 ≤ (v2 : Nat)) ∧ v2 ≤ 10) ∧ (((xcf 3 v2) ≤ 0 → (K S r)) ∧ (¬ (xcf 3 v2) ≤ 0 → ((1 ≤ (v2 : Nat)) ∧ v2 ≤ 10) ∧ (w_S_number S r (xcf 3 v2) (fun x4 S5 r6 => (K (sF S5 305 x4) r6)) (fun ci S r => KT ci S r))))
set_option maxRecDepth 100000 in
theorem t_S_type_114 {G : XG} {l : Launch} {d : Nat} {K : XS → List AE → Prop} {KT : Nat → XS → List AE → Prop} (S : XS) (r : List AE) (v2 : Nat) (h : w_S_type_114 K KT S r v2) : xRn G l (d + 9) xm_S_type (qV K KT) 114 [.ref 20, .ref 19, .ref v2, .null] [] (hL S r) := by
  obtain ⟨o1, h⟩ := h
  refine xRn.blk (pc1 := 118) (ls1 := [.ref 20, .ref 19, .ref v2, .null]) (st1 := [.int (xcf 3 v2)]) (hp1 := (hL S r)) (ob := [(1 ≤ (v2 : Nat)) ∧ v2 ≤ 10]) [(.aload_n 2, 1, 2, 0, 0, 0), (.getfield 82, 3, 3, 12, 0, 0)] [] (by decide +kernel) rfl (xall_cons o1 xall_nil) (xSee_nil _) rfl rfl ?_
  refine xRn.if_le (tgt := 133) (nx := 121) (off := 15) (by decide +kernel) (by decide) rfl (fun c2 => ?_) (fun c2 => ?_)
  · have h := h.1 c2
    exact xRn.vret (by decide +kernel) rfl (Or.inl ⟨_, _, rfl, rfl, h⟩)
  · have h := h.2 c2
    obtain ⟨o3, h⟩ := h
    refine xRn.blk (pc1 := 127) (ls1 := [.ref 20, .ref 19, .ref v2, .null]) (st1 := [.int (xcf 3 v2), .ref 20, .ref 19]) (hp1 := (hL S r)) (ob := [(1 ≤ (v2 : Nat)) ∧ v2 ≤ 10]) [(.aload_n 1, 1, 1, 0, 0, 0), (.aload_n 0, 1, 0, 0, 0, 0), (.aload_n 2, 1, 2, 0, 0, 0), (.getfield 82, 3, 3, 12, 0, 0)] [] (by decide +kernel) rfl (xall_cons o3 xall_nil) (xSee_nil _) rfl rfl ?_
    refine xRn.callV (al := [.int (xcf 3 v2)]) (st := [.ref 19]) (nx := 130) (by decide +kernel) lk_V_S_type_62_S_number_3_1 rfl rfl (c_S_number (d := d + 0) S r (xcf 3 v2) h) rfl (Nat.le_of_ble_eq_true rfl) rfl rfl ?_ ?_
    · rintro _ _ (⟨x4, S5, r6, e9, rfl, h⟩ | ⟨_, _, _, _, e9, _⟩)
      · cases e9
        show xRn G l _ _ _ 130 [.ref 20, .ref 19, .ref v2, .null] [.int x4, .ref 19] (hL S5 r6)
        refine xRn.blk (pc1 := 133) (ls1 := [.ref 20, .ref 19, .ref v2, .null]) (st1 := []) (hp1 := (hL (sF S5 305 x4) r6)) (ob := [(19 : Nat) = 19]) [(.putfield 85, 3, 5, 2, 0, 0)] [(19, xc3 S5)] (by decide +kernel) rfl (xall_cons rfl xall_nil) (xSee_cons rfl (xne_nil _) (xSee_nil _)) rfl rfl ?_
        exact xRn.vret (by decide +kernel) rfl (Or.inl ⟨_, _, rfl, rfl, h⟩)
      · cases e9
    · rintro n_ _ (⟨_, _, _, e9, _⟩ | ⟨_, _, S, r, e9, rfl, hx, h⟩) h16
      · cases e9
      · replace e9 := Sum.inr.inj e9
        subst e9
        exact xTh.out (by decide) h16 (Or.inr ⟨_, _, _, _, rfl, rfl, hx, h⟩)
def w_S_type_92   (K : XS → List AE → Prop) (KT : Nat → XS → List AE → Prop) (S : XS) (r : List AE) (v2 : Nat) : Prop :=
  (w_S_type_114 K KT S r v2)
set_option maxRecDepth 100000 in
theorem t_S_type_92 {G : XG} {l : Launch} {d : Nat} {K : XS → List AE → Prop} {KT : Nat → XS → List AE → Prop} (S : XS) (r : List AE) (v2 : Nat) (h : w_S_type_92 K KT S r v2) : xRn G l (d + 9) xm_S_type (qV K KT) 92 [.ref 20, .ref 19, .ref v2, .null] [] (hL S r) := by
  refine xRn.goto (tgt := 114) (off := 22) (by decide +kernel) (by decide) ?_
  refine xRn.forget (xle_eq (xle_eq (xle_eq (xle_eq xle_nil)))) ?_
  exact t_S_type_114   S r v2 h
def w_S_type_77   (K : XS → List AE → Prop) (KT : Nat → XS → List AE → Prop) (S : XS) (r : List AE) (v2 : Nat) (v3 : Int32) : Prop :=
  ((¬ v3 = (89 : Int32) → (w_S_type_92 K KT (sF S 304 0) r v2)) ∧ (v3 = (89 : Int32) → (w_S_type_92 K KT (sF S 304 1) r v2)))
set_option maxRecDepth 100000 in
theorem t_S_type_77 {G : XG} {l : Launch} {d : Nat} {K : XS → List AE → Prop} {KT : Nat → XS → List AE → Prop} (S : XS) (r : List AE) (v2 : Nat) (v3 : Int32) (h : w_S_type_77 K KT S r v2 v3) : xRn G l (d + 9) xm_S_type (qV K KT) 77 [.ref 20, .ref 19, .ref v2, .int v3] [] (hL S r) := by
  refine xRn.blk (pc1 := 81) (ls1 := [.ref 20, .ref 19, .ref v2, .int v3]) (st1 := [.int 89, .int v3, .ref 19]) (hp1 := (hL S r)) (ob := []) [(.aload_n 1, 1, 1, 0, 0, 0), (.iload_n 3, 1, 3, 0, 0, 0), (.bipush 89, 2, 0, 0, 0, 89)] [] (by decide +kernel) rfl xall_nil (xSee_nil _) rfl rfl ?_
  refine xRn.ic_ne (tgt := 88) (nx := 84) (off := 7) (by decide +kernel) (by decide) rfl (fun c7 => ?_) (fun c7 => ?_)
  · have h := h.1 c7
    refine xRn.blk (pc1 := 92) (ls1 := [.ref 20, .ref 19, .ref v2, .int v3]) (st1 := []) (hp1 := (hL (sF S 304 0) r)) (ob := [(19 : Nat) = 19]) [(.iconst 0, 1, 0, 0, 0, 0), (.putfield 79, 3, 4, 2, 0, 0)] [(19, xc3 S)] (by decide +kernel) rfl (xall_cons rfl xall_nil) (xSee_cons rfl (xne_nil _) (xSee_nil _)) rfl rfl ?_
    refine xRn.forget (xle_eq (xle_eq (xle_eq (xle_no xle_nil)))) ?_
    exact t_S_type_92   (sF S 304 0) r v2 h
  · have h := h.2 c7
    refine xRn.blk (pc1 := 85) (ls1 := [.ref 20, .ref 19, .ref v2, .int v3]) (st1 := [.int 1, .ref 19]) (hp1 := (hL S r)) (ob := []) [(.iconst 1, 1, 0, 0, 0, 1)] [] (by decide +kernel) rfl xall_nil (xSee_nil _) rfl rfl ?_
    refine xRn.goto (tgt := 89) (off := 4) (by decide +kernel) (by decide) ?_
    refine xRn.blk (pc1 := 92) (ls1 := [.ref 20, .ref 19, .ref v2, .int v3]) (st1 := []) (hp1 := (hL (sF S 304 1) r)) (ob := [(19 : Nat) = 19]) [(.putfield 79, 3, 4, 2, 0, 0)] [(19, xc3 S)] (by decide +kernel) rfl (xall_cons rfl xall_nil) (xSee_cons rfl (xne_nil _) (xSee_nil _)) rfl rfl ?_
    refine xRn.forget (xle_eq (xle_eq (xle_eq (xle_no xle_nil)))) ?_
    exact t_S_type_92   (sF S 304 1) r v2 h
def w_S_type_69   (K : XS → List AE → Prop) (KT : Nat → XS → List AE → Prop) (S : XS) (r : List AE) (v2 : Nat) (v3 : Int32) : Prop :=
  (w_S_need S r 1 (fun S9 r10 => (w_S_type_77 K KT S9 r10 v2 v3)) (fun ci S r => KT ci S r))
set_option maxRecDepth 100000 in
theorem t_S_type_69 {G : XG} {l : Launch} {d : Nat} {K : XS → List AE → Prop} {KT : Nat → XS → List AE → Prop} (S : XS) (r : List AE) (v2 : Nat) (v3 : Int32) (h : w_S_type_69 K KT S r v2 v3) : xRn G l (d + 9) xm_S_type (qV K KT) 69 [.ref 20, .ref 19, .ref v2, .int v3] [] (hL S r) := by
  refine xRn.blk (pc1 := 70) (ls1 := [.ref 20, .ref 19, .ref v2, .int v3]) (st1 := [.int 1]) (hp1 := (hL S r)) (ob := []) [(.iconst 1, 1, 0, 0, 0, 1)] [] (by decide +kernel) rfl xall_nil (xSee_nil _) rfl rfl ?_
  refine xRn.goto (tgt := 74) (off := 4) (by decide +kernel) (by decide) ?_
  refine xRn.callS (al := [.int 1]) (st := []) (nx := 77) (by decide +kernel) lk_S_S_type_25_S_need_1 rfl (c_S_need (d := d + 2) S r 1 h) rfl (Nat.le_of_ble_eq_true rfl) rfl rfl ?_ ?_
  · rintro _ _ (⟨S9, r10, e9, rfl, h⟩ | ⟨_, _, _, _, e9, _⟩)
    · cases e9
      show xRn G l _ _ _ 77 [.ref 20, .ref 19, .ref v2, .int v3] [] (hL S9 r10)
      refine xRn.forget (xle_eq (xle_eq (xle_eq (xle_eq xle_nil)))) ?_
      exact t_S_type_77   S9 r10 v2 v3 h
    · cases e9
  · rintro n_ _ (⟨_, _, e9, _⟩ | ⟨_, _, S, r, e9, rfl, hx, h⟩) h16
    · cases e9
    · replace e9 := Sum.inr.inj e9
      subst e9
      exact xTh.out (by decide) h16 (Or.inr ⟨_, _, _, _, rfl, rfl, hx, h⟩)
def w_S_type_21   (K : XS → List AE → Prop) (KT : Nat → XS → List AE → Prop) (S : XS) (r : List AE) (v2 : Nat) : Prop :=
  (v2 ≤ 10) ∧ ((¬ v2 = 5 → ((1 ≤ (v2 : Nat)) ∧ v2 ≤ 10) ∧ (w_S_number S r (xcf 1 v2) (fun x14 S15 r16 => (v2 ≤ 10) ∧ ((¬ v2 = 4 → ((1 ≤ (v2 : Nat)) ∧ v2 ≤ 10) ∧ (((xcf 2 v2) ≤ 0 → (w_S_type_114 K KT (sF S15 303 x14) r16 v2)) ∧ (¬ (xcf 2 v2) ≤ 0 → ((1 ≤ (v2 : Nat)) ∧ v2 ≤ 10) ∧ (w_S_number (sF S15 303 x14) r16 (xcf 2 v2) (fun x22 S23 r24 => (w_S_type_114 K KT (sF S23 304 x22) r24 v2)) (fun ci S r => KT ci S r))))) ∧ (v2 = 4 → ((1 ≤ (v2 : Nat)) ∧ v2 ≤ 10) ∧ (w_S_letter (sF S15 303 x14) r16 (xcf 2 v2) (fun x26 S27 r28 => ((x26 = (89 : Int32) → (w_S_type_69 K KT S27 r28 v2 x26)) ∧ (¬ x26 = (89 : Int32) → ((¬ x26 = (78 : Int32) → (w_S_need S27 r28 0 (fun S32 r33 => (w_S_type_77 K KT S32 r33 v2 x26)) (fun ci S r => KT ci S r))) ∧ (x26 = (78 : Int32) → (w_S_type_69 K KT S27 r28 v2 x26)))))) (fun ci S r => KT ci S r))))) (fun ci S r => KT ci S r))) ∧ (v2 = 5 → (K S r)))
set_option maxRecDepth 100000 in
theorem t_S_type_21 {G : XG} {l : Launch} {d : Nat} {K : XS → List AE → Prop} {KT : Nat → XS → List AE → Prop} (S : XS) (r : List AE) (v2 : Nat) (h : w_S_type_21 K KT S r v2) : xRn G l (d + 9) xm_S_type (qV K KT) 21 [.ref 20, .ref 19, .ref v2, .null] [] (hL S r) := by
  refine xRn.blk (pc1 := 25) (ls1 := [.ref 20, .ref 19, .ref v2, .null]) (st1 := [.ref 5, .ref v2]) (hp1 := (hL S r)) (ob := []) [(.aload_n 2, 1, 2, 0, 0, 0), (.getstatic 56, 3, 4, 0, 0, 0)] [] (by decide +kernel) rfl xall_nil (xSee_nil _) rfl rfl ?_
  obtain ⟨o11, h⟩ := h
  refine xRn.ac_ne (tgt := 29) (nx := 28) (off := 4) (by decide +kernel) (by decide) rfl o11 (by decide) (fun c12 => ?_) (fun c12 => ?_)
  · have h := h.1 c12
    obtain ⟨o13, h⟩ := h
    refine xRn.blk (pc1 := 35) (ls1 := [.ref 20, .ref 19, .ref v2, .null]) (st1 := [.int (xcf 1 v2), .ref 20, .ref 19]) (hp1 := (hL S r)) (ob := [(1 ≤ (v2 : Nat)) ∧ v2 ≤ 10]) [(.aload_n 1, 1, 1, 0, 0, 0), (.aload_n 0, 1, 0, 0, 0, 0), (.aload_n 2, 1, 2, 0, 0, 0), (.getfield 59, 3, 1, 12, 0, 0)] [] (by decide +kernel) rfl (xall_cons o13 xall_nil) (xSee_nil _) rfl rfl ?_
    refine xRn.callV (al := [.int (xcf 1 v2)]) (st := [.ref 19]) (nx := 38) (by decide +kernel) lk_V_S_type_62_S_number_3_1 rfl rfl (c_S_number (d := d + 0) S r (xcf 1 v2) h) rfl (Nat.le_of_ble_eq_true rfl) rfl rfl ?_ ?_
    · rintro _ _ (⟨x14, S15, r16, e9, rfl, h⟩ | ⟨_, _, _, _, e9, _⟩)
      · cases e9
        show xRn G l _ _ _ 38 [.ref 20, .ref 19, .ref v2, .null] [.int x14, .ref 19] (hL S15 r16)
        refine xRn.blk (pc1 := 45) (ls1 := [.ref 20, .ref 19, .ref v2, .null]) (st1 := [.ref 4, .ref v2]) (hp1 := (hL (sF S15 303 x14) r16)) (ob := [(19 : Nat) = 19]) [(.putfield 66, 3, 3, 2, 0, 0), (.aload_n 2, 1, 2, 0, 0, 0), (.getstatic 69, 3, 3, 0, 0, 0)] [(19, xc3 S15)] (by decide +kernel) rfl (xall_cons rfl xall_nil) (xSee_cons rfl (xne_nil _) (xSee_nil _)) rfl rfl ?_
        obtain ⟨o17, h⟩ := h
        refine xRn.ac_ne (tgt := 95) (nx := 48) (off := 50) (by decide +kernel) (by decide) rfl o17 (by decide) (fun c18 => ?_) (fun c18 => ?_)
        · have h := h.1 c18
          obtain ⟨o19, h⟩ := h
          refine xRn.blk (pc1 := 99) (ls1 := [.ref 20, .ref 19, .ref v2, .null]) (st1 := [.int (xcf 2 v2)]) (hp1 := (hL (sF S15 303 x14) r16)) (ob := [(1 ≤ (v2 : Nat)) ∧ v2 ≤ 10]) [(.aload_n 2, 1, 2, 0, 0, 0), (.getfield 72, 3, 2, 12, 0, 0)] [] (by decide +kernel) rfl (xall_cons o19 xall_nil) (xSee_nil _) rfl rfl ?_
          refine xRn.if_le (tgt := 114) (nx := 102) (off := 15) (by decide +kernel) (by decide) rfl (fun c20 => ?_) (fun c20 => ?_)
          · have h := h.1 c20
            refine xRn.forget (xle_eq (xle_eq (xle_eq (xle_eq xle_nil)))) ?_
            exact t_S_type_114   (sF S15 303 x14) r16 v2 h
          · have h := h.2 c20
            obtain ⟨o21, h⟩ := h
            refine xRn.blk (pc1 := 108) (ls1 := [.ref 20, .ref 19, .ref v2, .null]) (st1 := [.int (xcf 2 v2), .ref 20, .ref 19]) (hp1 := (hL (sF S15 303 x14) r16)) (ob := [(1 ≤ (v2 : Nat)) ∧ v2 ≤ 10]) [(.aload_n 1, 1, 1, 0, 0, 0), (.aload_n 0, 1, 0, 0, 0, 0), (.aload_n 2, 1, 2, 0, 0, 0), (.getfield 72, 3, 2, 12, 0, 0)] [] (by decide +kernel) rfl (xall_cons o21 xall_nil) (xSee_nil _) rfl rfl ?_
            refine xRn.callV (al := [.int (xcf 2 v2)]) (st := [.ref 19]) (nx := 111) (by decide +kernel) lk_V_S_type_62_S_number_3_1 rfl rfl (c_S_number (d := d + 0) (sF S15 303 x14) r16 (xcf 2 v2) h) rfl (Nat.le_of_ble_eq_true rfl) rfl rfl ?_ ?_
            · rintro _ _ (⟨x22, S23, r24, e9, rfl, h⟩ | ⟨_, _, _, _, e9, _⟩)
              · cases e9
                show xRn G l _ _ _ 111 [.ref 20, .ref 19, .ref v2, .null] [.int x22, .ref 19] (hL S23 r24)
                refine xRn.blk (pc1 := 114) (ls1 := [.ref 20, .ref 19, .ref v2, .null]) (st1 := []) (hp1 := (hL (sF S23 304 x22) r24)) (ob := [(19 : Nat) = 19]) [(.putfield 79, 3, 4, 2, 0, 0)] [(19, xc3 S23)] (by decide +kernel) rfl (xall_cons rfl xall_nil) (xSee_cons rfl (xne_nil _) (xSee_nil _)) rfl rfl ?_
                refine xRn.forget (xle_eq (xle_eq (xle_eq (xle_eq xle_nil)))) ?_
                exact t_S_type_114   (sF S23 304 x22) r24 v2 h
              · cases e9
            · rintro n_ _ (⟨_, _, _, e9, _⟩ | ⟨_, _, S, r, e9, rfl, hx, h⟩) h16
              · cases e9
              · replace e9 := Sum.inr.inj e9
                subst e9
                exact xTh.out (by decide) h16 (Or.inr ⟨_, _, _, _, rfl, rfl, hx, h⟩)
        · have h := h.2 c18
          obtain ⟨o25, h⟩ := h
          refine xRn.blk (pc1 := 53) (ls1 := [.ref 20, .ref 19, .ref v2, .null]) (st1 := [.int (xcf 2 v2), .ref 20]) (hp1 := (hL (sF S15 303 x14) r16)) (ob := [(1 ≤ (v2 : Nat)) ∧ v2 ≤ 10]) [(.aload_n 0, 1, 0, 0, 0, 0), (.aload_n 2, 1, 2, 0, 0, 0), (.getfield 72, 3, 2, 12, 0, 0)] [] (by decide +kernel) rfl (xall_cons o25 xall_nil) (xSee_nil _) rfl rfl ?_
          refine xRn.callV (al := [.int (xcf 2 v2)]) (st := []) (nx := 56) (by decide +kernel) lk_V_S_type_75_S_letter_3_1 rfl rfl (c_S_letter (d := d + 0) (sF S15 303 x14) r16 (xcf 2 v2) h) rfl (Nat.le_of_ble_eq_true rfl) rfl rfl ?_ ?_
          · rintro _ _ (⟨x26, S27, r28, e9, rfl, h⟩ | ⟨_, _, _, _, e9, _⟩)
            · cases e9
              show xRn G l _ _ _ 56 [.ref 20, .ref 19, .ref v2, .null] [.int x26] (hL S27 r28)
              refine xRn.blk (pc1 := 60) (ls1 := [.ref 20, .ref 19, .ref v2, .int x26]) (st1 := [.int 89, .int x26]) (hp1 := (hL S27 r28)) (ob := []) [(.istore_n 3, 1, 3, 0, 0, 0), (.iload_n 3, 1, 3, 0, 0, 0), (.bipush 89, 2, 0, 0, 0, 89)] [] (by decide +kernel) rfl xall_nil (xSee_nil _) rfl rfl ?_
              refine xRn.ic_eq (tgt := 69) (nx := 63) (off := 9) (by decide +kernel) (by decide) rfl (fun c29 => ?_) (fun c29 => ?_)
              · have h := h.1 c29
                refine xRn.forget (xle_eq (xle_eq (xle_eq (xle_eq xle_nil)))) ?_
                exact t_S_type_69   S27 r28 v2 x26 h
              · have h := h.2 c29
                refine xRn.blk (pc1 := 66) (ls1 := [.ref 20, .ref 19, .ref v2, .int x26]) (st1 := [.int 78, .int x26]) (hp1 := (hL S27 r28)) (ob := []) [(.iload_n 3, 1, 3, 0, 0, 0), (.bipush 78, 2, 0, 0, 0, 78)] [] (by decide +kernel) rfl xall_nil (xSee_nil _) rfl rfl ?_
                refine xRn.ic_ne (tgt := 73) (nx := 69) (off := 7) (by decide +kernel) (by decide) rfl (fun c30 => ?_) (fun c30 => ?_)
                · have h := h.1 c30
                  refine xRn.blk (pc1 := 74) (ls1 := [.ref 20, .ref 19, .ref v2, .int x26]) (st1 := [.int 0]) (hp1 := (hL S27 r28)) (ob := []) [(.iconst 0, 1, 0, 0, 0, 0)] [] (by decide +kernel) rfl xall_nil (xSee_nil _) rfl rfl ?_
                  refine xRn.callS (al := [.int 0]) (st := []) (nx := 77) (by decide +kernel) lk_S_S_type_25_S_need_1 rfl (c_S_need (d := d + 2) S27 r28 0 h) rfl (Nat.le_of_ble_eq_true rfl) rfl rfl ?_ ?_
                  · rintro _ _ (⟨S32, r33, e9, rfl, h⟩ | ⟨_, _, _, _, e9, _⟩)
                    · cases e9
                      show xRn G l _ _ _ 77 [.ref 20, .ref 19, .ref v2, .int x26] [] (hL S32 r33)
                      refine xRn.forget (xle_eq (xle_eq (xle_eq (xle_eq xle_nil)))) ?_
                      exact t_S_type_77   S32 r33 v2 x26 h
                    · cases e9
                  · rintro n_ _ (⟨_, _, e9, _⟩ | ⟨_, _, S, r, e9, rfl, hx, h⟩) h16
                    · cases e9
                    · replace e9 := Sum.inr.inj e9
                      subst e9
                      exact xTh.out (by decide) h16 (Or.inr ⟨_, _, _, _, rfl, rfl, hx, h⟩)
                · have h := h.2 c30
                  refine xRn.forget (xle_eq (xle_eq (xle_eq (xle_eq xle_nil)))) ?_
                  exact t_S_type_69   S27 r28 v2 x26 h
            · cases e9
          · rintro n_ _ (⟨_, _, _, e9, _⟩ | ⟨_, _, S, r, e9, rfl, hx, h⟩) h16
            · cases e9
            · replace e9 := Sum.inr.inj e9
              subst e9
              exact xTh.out (by decide) h16 (Or.inr ⟨_, _, _, _, rfl, rfl, hx, h⟩)
      · cases e9
    · rintro n_ _ (⟨_, _, _, e9, _⟩ | ⟨_, _, S, r, e9, rfl, hx, h⟩) h16
      · cases e9
      · replace e9 := Sum.inr.inj e9
        subst e9
        exact xTh.out (by decide) h16 (Or.inr ⟨_, _, _, _, rfl, rfl, hx, h⟩)
  · have h := h.2 c12
    exact xRn.vret (by decide +kernel) rfl (Or.inl ⟨_, _, rfl, rfl, h⟩)
def w_S_type  (S : XS) (r : List AE) (K : XS → List AE → Prop) (KT : Nat → XS → List AE → Prop) : Prop :=
  ((gR S 300) ≤ 10) ∧ ((¬ (gR S 300) = 1 → (w_S_type_21 K KT S r (gR S 300))) ∧ ((gR S 300) = 1 → (w_S_stands S r 112 (fun x36 S37 r38 => ((x36 = 0 → (K S37 r38)) ∧ (¬ x36 = 0 → (w_S_type_21 K KT S37 r38 (gR S 300))))))))
set_option maxRecDepth 100000 in
theorem c_S_type {G : XG} {l : Launch} {d : Nat} (S : XS) (r : List AE) {K : XS → List AE → Prop} {KT : Nat → XS → List AE → Prop} (h : w_S_type  S r K KT) : xCt G l (d + 9) xm_S_type [.ref 20, .ref 19] (hL S r) (qV K KT) := by
  refine xCt.intro (by decide) (by decide) (List.forall_mem_cons.mpr ⟨rfl, (List.forall_mem_cons.mpr ⟨rfl, (fun _ h => by cases h)⟩)⟩) (Nat.le_of_ble_eq_true rfl) rfl ?_
  show xRn G l _ xm_S_type _ 0 [.ref 20, .ref 19, .null, .null] [] (hL S r)
  refine xRn.blk (pc1 := 9) (ls1 := [.ref 20, .ref 19, .ref (gR S 300), .null]) (st1 := [.ref 1, .ref (gR S 300)]) (hp1 := (hL S r)) (ob := [(19 : Nat) = 19]) [(.aload_n 1, 1, 1, 0, 0, 0), (.getfield 45, 3, 0, 2, 0, 0), (.astore_n 2, 1, 2, 0, 0, 0), (.aload_n 2, 1, 2, 0, 0, 0), (.getstatic 51, 3, 0, 0, 0, 0)] [(19, xc3 S)] (by decide +kernel) rfl (xall_cons rfl xall_nil) (xSee_cons rfl (xne_nil _) (xSee_nil _)) rfl rfl ?_
  obtain ⟨o34, h⟩ := h
  refine xRn.ac_ne (tgt := 21) (nx := 12) (off := 12) (by decide +kernel) (by decide) rfl o34 (by decide) (fun c35 => ?_) (fun c35 => ?_)
  · have h := h.1 c35
    refine xRn.forget (xle_eq (xle_eq (xle_eq (xle_eq xle_nil)))) ?_
    exact t_S_type_21   S r (gR S 300) h
  · have h := h.2 c35
    refine xRn.blk (pc1 := 15) (ls1 := [.ref 20, .ref 19, .ref (gR S 300), .null]) (st1 := [.int 112, .ref 20]) (hp1 := (hL S r)) (ob := []) [(.aload_n 0, 1, 0, 0, 0, 0), (.bipush 112, 2, 0, 0, 0, 112)] [] (by decide +kernel) rfl xall_nil (xSee_nil _) rfl rfl ?_
    refine xRn.callV (al := [.int 112]) (st := []) (nx := 18) (by decide +kernel) lk_V_S_type_33_S_stands_3_1 rfl rfl (c_S_stands (d := d + 8) S r 112 h) rfl (Nat.le_of_ble_eq_true rfl) rfl rfl ?_ ?_
    · rintro _ _ ⟨x36, S37, r38, e9, rfl, h⟩
      cases e9
      show xRn G l _ _ _ 18 [.ref 20, .ref 19, .ref (gR S 300), .null] [.int x36] (hL S37 r38)
      refine xRn.if_eq (tgt := 28) (nx := 21) (off := 10) (by decide +kernel) (by decide) rfl (fun c39 => ?_) (fun c39 => ?_)
      · have h := h.1 c39
        exact xRn.vret (by decide +kernel) rfl (Or.inl ⟨_, _, rfl, rfl, h⟩)
      · have h := h.2 c39
        refine xRn.forget (xle_eq (xle_eq (xle_eq (xle_eq xle_nil)))) ?_
        exact t_S_type_21   S37 r38 (gR S 300) h
    · rintro _ _ ⟨_, _, _, e9, _⟩
      cases e9
/-! S_scan -/
def w_S_scan_268   (K : XS → List AE → Prop) (KT : Nat → XS → List AE → Prop) (S : XS) (r : List AE) : Prop :=
  (w_S_need S r 0 (fun S2 r3 => (K S2 r3)) (fun ci S r => KT ci S r))
set_option maxRecDepth 100000 in
theorem t_S_scan_268 {G : XG} {l : Launch} {d : Nat} {K : XS → List AE → Prop} {KT : Nat → XS → List AE → Prop} (S : XS) (r : List AE) (h : w_S_scan_268 K KT S r) : xRn G l (d + 10) xm_S_scan (qV K KT) 268 [.null, .null, .null, .null, .null, .null, .null, .null, .null] [] (hL S r) := by
  refine xRn.blk (pc1 := 269) (ls1 := [.null, .null, .null, .null, .null, .null, .null, .null, .null]) (st1 := [.int 0]) (hp1 := (hL S r)) (ob := []) [(.iconst 0, 1, 0, 0, 0, 0)] [] (by decide +kernel) rfl xall_nil (xSee_nil _) rfl rfl ?_
  refine xRn.callS (al := [.int 0]) (st := []) (nx := 272) (by decide +kernel) lk_S_S_scan_25_S_need_1 rfl (c_S_need (d := d + 3) S r 0 h) rfl (Nat.le_of_ble_eq_true rfl) rfl rfl ?_ ?_
  · rintro _ _ (⟨S2, r3, e9, rfl, h⟩ | ⟨_, _, _, _, e9, _⟩)
    · cases e9
      show xRn G l _ _ _ 272 [.null, .null, .null, .null, .null, .null, .null, .null, .null] [] (hL S2 r3)
      exact xRn.vret (by decide +kernel) rfl (Or.inl ⟨_, _, rfl, rfl, h⟩)
    · cases e9
  · rintro n_ _ (⟨_, _, e9, _⟩ | ⟨_, _, S, r, e9, rfl, hx, h⟩) h16
    · cases e9
    · replace e9 := Sum.inr.inj e9
      subst e9
      exact xTh.out (by decide) h16 (Or.inr ⟨_, _, _, _, rfl, rfl, hx, h⟩)
def w_S_scan_215 (k181 : XS → List AE → Int32 → Int32 → Int32 → Prop)  (K : XS → List AE → Prop) (KT : Nat → XS → List AE → Prop) (S : XS) (r : List AE) (v5 : Int32) (v6 : Int32) (v7 : Int32) (v8 : Int32) : Prop :=
  (k181 S r v5 (((10 * v6) + v8) - 48) (v7 + 1))
set_option maxRecDepth 100000 in
theorem t_S_scan_215 {G : XG} {l : Launch} {d : Nat} {k181 : XS → List AE → Int32 → Int32 → Int32 → Prop} {K : XS → List AE → Prop} {KT : Nat → XS → List AE → Prop} (hk181 : ∀ (S : XS) (r : List AE) (v5 : Int32) (v6 : Int32) (v7 : Int32), k181 S r v5 v6 v7 → xRn G l (d + 10) xm_S_scan (qV K KT) 181 [.ref 20, .ref 17, .null, .null, .null, .int v5, .int v6, .int v7, .null] [] (hL S r)) (S : XS) (r : List AE) (v5 : Int32) (v6 : Int32) (v7 : Int32) (v8 : Int32) (h : w_S_scan_215 k181 K KT S r v5 v6 v7 v8) : xRn G l (d + 10) xm_S_scan (qV K KT) 215 [.ref 20, .ref 17, .null, .null, .null, .int v5, .int v6, .int v7, .int v8] [] (hL S r) := by
  refine xRn.blk (pc1 := 231) (ls1 := [.ref 20, .ref 17, .null, .null, .null, .int v5, .int (((10 * v6) + v8) - 48), .int (v7 + 1), .int v8]) (st1 := []) (hp1 := (hL S r)) (ob := []) [(.bipush 10, 2, 0, 0, 0, 10), (.iload 6, 2, 6, 0, 0, 0), (.imul, 1, 0, 0, 0, 0), (.iload 8, 2, 8, 0, 0, 0), (.iadd, 1, 0, 0, 0, 0), (.bipush 48, 2, 0, 0, 0, 48), (.isub, 1, 0, 0, 0, 0), (.istore 6, 2, 6, 0, 0, 0), (.iinc 7 1, 3, 7, 0, 0, 1)] [] (by decide +kernel) rfl xall_nil (xSee_nil _) rfl rfl ?_
  refine xRn.goto (tgt := 181) (off := (-50)) (by decide +kernel) (by decide) ?_
  refine xRn.forget (xle_eq (xle_eq (xle_eq (xle_eq (xle_eq (xle_eq (xle_eq (xle_eq (xle_no xle_nil))))))))) ?_
  exact hk181 S r v5 (((10 * v6) + v8) - 48) (v7 + 1) h
def w_S_scan_211 (k181 : XS → List AE → Int32 → Int32 → Int32 → Prop)  (K : XS → List AE → Prop) (KT : Nat → XS → List AE → Prop) (S : XS) (r : List AE) (v5 : Int32) (v6 : Int32) (v7 : Int32) (v8 : Int32) : Prop :=
  (w_S_need S r 0 (fun S5 r6 => (w_S_scan_215 k181 K KT S5 r6 v5 v6 v7 v8)) (fun ci S r => KT ci S r))
set_option maxRecDepth 100000 in
theorem t_S_scan_211 {G : XG} {l : Launch} {d : Nat} {k181 : XS → List AE → Int32 → Int32 → Int32 → Prop} {K : XS → List AE → Prop} {KT : Nat → XS → List AE → Prop} (hk181 : ∀ (S : XS) (r : List AE) (v5 : Int32) (v6 : Int32) (v7 : Int32), k181 S r v5 v6 v7 → xRn G l (d + 10) xm_S_scan (qV K KT) 181 [.ref 20, .ref 17, .null, .null, .null, .int v5, .int v6, .int v7, .null] [] (hL S r)) (S : XS) (r : List AE) (v5 : Int32) (v6 : Int32) (v7 : Int32) (v8 : Int32) (h : w_S_scan_211 k181 K KT S r v5 v6 v7 v8) : xRn G l (d + 10) xm_S_scan (qV K KT) 211 [.ref 20, .ref 17, .null, .null, .null, .int v5, .int v6, .int v7, .int v8] [] (hL S r) := by
  refine xRn.blk (pc1 := 212) (ls1 := [.ref 20, .ref 17, .null, .null, .null, .int v5, .int v6, .int v7, .int v8]) (st1 := [.int 0]) (hp1 := (hL S r)) (ob := []) [(.iconst 0, 1, 0, 0, 0, 0)] [] (by decide +kernel) rfl xall_nil (xSee_nil _) rfl rfl ?_
  refine xRn.callS (al := [.int 0]) (st := []) (nx := 215) (by decide +kernel) lk_S_S_scan_25_S_need_1 rfl (c_S_need (d := d + 3) S r 0 h) rfl (Nat.le_of_ble_eq_true rfl) rfl rfl ?_ ?_
  · rintro _ _ (⟨S5, r6, e9, rfl, h⟩ | ⟨_, _, _, _, e9, _⟩)
    · cases e9
      show xRn G l _ _ _ 215 [.ref 20, .ref 17, .null, .null, .null, .int v5, .int v6, .int v7, .int v8] [] (hL S5 r6)
      refine xRn.forget (xle_eq (xle_eq (xle_eq (xle_eq (xle_eq (xle_eq (xle_eq (xle_eq (xle_eq xle_nil))))))))) ?_
      exact t_S_scan_215  hk181 S5 r6 v5 v6 v7 v8 h
    · cases e9
  · rintro n_ _ (⟨_, _, e9, _⟩ | ⟨_, _, S, r, e9, rfl, hx, h⟩) h16
    · cases e9
    · replace e9 := Sum.inr.inj e9
      subst e9
      exact xTh.out (by decide) h16 (Or.inr ⟨_, _, _, _, rfl, rfl, hx, h⟩)
def w_S_scan_181   (K : XS → List AE → Prop) (KT : Nat → XS → List AE → Prop) : Nat → XS → List AE → Int32 → Int32 → Int32 → Prop
  | 0, _, _, _, _, _ => False
  | n + 1, S, r, v5, v6, v7 => (((3 : Int32) ≤ v7 → (w_S_next S r  (fun x8 S9 r10 => ((¬ x8 = (1 : Int32) → (w_S_scan_268 K KT S9 r10)) ∧ (x8 = (1 : Int32) → ((¬ (gF S9 401) = (gF S9 101) → (w_S_scan_268 K KT S9 r10)) ∧ ((gF S9 401) = (gF S9 101) → (w_F_sum (gF S9 101) (gF S9 102) (gA S9 2) v5 (fun x13 L14 B15 f16 => ((¬ v6 = x13 → (w_S_scan_268 K KT (sA (sF (sF S9 101 L14) 102 B15) 2 f16) r10)) ∧ (v6 = x13 → (w_S_need (sA (sF (sF S9 101 L14) 102 B15) 2 f16) r10 1 (fun S19 r20 => (K S19 r20)) (fun ci S r => KT ci S r))))))))))) (fun ci S r => KT ci S r))) ∧ (¬ (3 : Int32) ≤ v7 → (w_S_next S r  (fun x21 S22 r23 => ((x21 < (48 : Int32) → (w_S_scan_211 (fun S r v5 v6 v7 => w_S_scan_181 K KT n S r v5 v6 v7) K KT S22 r23 v5 v6 v7 x21)) ∧ (¬ x21 < (48 : Int32) → (((57 : Int32) < x21 → (w_S_scan_211 (fun S r v5 v6 v7 => w_S_scan_181 K KT n S r v5 v6 v7) K KT S22 r23 v5 v6 v7 x21)) ∧ (¬ (57 : Int32) < x21 → (w_S_need S22 r23 1 (fun S27 r28 => (w_S_scan_215 (fun S r v5 v6 v7 => w_S_scan_181 K KT n S r v5 v6 v7) K KT S27 r28 v5 v6 v7 x21)) (fun ci S r => KT ci S r))))))) (fun ci S r => KT ci S r))))
set_option maxRecDepth 100000 in
theorem t_S_scan_181 {G : XG} {l : Launch} {d : Nat} {K : XS → List AE → Prop} {KT : Nat → XS → List AE → Prop} : ∀ (n : Nat) (S : XS) (r : List AE) (v5 : Int32) (v6 : Int32) (v7 : Int32), w_S_scan_181 K KT n S r v5 v6 v7 → xRn G l (d + 10) xm_S_scan (qV K KT) 181 [.ref 20, .ref 17, .null, .null, .null, .int v5, .int v6, .int v7, .null] [] (hL S r) := by
  intro n
  induction n with
  | zero => intro S r v5 v6 v7 h; exact h.elim
  | succ n ih =>
    intro S r v5 v6 v7 h
    refine xRn.blk (pc1 := 184) (ls1 := [.ref 20, .ref 17, .null, .null, .null, .int v5, .int v6, .int v7, .null]) (st1 := [.int 3, .int v7]) (hp1 := (hL S r)) (ob := []) [(.iload 7, 2, 7, 0, 0, 0), (.iconst 3, 1, 0, 0, 0, 3)] [] (by decide +kernel) rfl xall_nil (xSee_nil _) rfl rfl ?_
    refine xRn.ic_ge (tgt := 234) (nx := 187) (off := 50) (by decide +kernel) (by decide) rfl (fun c7 => ?_) (fun c7 => ?_)
    · have h := h.1 c7
      refine xRn.blk (pc1 := 235) (ls1 := [.ref 20, .ref 17, .null, .null, .null, .int v5, .int v6, .int v7, .null]) (st1 := [.ref 20]) (hp1 := (hL S r)) (ob := []) [(.aload_n 0, 1, 0, 0, 0, 0)] [] (by decide +kernel) rfl xall_nil (xSee_nil _) rfl rfl ?_
      refine xRn.callV (al := []) (st := []) (nx := 238) (by decide +kernel) lk_V_S_scan_41_S_next_3_0 rfl rfl (c_S_next (d := d + 2) S r  h) rfl (Nat.le_of_ble_eq_true rfl) rfl rfl ?_ ?_
      · rintro _ _ (⟨x8, S9, r10, e9, rfl, h⟩ | ⟨_, _, _, _, e9, _⟩)
        · cases e9
          show xRn G l _ _ _ 238 [.ref 20, .ref 17, .null, .null, .null, .int v5, .int v6, .int v7, .null] [.int x8] (hL S9 r10)
          refine xRn.blk (pc1 := 239) (ls1 := [.ref 20, .ref 17, .null, .null, .null, .int v5, .int v6, .int v7, .null]) (st1 := [.int 1, .int x8]) (hp1 := (hL S9 r10)) (ob := []) [(.iconst 1, 1, 0, 0, 0, 1)] [] (by decide +kernel) rfl xall_nil (xSee_nil _) rfl rfl ?_
          refine xRn.ic_ne (tgt := 268) (nx := 242) (off := 29) (by decide +kernel) (by decide) rfl (fun c11 => ?_) (fun c11 => ?_)
          · have h := h.1 c11
            refine xRn.forget (xle_no (xle_no (xle_eq (xle_eq (xle_eq (xle_no (xle_no (xle_no (xle_eq xle_nil))))))))) ?_
            exact t_S_scan_268   S9 r10 h
          · have h := h.2 c11
            refine xRn.blk (pc1 := 250) (ls1 := [.ref 20, .ref 17, .null, .null, .null, .int v5, .int v6, .int v7, .null]) (st1 := [.int (gF S9 101), .int (gF S9 401)]) (hp1 := (hL S9 r10)) (ob := [(20 : Nat) = 20, (17 : Nat) = 17]) [(.aload_n 0, 1, 0, 0, 0, 0), (.getfield 10, 3, 1, 3, 0, 0), (.aload_n 1, 1, 1, 0, 0, 0), (.getfield 20, 3, 1, 1, 1, 0)] [(20, xc4 S9), (17, xc1 S9)] (by decide +kernel) rfl (xall_cons rfl (xall_cons rfl xall_nil)) (xSee_cons rfl (xne_cons (by decide) (xne_nil _)) (xSee_cons rfl (xne_nil _) (xSee_nil _))) rfl rfl ?_
            refine xRn.ic_ne (tgt := 268) (nx := 253) (off := 18) (by decide +kernel) (by decide) rfl (fun c12 => ?_) (fun c12 => ?_)
            · have h := h.1 c12
              refine xRn.forget (xle_no (xle_no (xle_eq (xle_eq (xle_eq (xle_no (xle_no (xle_no (xle_eq xle_nil))))))))) ?_
              exact t_S_scan_268   S9 r10 h
            · have h := h.2 c12
              refine xRn.blk (pc1 := 258) (ls1 := [.ref 20, .ref 17, .null, .null, .null, .int v5, .int v6, .int v7, .null]) (st1 := [.int v5, .ref 17, .int v6]) (hp1 := (hL S9 r10)) (ob := []) [(.iload 6, 2, 6, 0, 0, 0), (.aload_n 1, 1, 1, 0, 0, 0), (.iload 5, 2, 5, 0, 0, 0)] [] (by decide +kernel) rfl xall_nil (xSee_nil _) rfl rfl ?_
              refine xRn.callV (al := [.int v5]) (st := [.int v6]) (nx := 261) (by decide +kernel) lk_V_S_scan_106_F_sum_1_1 rfl rfl (xCt_eq rfl (c_F_sum (d := d + 9) (xFv_17 S9 r10) (gF S9 101) (gF S9 102) (gA S9 2) v5 h)) rfl (Nat.le_of_ble_eq_true rfl) rfl rfl ?_ ?_
              · rintro _ _ ⟨x13, L14, B15, f16, e9, rfl, h⟩
                cases e9
                show xRn G l _ _ _ 261 [.ref 20, .ref 17, .null, .null, .null, .int v5, .int v6, .int v7, .null] [.int x13, .int v6] (hL (sA (sF (sF S9 101 L14) 102 B15) 2 f16) r10)
                refine xRn.ic_ne (tgt := 268) (nx := 264) (off := 7) (by decide +kernel) (by decide) rfl (fun c17 => ?_) (fun c17 => ?_)
                · have h := h.1 c17
                  refine xRn.forget (xle_no (xle_no (xle_eq (xle_eq (xle_eq (xle_no (xle_no (xle_no (xle_eq xle_nil))))))))) ?_
                  exact t_S_scan_268   (sA (sF (sF S9 101 L14) 102 B15) 2 f16) r10 h
                · have h := h.2 c17
                  refine xRn.blk (pc1 := 265) (ls1 := [.ref 20, .ref 17, .null, .null, .null, .int v5, .int v6, .int v7, .null]) (st1 := [.int 1]) (hp1 := (hL (sA (sF (sF S9 101 L14) 102 B15) 2 f16) r10)) (ob := []) [(.iconst 1, 1, 0, 0, 0, 1)] [] (by decide +kernel) rfl xall_nil (xSee_nil _) rfl rfl ?_
                  refine xRn.goto (tgt := 269) (off := 4) (by decide +kernel) (by decide) ?_
                  refine xRn.callS (al := [.int 1]) (st := []) (nx := 272) (by decide +kernel) lk_S_S_scan_25_S_need_1 rfl (c_S_need (d := d + 3) (sA (sF (sF S9 101 L14) 102 B15) 2 f16) r10 1 h) rfl (Nat.le_of_ble_eq_true rfl) rfl rfl ?_ ?_
                  · rintro _ _ (⟨S19, r20, e9, rfl, h⟩ | ⟨_, _, _, _, e9, _⟩)
                    · cases e9
                      show xRn G l _ _ _ 272 [.ref 20, .ref 17, .null, .null, .null, .int v5, .int v6, .int v7, .null] [] (hL S19 r20)
                      exact xRn.vret (by decide +kernel) rfl (Or.inl ⟨_, _, rfl, rfl, h⟩)
                    · cases e9
                  · rintro n_ _ (⟨_, _, e9, _⟩ | ⟨_, _, S, r, e9, rfl, hx, h⟩) h16
                    · cases e9
                    · replace e9 := Sum.inr.inj e9
                      subst e9
                      exact xTh.out (by decide) h16 (Or.inr ⟨_, _, _, _, rfl, rfl, hx, h⟩)
              · rintro _ _ ⟨_, _, _, _, e9, _⟩
                cases e9
        · cases e9
      · rintro n_ _ (⟨_, _, _, e9, _⟩ | ⟨_, _, S, r, e9, rfl, hx, h⟩) h16
        · cases e9
        · replace e9 := Sum.inr.inj e9
          subst e9
          exact xTh.out (by decide) h16 (Or.inr ⟨_, _, _, _, rfl, rfl, hx, h⟩)
    · have h := h.2 c7
      refine xRn.blk (pc1 := 188) (ls1 := [.ref 20, .ref 17, .null, .null, .null, .int v5, .int v6, .int v7, .null]) (st1 := [.ref 20]) (hp1 := (hL S r)) (ob := []) [(.aload_n 0, 1, 0, 0, 0, 0)] [] (by decide +kernel) rfl xall_nil (xSee_nil _) rfl rfl ?_
      refine xRn.callV (al := []) (st := []) (nx := 191) (by decide +kernel) lk_V_S_scan_41_S_next_3_0 rfl rfl (c_S_next (d := d + 2) S r  h) rfl (Nat.le_of_ble_eq_true rfl) rfl rfl ?_ ?_
      · rintro _ _ (⟨x21, S22, r23, e9, rfl, h⟩ | ⟨_, _, _, _, e9, _⟩)
        · cases e9
          show xRn G l _ _ _ 191 [.ref 20, .ref 17, .null, .null, .null, .int v5, .int v6, .int v7, .null] [.int x21] (hL S22 r23)
          refine xRn.blk (pc1 := 197) (ls1 := [.ref 20, .ref 17, .null, .null, .null, .int v5, .int v6, .int v7, .int x21]) (st1 := [.int 48, .int x21]) (hp1 := (hL S22 r23)) (ob := []) [(.istore 8, 2, 8, 0, 0, 0), (.iload 8, 2, 8, 0, 0, 0), (.bipush 48, 2, 0, 0, 0, 48)] [] (by decide +kernel) rfl xall_nil (xSee_nil _) rfl rfl ?_
          refine xRn.ic_lt (tgt := 211) (nx := 200) (off := 14) (by decide +kernel) (by decide) rfl (fun c24 => ?_) (fun c24 => ?_)
          · have h := h.1 c24
            refine xRn.forget (xle_eq (xle_eq (xle_eq (xle_eq (xle_eq (xle_eq (xle_eq (xle_eq (xle_eq xle_nil))))))))) ?_
            exact t_S_scan_211  ih S22 r23 v5 v6 v7 x21 h
          · have h := h.2 c24
            refine xRn.blk (pc1 := 204) (ls1 := [.ref 20, .ref 17, .null, .null, .null, .int v5, .int v6, .int v7, .int x21]) (st1 := [.int 57, .int x21]) (hp1 := (hL S22 r23)) (ob := []) [(.iload 8, 2, 8, 0, 0, 0), (.bipush 57, 2, 0, 0, 0, 57)] [] (by decide +kernel) rfl xall_nil (xSee_nil _) rfl rfl ?_
            refine xRn.ic_gt (tgt := 211) (nx := 207) (off := 7) (by decide +kernel) (by decide) rfl (fun c25 => ?_) (fun c25 => ?_)
            · have h := h.1 c25
              refine xRn.forget (xle_eq (xle_eq (xle_eq (xle_eq (xle_eq (xle_eq (xle_eq (xle_eq (xle_eq xle_nil))))))))) ?_
              exact t_S_scan_211  ih S22 r23 v5 v6 v7 x21 h
            · have h := h.2 c25
              refine xRn.blk (pc1 := 208) (ls1 := [.ref 20, .ref 17, .null, .null, .null, .int v5, .int v6, .int v7, .int x21]) (st1 := [.int 1]) (hp1 := (hL S22 r23)) (ob := []) [(.iconst 1, 1, 0, 0, 0, 1)] [] (by decide +kernel) rfl xall_nil (xSee_nil _) rfl rfl ?_
              refine xRn.goto (tgt := 212) (off := 4) (by decide +kernel) (by decide) ?_
              refine xRn.callS (al := [.int 1]) (st := []) (nx := 215) (by decide +kernel) lk_S_S_scan_25_S_need_1 rfl (c_S_need (d := d + 3) S22 r23 1 h) rfl (Nat.le_of_ble_eq_true rfl) rfl rfl ?_ ?_
              · rintro _ _ (⟨S27, r28, e9, rfl, h⟩ | ⟨_, _, _, _, e9, _⟩)
                · cases e9
                  show xRn G l _ _ _ 215 [.ref 20, .ref 17, .null, .null, .null, .int v5, .int v6, .int v7, .int x21] [] (hL S27 r28)
                  refine xRn.forget (xle_eq (xle_eq (xle_eq (xle_eq (xle_eq (xle_eq (xle_eq (xle_eq (xle_eq xle_nil))))))))) ?_
                  exact t_S_scan_215  ih S27 r28 v5 v6 v7 x21 h
                · cases e9
              · rintro n_ _ (⟨_, _, e9, _⟩ | ⟨_, _, S, r, e9, rfl, hx, h⟩) h16
                · cases e9
                · replace e9 := Sum.inr.inj e9
                  subst e9
                  exact xTh.out (by decide) h16 (Or.inr ⟨_, _, _, _, rfl, rfl, hx, h⟩)
        · cases e9
      · rintro n_ _ (⟨_, _, _, e9, _⟩ | ⟨_, _, S, r, e9, rfl, hx, h⟩) h16
        · cases e9
        · replace e9 := Sum.inr.inj e9
          subst e9
          exact xTh.out (by decide) h16 (Or.inr ⟨_, _, _, _, rfl, rfl, hx, h⟩)
def w_S_scan_169   (K : XS → List AE → Prop) (KT : Nat → XS → List AE → Prop) (S : XS) (r : List AE) (v5 : Int32) : Prop :=
  (w_S_tag S r 10 (fun S30 r31 => (∃ j, w_S_scan_181 K KT j S30 r31 v5 0 0)) (fun ci S r => KT ci S r))
set_option maxRecDepth 100000 in
theorem t_S_scan_169 {G : XG} {l : Launch} {d : Nat} {K : XS → List AE → Prop} {KT : Nat → XS → List AE → Prop} (S : XS) (r : List AE) (v5 : Int32) (h : w_S_scan_169 K KT S r v5) : xRn G l (d + 10) xm_S_scan (qV K KT) 169 [.ref 20, .ref 17, .null, .null, .null, .int v5, .null, .null, .null] [] (hL S r) := by
  refine xRn.blk (pc1 := 172) (ls1 := [.ref 20, .ref 17, .null, .null, .null, .int v5, .null, .null, .null]) (st1 := [.int 10, .ref 20]) (hp1 := (hL S r)) (ob := []) [(.aload_n 0, 1, 0, 0, 0, 0), (.bipush 10, 2, 0, 0, 0, 10)] [] (by decide +kernel) rfl xall_nil (xSee_nil _) rfl rfl ?_
  refine xRn.callV (al := [.int 10]) (st := []) (nx := 175) (by decide +kernel) lk_V_S_scan_37_S_tag_3_1 rfl rfl (c_S_tag (d := d + 2) S r 10 h) rfl (Nat.le_of_ble_eq_true rfl) rfl rfl ?_ ?_
  · rintro _ _ (⟨S30, r31, e9, rfl, h⟩ | ⟨_, _, _, _, e9, _⟩)
    · cases e9
      show xRn G l _ _ _ 175 [.ref 20, .ref 17, .null, .null, .null, .int v5, .null, .null, .null] [] (hL S30 r31)
      refine xRn.blk (pc1 := 181) (ls1 := [.ref 20, .ref 17, .null, .null, .null, .int v5, .int 0, .int 0, .null]) (st1 := []) (hp1 := (hL S30 r31)) (ob := []) [(.iconst 0, 1, 0, 0, 0, 0), (.istore 6, 2, 6, 0, 0, 0), (.iconst 0, 1, 0, 0, 0, 0), (.istore 7, 2, 7, 0, 0, 0)] [] (by decide +kernel) rfl xall_nil (xSee_nil _) rfl rfl ?_
      refine xRn.forget (xle_eq (xle_eq (xle_eq (xle_eq (xle_eq (xle_eq (xle_eq (xle_eq (xle_eq xle_nil))))))))) ?_
      obtain ⟨n32, h⟩ := h
      exact t_S_scan_181   n32 S30 r31 v5 0 0 h
    · cases e9
  · rintro n_ _ (⟨_, _, e9, _⟩ | ⟨_, _, S, r, e9, rfl, hx, h⟩) h16
    · cases e9
    · replace e9 := Sum.inr.inj e9
      subst e9
      exact xTh.out (by decide) h16 (Or.inr ⟨_, _, _, _, rfl, rfl, hx, h⟩)
def w_S_scan_141   (K : XS → List AE → Prop) (KT : Nat → XS → List AE → Prop) (S : XS) (r : List AE) (v3 : Int32) (v4 : Int32) : Prop :=
  (w_S_type S r  (fun S34 r35 => ((¬ ((gF S34 401) - v4) = v3 → (w_S_need S34 r35 0 (fun S38 r39 => (w_S_scan_169 K KT S38 r39 (gF S34 401))) (fun ci S r => KT ci S r))) ∧ (((gF S34 401) - v4) = v3 → (w_S_need S34 r35 1 (fun S41 r42 => (w_S_scan_169 K KT S41 r42 (gF S34 401))) (fun ci S r => KT ci S r))))) (fun ci S r => KT ci S r))
set_option maxRecDepth 100000 in
theorem t_S_scan_141 {G : XG} {l : Launch} {d : Nat} {K : XS → List AE → Prop} {KT : Nat → XS → List AE → Prop} (S : XS) (r : List AE) (v3 : Int32) (v4 : Int32) (h : w_S_scan_141 K KT S r v3 v4) : xRn G l (d + 10) xm_S_scan (qV K KT) 141 [.ref 20, .ref 17, .ref 19, .int v3, .int v4, .null, .null, .null, .null] [] (hL S r) := by
  refine xRn.blk (pc1 := 143) (ls1 := [.ref 20, .ref 17, .ref 19, .int v3, .int v4, .null, .null, .null, .null]) (st1 := [.ref 19, .ref 20]) (hp1 := (hL S r)) (ob := []) [(.aload_n 0, 1, 0, 0, 0, 0), (.aload_n 2, 1, 2, 0, 0, 0)] [] (by decide +kernel) rfl xall_nil (xSee_nil _) rfl rfl ?_
  refine xRn.callV (al := [.ref 19]) (st := []) (nx := 146) (by decide +kernel) lk_V_S_scan_103_S_type_3_1 rfl rfl (c_S_type (d := d + 0) S r  h) rfl (Nat.le_of_ble_eq_true rfl) rfl rfl ?_ ?_
  · rintro _ _ (⟨S34, r35, e9, rfl, h⟩ | ⟨_, _, _, _, e9, _⟩)
    · cases e9
      show xRn G l _ _ _ 146 [.ref 20, .ref 17, .ref 19, .int v3, .int v4, .null, .null, .null, .null] [] (hL S34 r35)
      refine xRn.blk (pc1 := 158) (ls1 := [.ref 20, .ref 17, .ref 19, .int v3, .int v4, .int (gF S34 401), .null, .null, .null]) (st1 := [.int v3, .int ((gF S34 401) - v4)]) (hp1 := (hL S34 r35)) (ob := [(20 : Nat) = 20]) [(.aload_n 0, 1, 0, 0, 0, 0), (.getfield 10, 3, 1, 3, 0, 0), (.istore 5, 2, 5, 0, 0, 0), (.iload 5, 2, 5, 0, 0, 0), (.iload 4, 2, 4, 0, 0, 0), (.isub, 1, 0, 0, 0, 0), (.iload_n 3, 1, 3, 0, 0, 0)] [(20, xc4 S34)] (by decide +kernel) rfl (xall_cons rfl xall_nil) (xSee_cons rfl (xne_nil _) (xSee_nil _)) rfl rfl ?_
      refine xRn.ic_ne (tgt := 165) (nx := 161) (off := 7) (by decide +kernel) (by decide) rfl (fun c36 => ?_) (fun c36 => ?_)
      · have h := h.1 c36
        refine xRn.blk (pc1 := 166) (ls1 := [.ref 20, .ref 17, .ref 19, .int v3, .int v4, .int (gF S34 401), .null, .null, .null]) (st1 := [.int 0]) (hp1 := (hL S34 r35)) (ob := []) [(.iconst 0, 1, 0, 0, 0, 0)] [] (by decide +kernel) rfl xall_nil (xSee_nil _) rfl rfl ?_
        refine xRn.callS (al := [.int 0]) (st := []) (nx := 169) (by decide +kernel) lk_S_S_scan_25_S_need_1 rfl (c_S_need (d := d + 3) S34 r35 0 h) rfl (Nat.le_of_ble_eq_true rfl) rfl rfl ?_ ?_
        · rintro _ _ (⟨S38, r39, e9, rfl, h⟩ | ⟨_, _, _, _, e9, _⟩)
          · cases e9
            show xRn G l _ _ _ 169 [.ref 20, .ref 17, .ref 19, .int v3, .int v4, .int (gF S34 401), .null, .null, .null] [] (hL S38 r39)
            refine xRn.forget (xle_eq (xle_eq (xle_no (xle_no (xle_no (xle_eq (xle_eq (xle_eq (xle_eq xle_nil))))))))) ?_
            exact t_S_scan_169   S38 r39 (gF S34 401) h
          · cases e9
        · rintro n_ _ (⟨_, _, e9, _⟩ | ⟨_, _, S, r, e9, rfl, hx, h⟩) h16
          · cases e9
          · replace e9 := Sum.inr.inj e9
            subst e9
            exact xTh.out (by decide) h16 (Or.inr ⟨_, _, _, _, rfl, rfl, hx, h⟩)
      · have h := h.2 c36
        refine xRn.blk (pc1 := 162) (ls1 := [.ref 20, .ref 17, .ref 19, .int v3, .int v4, .int (gF S34 401), .null, .null, .null]) (st1 := [.int 1]) (hp1 := (hL S34 r35)) (ob := []) [(.iconst 1, 1, 0, 0, 0, 1)] [] (by decide +kernel) rfl xall_nil (xSee_nil _) rfl rfl ?_
        refine xRn.goto (tgt := 166) (off := 4) (by decide +kernel) (by decide) ?_
        refine xRn.callS (al := [.int 1]) (st := []) (nx := 169) (by decide +kernel) lk_S_S_scan_25_S_need_1 rfl (c_S_need (d := d + 3) S34 r35 1 h) rfl (Nat.le_of_ble_eq_true rfl) rfl rfl ?_ ?_
        · rintro _ _ (⟨S41, r42, e9, rfl, h⟩ | ⟨_, _, _, _, e9, _⟩)
          · cases e9
            show xRn G l _ _ _ 169 [.ref 20, .ref 17, .ref 19, .int v3, .int v4, .int (gF S34 401), .null, .null, .null] [] (hL S41 r42)
            refine xRn.forget (xle_eq (xle_eq (xle_no (xle_no (xle_no (xle_eq (xle_eq (xle_eq (xle_eq xle_nil))))))))) ?_
            exact t_S_scan_169   S41 r42 (gF S34 401) h
          · cases e9
        · rintro n_ _ (⟨_, _, e9, _⟩ | ⟨_, _, S, r, e9, rfl, hx, h⟩) h16
          · cases e9
          · replace e9 := Sum.inr.inj e9
            subst e9
            exact xTh.out (by decide) h16 (Or.inr ⟨_, _, _, _, rfl, rfl, hx, h⟩)
    · cases e9
  · rintro n_ _ (⟨_, _, e9, _⟩ | ⟨_, _, S, r, e9, rfl, hx, h⟩) h16
    · cases e9
    · replace e9 := Sum.inr.inj e9
      subst e9
      exact xTh.out (by decide) h16 (Or.inr ⟨_, _, _, _, rfl, rfl, hx, h⟩)
def w_S_scan_95   (K : XS → List AE → Prop) (KT : Nat → XS → List AE → Prop) (S : XS) (r : List AE) (v3 : Int32) (v4 : Int32) : Prop :=
  (w_S_number S r 34 (fun x43 S44 r45 => (w_S_stands (sF S44 301 x43) r45 43 (fun x46 S47 r48 => (narrow .boolean (.int x46) = .int x46 ∧ fits .boolean (.int x46) = true) ∧ ((x46 = 0 → (w_S_scan_141 K KT (sF S47 302 x46) r48 v3 v4)) ∧ (¬ x46 = 0 → (w_S_letter (sF S47 302 x46) r48 43 (fun x51 S52 r53 => ((¬ x51 = (89 : Int32) → (w_S_need S52 r53 0 (fun S56 r57 => (w_S_scan_141 K KT S56 r57 v3 v4)) (fun ci S r => KT ci S r))) ∧ (x51 = (89 : Int32) → (w_S_need S52 r53 1 (fun S59 r60 => (w_S_scan_141 K KT S59 r60 v3 v4)) (fun ci S r => KT ci S r))))) (fun ci S r => KT ci S r))))))) (fun ci S r => KT ci S r))
set_option maxRecDepth 100000 in
theorem t_S_scan_95 {G : XG} {l : Launch} {d : Nat} {K : XS → List AE → Prop} {KT : Nat → XS → List AE → Prop} (S : XS) (r : List AE) (v3 : Int32) (v4 : Int32) (h : w_S_scan_95 K KT S r v3 v4) : xRn G l (d + 10) xm_S_scan (qV K KT) 95 [.ref 20, .ref 17, .ref 19, .int v3, .int v4, .null, .null, .null, .null] [] (hL S r) := by
  refine xRn.blk (pc1 := 99) (ls1 := [.ref 20, .ref 17, .ref 19, .int v3, .int v4, .null, .null, .null, .null]) (st1 := [.int 34, .ref 20, .ref 19]) (hp1 := (hL S r)) (ob := []) [(.aload_n 2, 1, 2, 0, 0, 0), (.aload_n 0, 1, 0, 0, 0, 0), (.bipush 34, 2, 0, 0, 0, 34)] [] (by decide +kernel) rfl xall_nil (xSee_nil _) rfl rfl ?_
  refine xRn.callV (al := [.int 34]) (st := [.ref 19]) (nx := 102) (by decide +kernel) lk_V_S_scan_62_S_number_3_1 rfl rfl (c_S_number (d := d + 1) S r 34 h) rfl (Nat.le_of_ble_eq_true rfl) rfl rfl ?_ ?_
  · rintro _ _ (⟨x43, S44, r45, e9, rfl, h⟩ | ⟨_, _, _, _, e9, _⟩)
    · cases e9
      show xRn G l _ _ _ 102 [.ref 20, .ref 17, .ref 19, .int v3, .int v4, .null, .null, .null, .null] [.int x43, .ref 19] (hL S44 r45)
      refine xRn.blk (pc1 := 109) (ls1 := [.ref 20, .ref 17, .ref 19, .int v3, .int v4, .null, .null, .null, .null]) (st1 := [.int 43, .ref 20, .ref 19]) (hp1 := (hL (sF S44 301 x43) r45)) (ob := [(19 : Nat) = 19]) [(.putfield 97, 3, 1, 2, 0, 0), (.aload_n 2, 1, 2, 0, 0, 0), (.aload_n 0, 1, 0, 0, 0, 0), (.bipush 43, 2, 0, 0, 0, 43)] [(19, xc3 S44)] (by decide +kernel) rfl (xall_cons rfl xall_nil) (xSee_cons rfl (xne_nil _) (xSee_nil _)) rfl rfl ?_
      refine xRn.callV (al := [.int 43]) (st := [.ref 19]) (nx := 112) (by decide +kernel) lk_V_S_scan_33_S_stands_3_1 rfl rfl (c_S_stands (d := d + 9) (sF S44 301 x43) r45 43 h) rfl (Nat.le_of_ble_eq_true rfl) rfl rfl ?_ ?_
      · rintro _ _ ⟨x46, S47, r48, e9, rfl, h⟩
        cases e9
        show xRn G l _ _ _ 112 [.ref 20, .ref 17, .ref 19, .int v3, .int v4, .null, .null, .null, .null] [.int x46, .ref 19] (hL S47 r48)
        obtain ⟨o49, h⟩ := h
        refine xRn.blk (pc1 := 119) (ls1 := [.ref 20, .ref 17, .ref 19, .int v3, .int v4, .null, .null, .null, .null]) (st1 := [.int x46]) (hp1 := (hL (sF S47 302 x46) r48)) (ob := [(19 : Nat) = 19, narrow .boolean (.int x46) = .int x46 ∧ fits .boolean (.int x46) = true, (19 : Nat) = 19]) [(.putfield 99, 3, 2, 2, 0, 0), (.aload_n 2, 1, 2, 0, 0, 0), (.getfield 99, 3, 2, 2, 0, 0)] [(19, xc3 S47)] (by decide +kernel) rfl (xall_cons rfl (xall_cons o49 (xall_cons rfl xall_nil))) (xSee_cons rfl (xne_nil _) (xSee_nil _)) rfl rfl ?_
        refine xRn.if_eq (tgt := 141) (nx := 122) (off := 22) (by decide +kernel) (by decide) rfl (fun c50 => ?_) (fun c50 => ?_)
        · have h := h.1 c50
          refine xRn.forget (xle_eq (xle_eq (xle_eq (xle_eq (xle_eq (xle_eq (xle_eq (xle_eq (xle_eq xle_nil))))))))) ?_
          exact t_S_scan_141   (sF S47 302 x46) r48 v3 v4 h
        · have h := h.2 c50
          refine xRn.blk (pc1 := 125) (ls1 := [.ref 20, .ref 17, .ref 19, .int v3, .int v4, .null, .null, .null, .null]) (st1 := [.int 43, .ref 20]) (hp1 := (hL (sF S47 302 x46) r48)) (ob := []) [(.aload_n 0, 1, 0, 0, 0, 0), (.bipush 43, 2, 0, 0, 0, 43)] [] (by decide +kernel) rfl xall_nil (xSee_nil _) rfl rfl ?_
          refine xRn.callV (al := [.int 43]) (st := []) (nx := 128) (by decide +kernel) lk_V_S_scan_75_S_letter_3_1 rfl rfl (c_S_letter (d := d + 1) (sF S47 302 x46) r48 43 h) rfl (Nat.le_of_ble_eq_true rfl) rfl rfl ?_ ?_
          · rintro _ _ (⟨x51, S52, r53, e9, rfl, h⟩ | ⟨_, _, _, _, e9, _⟩)
            · cases e9
              show xRn G l _ _ _ 128 [.ref 20, .ref 17, .ref 19, .int v3, .int v4, .null, .null, .null, .null] [.int x51] (hL S52 r53)
              refine xRn.blk (pc1 := 130) (ls1 := [.ref 20, .ref 17, .ref 19, .int v3, .int v4, .null, .null, .null, .null]) (st1 := [.int 89, .int x51]) (hp1 := (hL S52 r53)) (ob := []) [(.bipush 89, 2, 0, 0, 0, 89)] [] (by decide +kernel) rfl xall_nil (xSee_nil _) rfl rfl ?_
              refine xRn.ic_ne (tgt := 137) (nx := 133) (off := 7) (by decide +kernel) (by decide) rfl (fun c54 => ?_) (fun c54 => ?_)
              · have h := h.1 c54
                refine xRn.blk (pc1 := 138) (ls1 := [.ref 20, .ref 17, .ref 19, .int v3, .int v4, .null, .null, .null, .null]) (st1 := [.int 0]) (hp1 := (hL S52 r53)) (ob := []) [(.iconst 0, 1, 0, 0, 0, 0)] [] (by decide +kernel) rfl xall_nil (xSee_nil _) rfl rfl ?_
                refine xRn.callS (al := [.int 0]) (st := []) (nx := 141) (by decide +kernel) lk_S_S_scan_25_S_need_1 rfl (c_S_need (d := d + 3) S52 r53 0 h) rfl (Nat.le_of_ble_eq_true rfl) rfl rfl ?_ ?_
                · rintro _ _ (⟨S56, r57, e9, rfl, h⟩ | ⟨_, _, _, _, e9, _⟩)
                  · cases e9
                    show xRn G l _ _ _ 141 [.ref 20, .ref 17, .ref 19, .int v3, .int v4, .null, .null, .null, .null] [] (hL S56 r57)
                    refine xRn.forget (xle_eq (xle_eq (xle_eq (xle_eq (xle_eq (xle_eq (xle_eq (xle_eq (xle_eq xle_nil))))))))) ?_
                    exact t_S_scan_141   S56 r57 v3 v4 h
                  · cases e9
                · rintro n_ _ (⟨_, _, e9, _⟩ | ⟨_, _, S, r, e9, rfl, hx, h⟩) h16
                  · cases e9
                  · replace e9 := Sum.inr.inj e9
                    subst e9
                    exact xTh.out (by decide) h16 (Or.inr ⟨_, _, _, _, rfl, rfl, hx, h⟩)
              · have h := h.2 c54
                refine xRn.blk (pc1 := 134) (ls1 := [.ref 20, .ref 17, .ref 19, .int v3, .int v4, .null, .null, .null, .null]) (st1 := [.int 1]) (hp1 := (hL S52 r53)) (ob := []) [(.iconst 1, 1, 0, 0, 0, 1)] [] (by decide +kernel) rfl xall_nil (xSee_nil _) rfl rfl ?_
                refine xRn.goto (tgt := 138) (off := 4) (by decide +kernel) (by decide) ?_
                refine xRn.callS (al := [.int 1]) (st := []) (nx := 141) (by decide +kernel) lk_S_S_scan_25_S_need_1 rfl (c_S_need (d := d + 3) S52 r53 1 h) rfl (Nat.le_of_ble_eq_true rfl) rfl rfl ?_ ?_
                · rintro _ _ (⟨S59, r60, e9, rfl, h⟩ | ⟨_, _, _, _, e9, _⟩)
                  · cases e9
                    show xRn G l _ _ _ 141 [.ref 20, .ref 17, .ref 19, .int v3, .int v4, .null, .null, .null, .null] [] (hL S59 r60)
                    refine xRn.forget (xle_eq (xle_eq (xle_eq (xle_eq (xle_eq (xle_eq (xle_eq (xle_eq (xle_eq xle_nil))))))))) ?_
                    exact t_S_scan_141   S59 r60 v3 v4 h
                  · cases e9
                · rintro n_ _ (⟨_, _, e9, _⟩ | ⟨_, _, S, r, e9, rfl, hx, h⟩) h16
                  · cases e9
                  · replace e9 := Sum.inr.inj e9
                    subst e9
                    exact xTh.out (by decide) h16 (Or.inr ⟨_, _, _, _, rfl, rfl, hx, h⟩)
            · cases e9
          · rintro n_ _ (⟨_, _, _, e9, _⟩ | ⟨_, _, S, r, e9, rfl, hx, h⟩) h16
            · cases e9
            · replace e9 := Sum.inr.inj e9
              subst e9
              exact xTh.out (by decide) h16 (Or.inr ⟨_, _, _, _, rfl, rfl, hx, h⟩)
      · rintro _ _ ⟨_, _, _, e9, _⟩
        cases e9
    · cases e9
  · rintro n_ _ (⟨_, _, _, e9, _⟩ | ⟨_, _, S, r, e9, rfl, hx, h⟩) h16
    · cases e9
    · replace e9 := Sum.inr.inj e9
      subst e9
      exact xTh.out (by decide) h16 (Or.inr ⟨_, _, _, _, rfl, rfl, hx, h⟩)
def w_S_scan_91   (K : XS → List AE → Prop) (KT : Nat → XS → List AE → Prop) (S : XS) (r : List AE) (v3 : Int32) (v4 : Int32) : Prop :=
  (w_S_need S r 0 (fun S62 r63 => (w_S_scan_95 K KT S62 r63 v3 v4)) (fun ci S r => KT ci S r))
set_option maxRecDepth 100000 in
theorem t_S_scan_91 {G : XG} {l : Launch} {d : Nat} {K : XS → List AE → Prop} {KT : Nat → XS → List AE → Prop} (S : XS) (r : List AE) (v3 : Int32) (v4 : Int32) (h : w_S_scan_91 K KT S r v3 v4) : xRn G l (d + 10) xm_S_scan (qV K KT) 91 [.ref 20, .ref 17, .ref 19, .int v3, .int v4, .null, .null, .null, .null] [] (hL S r) := by
  refine xRn.blk (pc1 := 92) (ls1 := [.ref 20, .ref 17, .ref 19, .int v3, .int v4, .null, .null, .null, .null]) (st1 := [.int 0]) (hp1 := (hL S r)) (ob := []) [(.iconst 0, 1, 0, 0, 0, 0)] [] (by decide +kernel) rfl xall_nil (xSee_nil _) rfl rfl ?_
  refine xRn.callS (al := [.int 0]) (st := []) (nx := 95) (by decide +kernel) lk_S_S_scan_25_S_need_1 rfl (c_S_need (d := d + 3) S r 0 h) rfl (Nat.le_of_ble_eq_true rfl) rfl rfl ?_ ?_
  · rintro _ _ (⟨S62, r63, e9, rfl, h⟩ | ⟨_, _, _, _, e9, _⟩)
    · cases e9
      show xRn G l _ _ _ 95 [.ref 20, .ref 17, .ref 19, .int v3, .int v4, .null, .null, .null, .null] [] (hL S62 r63)
      refine xRn.forget (xle_eq (xle_eq (xle_eq (xle_eq (xle_eq (xle_eq (xle_eq (xle_eq (xle_eq xle_nil))))))))) ?_
      exact t_S_scan_95   S62 r63 v3 v4 h
    · cases e9
  · rintro n_ _ (⟨_, _, e9, _⟩ | ⟨_, _, S, r, e9, rfl, hx, h⟩) h16
    · cases e9
    · replace e9 := Sum.inr.inj e9
      subst e9
      exact xTh.out (by decide) h16 (Or.inr ⟨_, _, _, _, rfl, rfl, hx, h⟩)
def w_S_scan_44   (K : XS → List AE → Prop) (KT : Nat → XS → List AE → Prop) (S : XS) (r : List AE) : Prop :=
  (w_S_number S r 9 (fun x64 S65 r66 => (w_S_letter S65 r66 35 (fun x67 S68 r69 => (w_T_typeOf x67 (fun x70 => ((x70 = 0 → (w_S_scan_91 K KT (sR S68 300 x70) r69 x64 (gF S65 401))) ∧ (¬ x70 = 0 → (x70 ≤ 10) ∧ ((x70 = 10 → (w_S_scan_91 K KT (sR S68 300 x70) r69 x64 (gF S65 401))) ∧ (¬ x70 = 10 → (w_S_need (sR S68 300 x70) r69 1 (fun S75 r76 => (w_S_scan_95 K KT S75 r76 x64 (gF S65 401))) (fun ci S r => KT ci S r))))))))) (fun ci S r => KT ci S r))) (fun ci S r => KT ci S r))
set_option maxRecDepth 100000 in
theorem t_S_scan_44 {G : XG} {l : Launch} {d : Nat} {K : XS → List AE → Prop} {KT : Nat → XS → List AE → Prop} (S : XS) (r : List AE) (h : w_S_scan_44 K KT S r) : xRn G l (d + 10) xm_S_scan (qV K KT) 44 [.ref 20, .ref 17, .ref 19, .null, .null, .null, .null, .null, .null] [] (hL S r) := by
  refine xRn.blk (pc1 := 47) (ls1 := [.ref 20, .ref 17, .ref 19, .null, .null, .null, .null, .null, .null]) (st1 := [.int 9, .ref 20]) (hp1 := (hL S r)) (ob := []) [(.aload_n 0, 1, 0, 0, 0, 0), (.bipush 9, 2, 0, 0, 0, 9)] [] (by decide +kernel) rfl xall_nil (xSee_nil _) rfl rfl ?_
  refine xRn.callV (al := [.int 9]) (st := []) (nx := 50) (by decide +kernel) lk_V_S_scan_62_S_number_3_1 rfl rfl (c_S_number (d := d + 1) S r 9 h) rfl (Nat.le_of_ble_eq_true rfl) rfl rfl ?_ ?_
  · rintro _ _ (⟨x64, S65, r66, e9, rfl, h⟩ | ⟨_, _, _, _, e9, _⟩)
    · cases e9
      show xRn G l _ _ _ 50 [.ref 20, .ref 17, .ref 19, .null, .null, .null, .null, .null, .null] [.int x64] (hL S65 r66)
      refine xRn.blk (pc1 := 61) (ls1 := [.ref 20, .ref 17, .ref 19, .int x64, .int (gF S65 401), .null, .null, .null, .null]) (st1 := [.int 35, .ref 20, .ref 19]) (hp1 := (hL S65 r66)) (ob := [(20 : Nat) = 20]) [(.istore_n 3, 1, 3, 0, 0, 0), (.aload_n 0, 1, 0, 0, 0, 0), (.getfield 10, 3, 1, 3, 0, 0), (.istore 4, 2, 4, 0, 0, 0), (.aload_n 2, 1, 2, 0, 0, 0), (.aload_n 0, 1, 0, 0, 0, 0), (.bipush 35, 2, 0, 0, 0, 35)] [(20, xc4 S65)] (by decide +kernel) rfl (xall_cons rfl xall_nil) (xSee_cons rfl (xne_nil _) (xSee_nil _)) rfl rfl ?_
      refine xRn.callV (al := [.int 35]) (st := [.ref 19]) (nx := 64) (by decide +kernel) lk_V_S_scan_75_S_letter_3_1 rfl rfl (c_S_letter (d := d + 1) S65 r66 35 h) rfl (Nat.le_of_ble_eq_true rfl) rfl rfl ?_ ?_
      · rintro _ _ (⟨x67, S68, r69, e9, rfl, h⟩ | ⟨_, _, _, _, e9, _⟩)
        · cases e9
          show xRn G l _ _ _ 64 [.ref 20, .ref 17, .ref 19, .int x64, .int (gF S65 401), .null, .null, .null, .null] [.int x67, .ref 19] (hL S68 r69)
          refine xRn.callSN (al := [.int x67]) (st := [.ref 19]) (nx := 67) (by decide +kernel) lk_SN_S_scan_88_T_typeOf_1 rfl (c_T_typeOf (d := d + 9) _ x67 h) rfl (Nat.le_of_ble_eq_true rfl) rfl rfl ?_ ?_
          · rintro _ _ ⟨x70, e9, e8, h⟩
            cases e9
            rw [e8]
            show xRn G l _ _ _ 67 [.ref 20, .ref 17, .ref 19, .int x64, .int (gF S65 401), .null, .null, .null, .null] [.ref x70, .ref 19] (hL S68 r69)
            refine xRn.blk (pc1 := 74) (ls1 := [.ref 20, .ref 17, .ref 19, .int x64, .int (gF S65 401), .null, .null, .null, .null]) (st1 := [.ref x70]) (hp1 := (hL (sR S68 300 x70) r69)) (ob := [(19 : Nat) = 19, (19 : Nat) = 19]) [(.putfield 45, 3, 0, 2, 0, 0), (.aload_n 2, 1, 2, 0, 0, 0), (.getfield 45, 3, 0, 2, 0, 0)] [(19, xc3 S68)] (by decide +kernel) rfl (xall_cons rfl (xall_cons rfl xall_nil)) (xSee_cons rfl (xne_nil _) (xSee_nil _)) rfl rfl ?_
            refine xRn.ifnull (tgt := 91) (nx := 77) (off := 17) (by decide +kernel) (by decide) rfl (fun c71 => ?_) (fun c71 => ?_)
            · have h := h.1 c71
              refine xRn.forget (xle_eq (xle_eq (xle_eq (xle_eq (xle_eq (xle_eq (xle_eq (xle_eq (xle_eq xle_nil))))))))) ?_
              exact t_S_scan_91   (sR S68 300 x70) r69 x64 (gF S65 401) h
            · have h := h.2 c71
              refine xRn.blk (pc1 := 84) (ls1 := [.ref 20, .ref 17, .ref 19, .int x64, .int (gF S65 401), .null, .null, .null, .null]) (st1 := [.ref 10, .ref x70]) (hp1 := (hL (sR S68 300 x70) r69)) (ob := [(19 : Nat) = 19]) [(.aload_n 2, 1, 2, 0, 0, 0), (.getfield 45, 3, 0, 2, 0, 0), (.getstatic 94, 3, 9, 0, 0, 0)] [(19, xc3 (sR S68 300 x70))] (by decide +kernel) rfl (xall_cons rfl xall_nil) (xSee_cons rfl (xne_nil _) (xSee_nil _)) rfl rfl ?_
              obtain ⟨o72, h⟩ := h
              refine xRn.ac_eq (tgt := 91) (nx := 87) (off := 7) (by decide +kernel) (by decide) rfl o72 (by decide) (fun c73 => ?_) (fun c73 => ?_)
              · have h := h.1 c73
                refine xRn.forget (xle_eq (xle_eq (xle_eq (xle_eq (xle_eq (xle_eq (xle_eq (xle_eq (xle_eq xle_nil))))))))) ?_
                exact t_S_scan_91   (sR S68 300 x70) r69 x64 (gF S65 401) h
              · have h := h.2 c73
                refine xRn.blk (pc1 := 88) (ls1 := [.ref 20, .ref 17, .ref 19, .int x64, .int (gF S65 401), .null, .null, .null, .null]) (st1 := [.int 1]) (hp1 := (hL (sR S68 300 x70) r69)) (ob := []) [(.iconst 1, 1, 0, 0, 0, 1)] [] (by decide +kernel) rfl xall_nil (xSee_nil _) rfl rfl ?_
                refine xRn.goto (tgt := 92) (off := 4) (by decide +kernel) (by decide) ?_
                refine xRn.callS (al := [.int 1]) (st := []) (nx := 95) (by decide +kernel) lk_S_S_scan_25_S_need_1 rfl (c_S_need (d := d + 3) (sR S68 300 x70) r69 1 h) rfl (Nat.le_of_ble_eq_true rfl) rfl rfl ?_ ?_
                · rintro _ _ (⟨S75, r76, e9, rfl, h⟩ | ⟨_, _, _, _, e9, _⟩)
                  · cases e9
                    show xRn G l _ _ _ 95 [.ref 20, .ref 17, .ref 19, .int x64, .int (gF S65 401), .null, .null, .null, .null] [] (hL S75 r76)
                    refine xRn.forget (xle_eq (xle_eq (xle_eq (xle_eq (xle_eq (xle_eq (xle_eq (xle_eq (xle_eq xle_nil))))))))) ?_
                    exact t_S_scan_95   S75 r76 x64 (gF S65 401) h
                  · cases e9
                · rintro n_ _ (⟨_, _, e9, _⟩ | ⟨_, _, S, r, e9, rfl, hx, h⟩) h16
                  · cases e9
                  · replace e9 := Sum.inr.inj e9
                    subst e9
                    exact xTh.out (by decide) h16 (Or.inr ⟨_, _, _, _, rfl, rfl, hx, h⟩)
          · rintro _ _ ⟨_, e9, _⟩
            cases e9
        · cases e9
      · rintro n_ _ (⟨_, _, _, e9, _⟩ | ⟨_, _, S, r, e9, rfl, hx, h⟩) h16
        · cases e9
        · replace e9 := Sum.inr.inj e9
          subst e9
          exact xTh.out (by decide) h16 (Or.inr ⟨_, _, _, _, rfl, rfl, hx, h⟩)
    · cases e9
  · rintro n_ _ (⟨_, _, _, e9, _⟩ | ⟨_, _, S, r, e9, rfl, hx, h⟩) h16
    · cases e9
    · replace e9 := Sum.inr.inj e9
      subst e9
      exact xTh.out (by decide) h16 (Or.inr ⟨_, _, _, _, rfl, rfl, hx, h⟩)
def w_S_scan  (S : XS) (r : List AE) (K : XS → List AE → Prop) (KT : Nat → XS → List AE → Prop) : Prop :=
  (w_S_letter (sF (sF (sF (sF (sR S 400 17) 401 0) 303 0) 304 0) 305 0) r 8 (fun x77 S78 r79 => ((¬ x77 = (70 : Int32) → (w_S_need S78 r79 0 (fun S82 r83 => (w_S_scan_44 K KT S82 r83)) (fun ci S r => KT ci S r))) ∧ (x77 = (70 : Int32) → (w_S_need S78 r79 1 (fun S85 r86 => (w_S_scan_44 K KT S85 r86)) (fun ci S r => KT ci S r))))) (fun ci S r => KT ci S r))
set_option maxRecDepth 100000 in
theorem c_S_scan {G : XG} {l : Launch} {d : Nat} (S : XS) (r : List AE) {K : XS → List AE → Prop} {KT : Nat → XS → List AE → Prop} (h : w_S_scan  S r K KT) : xCt G l (d + 10) xm_S_scan [.ref 20, .ref 17, .ref 19] (hL S r) (qV K KT) := by
  refine xCt.intro (by decide) (by decide) (List.forall_mem_cons.mpr ⟨rfl, (List.forall_mem_cons.mpr ⟨rfl, (List.forall_mem_cons.mpr ⟨rfl, (fun _ h => by cases h)⟩)⟩)⟩) (Nat.le_of_ble_eq_true rfl) rfl ?_
  show xRn G l _ xm_S_scan _ 0 [.ref 20, .ref 17, .ref 19, .null, .null, .null, .null, .null, .null] [] (hL S r)
  refine xRn.blk (pc1 := 12) (ls1 := [.ref 20, .ref 17, .ref 19, .null, .null, .null, .null, .null, .null]) (st1 := [.int 0, .ref 19]) (hp1 := (hL (sF (sR S 400 17) 401 0) r)) (ob := [(20 : Nat) = 20, (20 : Nat) = 20]) [(.aload_n 0, 1, 0, 0, 0, 0), (.aload_n 1, 1, 1, 0, 0, 0), (.putfield 16, 3, 0, 3, 0, 0), (.aload_n 0, 1, 0, 0, 0, 0), (.iconst 0, 1, 0, 0, 0, 0), (.putfield 10, 3, 1, 3, 0, 0), (.aload_n 2, 1, 2, 0, 0, 0), (.iconst 0, 1, 0, 0, 0, 0)] [(20, xc4 S)] (by decide +kernel) rfl (xall_cons rfl (xall_cons rfl xall_nil)) (xSee_cons rfl (xne_nil _) (xSee_nil _)) rfl rfl ?_
  refine xRn.blk (pc1 := 22) (ls1 := [.ref 20, .ref 17, .ref 19, .null, .null, .null, .null, .null, .null]) (st1 := [.int 0, .ref 19]) (hp1 := (hL (sF (sF (sF (sR S 400 17) 401 0) 303 0) 304 0) r)) (ob := [(19 : Nat) = 19, (19 : Nat) = 19]) [(.putfield 66, 3, 3, 2, 0, 0), (.aload_n 2, 1, 2, 0, 0, 0), (.iconst 0, 1, 0, 0, 0, 0), (.putfield 79, 3, 4, 2, 0, 0), (.aload_n 2, 1, 2, 0, 0, 0), (.iconst 0, 1, 0, 0, 0, 0)] [(19, xc3 (sF (sR S 400 17) 401 0))] (by decide +kernel) rfl (xall_cons rfl (xall_cons rfl xall_nil)) (xSee_cons rfl (xne_nil _) (xSee_nil _)) rfl rfl ?_
  refine xRn.blk (pc1 := 28) (ls1 := [.ref 20, .ref 17, .ref 19, .null, .null, .null, .null, .null, .null]) (st1 := [.int 8, .ref 20]) (hp1 := (hL (sF (sF (sF (sF (sR S 400 17) 401 0) 303 0) 304 0) 305 0) r)) (ob := [(19 : Nat) = 19]) [(.putfield 85, 3, 5, 2, 0, 0), (.aload_n 0, 1, 0, 0, 0, 0), (.bipush 8, 2, 0, 0, 0, 8)] [(19, xc3 (sF (sF (sF (sR S 400 17) 401 0) 303 0) 304 0))] (by decide +kernel) rfl (xall_cons rfl xall_nil) (xSee_cons rfl (xne_nil _) (xSee_nil _)) rfl rfl ?_
  refine xRn.callV (al := [.int 8]) (st := []) (nx := 31) (by decide +kernel) lk_V_S_scan_75_S_letter_3_1 rfl rfl (c_S_letter (d := d + 1) (sF (sF (sF (sF (sR S 400 17) 401 0) 303 0) 304 0) 305 0) r 8 h) rfl (Nat.le_of_ble_eq_true rfl) rfl rfl ?_ ?_
  · rintro _ _ (⟨x77, S78, r79, e9, rfl, h⟩ | ⟨_, _, _, _, e9, _⟩)
    · cases e9
      show xRn G l _ _ _ 31 [.ref 20, .ref 17, .ref 19, .null, .null, .null, .null, .null, .null] [.int x77] (hL S78 r79)
      refine xRn.blk (pc1 := 33) (ls1 := [.ref 20, .ref 17, .ref 19, .null, .null, .null, .null, .null, .null]) (st1 := [.int 70, .int x77]) (hp1 := (hL S78 r79)) (ob := []) [(.bipush 70, 2, 0, 0, 0, 70)] [] (by decide +kernel) rfl xall_nil (xSee_nil _) rfl rfl ?_
      refine xRn.ic_ne (tgt := 40) (nx := 36) (off := 7) (by decide +kernel) (by decide) rfl (fun c80 => ?_) (fun c80 => ?_)
      · have h := h.1 c80
        refine xRn.blk (pc1 := 41) (ls1 := [.ref 20, .ref 17, .ref 19, .null, .null, .null, .null, .null, .null]) (st1 := [.int 0]) (hp1 := (hL S78 r79)) (ob := []) [(.iconst 0, 1, 0, 0, 0, 0)] [] (by decide +kernel) rfl xall_nil (xSee_nil _) rfl rfl ?_
        refine xRn.callS (al := [.int 0]) (st := []) (nx := 44) (by decide +kernel) lk_S_S_scan_25_S_need_1 rfl (c_S_need (d := d + 3) S78 r79 0 h) rfl (Nat.le_of_ble_eq_true rfl) rfl rfl ?_ ?_
        · rintro _ _ (⟨S82, r83, e9, rfl, h⟩ | ⟨_, _, _, _, e9, _⟩)
          · cases e9
            show xRn G l _ _ _ 44 [.ref 20, .ref 17, .ref 19, .null, .null, .null, .null, .null, .null] [] (hL S82 r83)
            refine xRn.forget (xle_eq (xle_eq (xle_eq (xle_eq (xle_eq (xle_eq (xle_eq (xle_eq (xle_eq xle_nil))))))))) ?_
            exact t_S_scan_44   S82 r83 h
          · cases e9
        · rintro n_ _ (⟨_, _, e9, _⟩ | ⟨_, _, S, r, e9, rfl, hx, h⟩) h16
          · cases e9
          · replace e9 := Sum.inr.inj e9
            subst e9
            exact xTh.out (by decide) h16 (Or.inr ⟨_, _, _, _, rfl, rfl, hx, h⟩)
      · have h := h.2 c80
        refine xRn.blk (pc1 := 37) (ls1 := [.ref 20, .ref 17, .ref 19, .null, .null, .null, .null, .null, .null]) (st1 := [.int 1]) (hp1 := (hL S78 r79)) (ob := []) [(.iconst 1, 1, 0, 0, 0, 1)] [] (by decide +kernel) rfl xall_nil (xSee_nil _) rfl rfl ?_
        refine xRn.goto (tgt := 41) (off := 4) (by decide +kernel) (by decide) ?_
        refine xRn.callS (al := [.int 1]) (st := []) (nx := 44) (by decide +kernel) lk_S_S_scan_25_S_need_1 rfl (c_S_need (d := d + 3) S78 r79 1 h) rfl (Nat.le_of_ble_eq_true rfl) rfl rfl ?_ ?_
        · rintro _ _ (⟨S85, r86, e9, rfl, h⟩ | ⟨_, _, _, _, e9, _⟩)
          · cases e9
            show xRn G l _ _ _ 44 [.ref 20, .ref 17, .ref 19, .null, .null, .null, .null, .null, .null] [] (hL S85 r86)
            refine xRn.forget (xle_eq (xle_eq (xle_eq (xle_eq (xle_eq (xle_eq (xle_eq (xle_eq (xle_eq xle_nil))))))))) ?_
            exact t_S_scan_44   S85 r86 h
          · cases e9
        · rintro n_ _ (⟨_, _, e9, _⟩ | ⟨_, _, S, r, e9, rfl, hx, h⟩) h16
          · cases e9
          · replace e9 := Sum.inr.inj e9
            subst e9
            exact xTh.out (by decide) h16 (Or.inr ⟨_, _, _, _, rfl, rfl, hx, h⟩)
    · cases e9
  · rintro n_ _ (⟨_, _, _, e9, _⟩ | ⟨_, _, S, r, e9, rfl, hx, h⟩) h16
    · cases e9
    · replace e9 := Sum.inr.inj e9
      subst e9
      exact xTh.out (by decide) h16 (Or.inr ⟨_, _, _, _, rfl, rfl, hx, h⟩)
/-! T_garbled -/
def w_T_garbled  (S : XS) (r : List AE) (K : Int32 → XS → List AE → Prop) : Prop :=
  (w_S_scan S r  (fun S2 r3 => (K 0 S2 r3)) (fun ci S r => (ci = 7 ∧ (K 1 S r))))
set_option maxRecDepth 100000 in
theorem c_T_garbled {G : XG} {l : Launch} {d : Nat} (S : XS) (r : List AE) {K : Int32 → XS → List AE → Prop} (h : w_T_garbled  S r K) : xCt G l (d + 11) xm_T_garbled [.ref 16] (hL S r) (pI K) := by
  refine xCt.intro (by decide) (by decide) (List.forall_mem_cons.mpr ⟨rfl, (fun _ h => by cases h)⟩) (Nat.le_of_ble_eq_true rfl) rfl ?_
  show xRn G l _ xm_T_garbled _ 0 [.ref 16, .null] [] (hL S r)
  refine xRn.blk (pc1 := 12) (ls1 := [.ref 16, .null]) (st1 := [.ref 19, .ref 17, .ref 20]) (hp1 := (hL S r)) (ob := [(16 : Nat) = 16, (16 : Nat) = 16, (16 : Nat) = 16]) [(.aload_n 0, 1, 0, 0, 0, 0), (.getfield 59, 3, 2, 0, 0, 0), (.aload_n 0, 1, 0, 0, 0, 0), (.getfield 43, 3, 0, 0, 0, 0), (.aload_n 0, 1, 0, 0, 0, 0), (.getfield 52, 3, 1, 0, 0, 0)] [(16, xc0 S)] (by decide +kernel) rfl (xall_cons rfl (xall_cons rfl (xall_cons rfl xall_nil))) (xSee_cons rfl (xne_nil _) (xSee_nil _)) rfl rfl ?_
  refine xRn.callV (al := [.ref 17, .ref 19]) (st := []) (nx := 15) (by decide +kernel) lk_V_T_garbled_210_S_scan_3_2 rfl rfl (c_S_scan (d := d + 0) S r  h) rfl (Nat.le_of_ble_eq_true rfl) rfl rfl ?_ ?_
  · rintro _ _ (⟨S2, r3, e9, rfl, h⟩ | ⟨_, _, _, _, e9, _⟩)
    · cases e9
      show xRn G l _ _ _ 15 [.ref 16, .null] [] (hL S2 r3)
      refine xRn.goto (tgt := 21) (off := 6) (by decide +kernel) (by decide) ?_
      refine xRn.blk (pc1 := 22) (ls1 := [.ref 16, .null]) (st1 := [.int 0]) (hp1 := (hL S2 r3)) (ob := []) [(.iconst 0, 1, 0, 0, 0, 0)] [] (by decide +kernel) rfl xall_nil (xSee_nil _) rfl rfl ?_
      exact xRn.iret (by decide +kernel) rfl rfl ⟨_, _, _, rfl, rfl, h⟩
    · cases e9
  · rintro n_ _ (⟨_, _, e9, _⟩ | ⟨_, _, S, r, e9, rfl, hx, h⟩) h16
    · cases e9
    · replace e9 := Sum.inr.inj e9
      subst e9
      obtain ⟨rfl, h⟩ := h
      refine xTh.catch1 (ci := 7) rfl (by decide) (by decide) (by decide +kernel) (by decide) (by decide +kernel) hx ?_
      refine xRn.blk (pc1 := 20) (ls1 := [.ref 16, .ref n_]) (st1 := [.int 1]) (hp1 := (hL S r)) (ob := []) [(.astore_n 1, 1, 1, 0, 0, 0), (.iconst 1, 1, 0, 0, 0, 1)] [] (by decide +kernel) rfl xall_nil (xSee_nil _) rfl rfl ?_
      exact xRn.iret (by decide +kernel) rfl rfl ⟨_, _, _, rfl, rfl, h⟩
