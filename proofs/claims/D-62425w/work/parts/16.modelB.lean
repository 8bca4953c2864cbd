theorem lk_S_M_add_139_M_within_3 : xlkS xm_M_add 139 xm_M_within 3 := by unfold xlkS; decide +kernel
theorem lk_S_M_cut_152_M_digit_1 : xlkS xm_M_cut 152 xm_M_digit 1 := by unfold xlkS; decide +kernel
theorem lk_S_M_give_134_M_isType_1 : xlkS xm_M_give 134 xm_M_isType 1 := by unfold xlkS; decide +kernel
theorem lk_S_M_give_139_M_within_3 : xlkS xm_M_give 139 xm_M_within 3 := by unfold xlkS; decide +kernel
theorem lk_S_M_good_134_M_isType_1 : xlkS xm_M_good 134 xm_M_isType 1 := by unfold xlkS; decide +kernel
theorem lk_S_M_good_87_M_name_2 : xlkS xm_M_good 87 xm_M_name 2 := by unfold xlkS; decide +kernel
theorem lk_S_M_numberAt_152_M_digit_1 : xlkS xm_M_numberAt 152 xm_M_digit 1 := by unfold xlkS; decide +kernel
theorem lk_S_M_spoil_139_M_within_3 : xlkS xm_M_spoil 139 xm_M_within 3 := by unfold xlkS; decide +kernel
theorem lk_V_M_add_143_M_fail_6_1 : xlkV xm_M_add 143 xm_M_fail 6 1 := by unfold xlkV; decide +kernel
theorem lk_V_M_closed_155_M_numberAt_6_2 : xlkV xm_M_closed 155 xm_M_numberAt 6 2 := by unfold xlkV; decide +kernel
theorem lk_V_M_give_108_M_make_6_7 : xlkV xm_M_give 108 xm_M_make 6 7 := by unfold xlkV; decide +kernel
theorem lk_V_M_give_143_M_fail_6_1 : xlkV xm_M_give 143 xm_M_fail 6 1 := by unfold xlkV; decide +kernel
theorem lk_V_M_good_155_M_numberAt_6_2 : xlkV xm_M_good 155 xm_M_numberAt 6 2 := by unfold xlkV; decide +kernel
theorem lk_V_M_good_158_M_cut_6_0 : xlkV xm_M_good 158 xm_M_cut 6 0 := by unfold xlkV; decide +kernel
theorem lk_V_M_good_162_M_closed_6_0 : xlkV xm_M_good 162 xm_M_closed 6 0 := by unfold xlkV; decide +kernel
theorem lk_V_M_good_165_M_letterAt_6_2 : xlkV xm_M_good 165 xm_M_letterAt 6 2 := by unfold xlkV; decide +kernel
theorem lk_V_M_spoil_143_M_fail_6_1 : xlkV xm_M_spoil 143 xm_M_fail 6 1 := by unfold xlkV; decide +kernel
/-! M_give -/
def w_M_give_116   (K : Int32 → XS → List AE → Prop) (S : XS) (r : List AE) : Prop :=
  (K (gF S 802) (sF (sF (sF S 838 0) 801 1) 815 0) r)
set_option maxRecDepth 100000 in
theorem t_M_give_116 {G : XG} {l : Launch} {d : Nat} {K : Int32 → XS → List AE → Prop} (S : XS) (r : List AE) (h : w_M_give_116 K S r) : xRn G l (d + 5) xm_M_give (pI K) 116 [.ref 24, .null, .null, .null, .null, .null, .null] [] (hL S r) := by
  refine xRn.blk (pc1 := 128) (ls1 := [.ref 24, .null, .null, .null, .null, .null, .null]) (st1 := [.int 0, .ref 24]) (hp1 := (hL (sF (sF S 838 0) 801 1) r)) (ob := [(24 : Nat) = 24, narrow .boolean (.int 0) = .int 0 ∧ fits .boolean (.int 0) = true, (24 : Nat) = 24, narrow .boolean (.int 1) = .int 1 ∧ fits .boolean (.int 1) = true]) [(.aload_n 0, 1, 0, 0, 0, 0), (.iconst 0, 1, 0, 0, 0, 0), (.putfield 63, 3, 38, 6, 0, 0), (.aload_n 0, 1, 0, 0, 0, 0), (.iconst 1, 1, 0, 0, 0, 1), (.putfield 146, 3, 1, 6, 0, 0), (.aload_n 0, 1, 0, 0, 0, 0), (.iconst 0, 1, 0, 0, 0, 0)] [(24, xc8 S)] (by decide +kernel) rfl (xall_cons rfl (xall_cons (⟨rfl, rfl⟩) (xall_cons rfl (xall_cons (⟨rfl, rfl⟩) xall_nil)))) (xSee_cons rfl (xne_nil _) (xSee_nil _)) rfl rfl ?_
  refine xRn.blk (pc1 := 135) (ls1 := [.ref 24, .null, .null, .null, .null, .null, .null]) (st1 := [.int (gF S 802)]) (hp1 := (hL (sF (sF (sF S 838 0) 801 1) 815 0) r)) (ob := [(24 : Nat) = 24, (24 : Nat) = 24]) [(.putfield 70, 3, 15, 6, 0, 0), (.aload_n 0, 1, 0, 0, 0, 0), (.getfield 67, 3, 2, 6, 0, 0)] [(24, xc8 (sF (sF S 838 0) 801 1))] (by decide +kernel) rfl (xall_cons rfl (xall_cons rfl xall_nil)) (xSee_cons rfl (xne_nil _) (xSee_nil _)) rfl rfl ?_
  exact xRn.iret (by decide +kernel) rfl rfl ⟨_, _, _, rfl, rfl, h⟩
def w_M_give_55   (K : Int32 → XS → List AE → Prop) (S : XS) (r : List AE) : Prop :=
  (w_M_fail S r 1 (fun x1 S2 r3 => (K x1 S2 r3)))
set_option maxRecDepth 100000 in
theorem t_M_give_55 {G : XG} {l : Launch} {d : Nat} {K : Int32 → XS → List AE → Prop} (S : XS) (r : List AE) (h : w_M_give_55 K S r) : xRn G l (d + 5) xm_M_give (pI K) 55 [.ref 24, .null, .null, .null, .null, .null, .null] [] (hL S r) := by
  refine xRn.blk (pc1 := 57) (ls1 := [.ref 24, .null, .null, .null, .null, .null, .null]) (st1 := [.int 1, .ref 24]) (hp1 := (hL S r)) (ob := []) [(.aload_n 0, 1, 0, 0, 0, 0), (.iconst 1, 1, 0, 0, 0, 1)] [] (by decide +kernel) rfl xall_nil (xSee_nil _) rfl rfl ?_
  refine xRn.callV (al := [.int 1]) (st := []) (nx := 60) (by decide +kernel) lk_V_M_give_143_M_fail_6_1 rfl rfl (c_M_fail (d := d + 4) S r 1 h) rfl (Nat.le_of_ble_eq_true rfl) rfl rfl ?_ ?_
  · rintro _ _ ⟨x1, S2, r3, e9, rfl, h⟩
    cases e9
    show xRn G l _ _ _ 60 [.ref 24, .null, .null, .null, .null, .null, .null] [.int x1] (hL S2 r3)
    exact xRn.iret (by decide +kernel) rfl rfl ⟨_, _, _, rfl, rfl, h⟩
  · rintro _ _ ⟨_, _, _, e9, _⟩
    cases e9
def w_M_give  (S : XS) (r : List AE) (p1 : Int32) (p2 : Int32) (p3 : Int32) (p4 : Int32) (p5 : Int32) (p6 : Int32) (K : Int32 → XS → List AE → Prop) : Prop :=
  (w_M_isType p1 (fun x4 => ((x4 = 0 → (w_M_give_55 K (sF S 800 0) r)) ∧ (¬ x4 = 0 → (w_M_within p2 0 999999 (fun x6 => ((x6 = 0 → (w_M_give_55 K (sF S 800 0) r)) ∧ (¬ x6 = 0 → (w_M_within p4 0 999999 (fun x8 => ((x8 = 0 → (w_M_give_55 K (sF S 800 0) r)) ∧ (¬ x8 = 0 → (w_M_within p5 0 999999 (fun x10 => ((x10 = 0 → (w_M_give_55 K (sF S 800 0) r)) ∧ (¬ x10 = 0 → (w_M_within p6 0 999999 (fun x12 => ((¬ x12 = 0 → ((¬ p1 = (48 : Int32) → ((¬ p1 = (52 : Int32) → (w_M_make (sF (sF S 800 0) 838 1) r p1 p2 p3 p4 p5 p6 0 (fun S17 r18 => (w_M_give_116 K S17 r18)))) ∧ (p1 = (52 : Int32) → ((p5 ≤ 0 → (w_M_make (sF (sF S 800 0) 838 1) r p1 p2 p3 p4 78 p6 0 (fun S21 r22 => (w_M_give_116 K S21 r22)))) ∧ (¬ p5 ≤ 0 → (w_M_make (sF (sF S 800 0) 838 1) r p1 p2 p3 p4 89 p6 0 (fun S24 r25 => (w_M_give_116 K S24 r25)))))))) ∧ (p1 = (48 : Int32) → ((¬ p4 = 0 → ((¬ p1 = (52 : Int32) → (w_M_make (sF (sF S 800 0) 838 1) r p1 p2 p3 p4 p5 p6 0 (fun S29 r30 => (w_M_give_116 K S29 r30)))) ∧ (p1 = (52 : Int32) → ((p5 ≤ 0 → (w_M_make (sF (sF S 800 0) 838 1) r p1 p2 p3 p4 78 p6 0 (fun S33 r34 => (w_M_give_116 K S33 r34)))) ∧ (¬ p5 ≤ 0 → (w_M_make (sF (sF S 800 0) 838 1) r p1 p2 p3 p4 89 p6 0 (fun S36 r37 => (w_M_give_116 K S36 r37)))))))) ∧ (p4 = 0 → ((¬ p1 = (52 : Int32) → (w_M_make (sF (sF S 800 0) 838 1) r p1 p2 p3 (-1) p5 p6 0 (fun S40 r41 => (w_M_give_116 K S40 r41)))) ∧ (p1 = (52 : Int32) → ((p5 ≤ 0 → (w_M_make (sF (sF S 800 0) 838 1) r p1 p2 p3 (-1) 78 p6 0 (fun S44 r45 => (w_M_give_116 K S44 r45)))) ∧ (¬ p5 ≤ 0 → (w_M_make (sF (sF S 800 0) 838 1) r p1 p2 p3 (-1) 89 p6 0 (fun S47 r48 => (w_M_give_116 K S47 r48)))))))))))) ∧ (x12 = 0 → (w_M_give_55 K (sF S 800 0) r)))))))))))))))))))))
set_option maxRecDepth 100000 in
theorem c_M_give {G : XG} {l : Launch} {d : Nat} (S : XS) (r : List AE) (p1 : Int32) (p2 : Int32) (p3 : Int32) (p4 : Int32) (p5 : Int32) (p6 : Int32) {K : Int32 → XS → List AE → Prop} (h : w_M_give  S r p1 p2 p3 p4 p5 p6 K) : xCt G l (d + 5) xm_M_give [.ref 24, .int p1, .int p2, .int p3, .int p4, .int p5, .int p6] (hL S r) (pI K) := by
  refine xCt.intro (by decide) (by decide) (List.forall_mem_cons.mpr ⟨rfl, (List.forall_mem_cons.mpr ⟨rfl, (List.forall_mem_cons.mpr ⟨rfl, (List.forall_mem_cons.mpr ⟨rfl, (List.forall_mem_cons.mpr ⟨rfl, (List.forall_mem_cons.mpr ⟨rfl, (List.forall_mem_cons.mpr ⟨rfl, (fun _ h => by cases h)⟩)⟩)⟩)⟩)⟩)⟩)⟩) (Nat.le_of_ble_eq_true rfl) rfl ?_
  show xRn G l _ xm_M_give _ 0 [.ref 24, .int p1, .int p2, .int p3, .int p4, .int p5, .int p6] [] (hL S r)
  refine xRn.blk (pc1 := 6) (ls1 := [.ref 24, .int p1, .int p2, .int p3, .int p4, .int p5, .int p6]) (st1 := [.int p1]) (hp1 := (hL (sF S 800 0) r)) (ob := [(24 : Nat) = 24]) [(.aload_n 0, 1, 0, 0, 0, 0), (.iconst 0, 1, 0, 0, 0, 0), (.putfield 60, 3, 0, 6, 0, 0), (.iload_n 1, 1, 1, 0, 0, 0)] [(24, xc8 S)] (by decide +kernel) rfl (xall_cons rfl xall_nil) (xSee_cons rfl (xne_nil _) (xSee_nil _)) rfl rfl ?_
  refine xRn.callS (al := [.int p1]) (st := []) (nx := 9) (by decide +kernel) lk_S_M_give_134_M_isType_1 rfl (c_M_isType (d := d + 4) _ p1 h) rfl (Nat.le_of_ble_eq_true rfl) rfl rfl ?_ ?_
  · rintro _ _ ⟨x4, e9, e8, h⟩
    cases e9
    rw [e8]
    show xRn G l _ _ _ 9 [.ref 24, .int p1, .int p2, .int p3, .int p4, .int p5, .int p6] [.int x4] (hL (sF S 800 0) r)
    refine xRn.if_eq (tgt := 55) (nx := 12) (off := 46) (by decide +kernel) (by decide) rfl (fun c5 => ?_) (fun c5 => ?_)
    · have h := h.1 c5
      refine xRn.forget (xle_eq (xle_no (xle_no (xle_no (xle_no (xle_no (xle_no xle_nil))))))) ?_
      exact t_M_give_55   (sF S 800 0) r h
    · have h := h.2 c5
      refine xRn.blk (pc1 := 16) (ls1 := [.ref 24, .int p1, .int p2, .int p3, .int p4, .int p5, .int p6]) (st1 := [.int 999999, .int 0, .int p2]) (hp1 := (hL (sF S 800 0) r)) (ob := []) [(.iload_n 2, 1, 2, 0, 0, 0), (.iconst 0, 1, 0, 0, 0, 0), (.ldc 138, 2, 0, 0, 0, 999999)] [] (by decide +kernel) rfl xall_nil (xSee_nil _) rfl rfl ?_
      refine xRn.callS (al := [.int p2, .int 0, .int 999999]) (st := []) (nx := 19) (by decide +kernel) lk_S_M_give_139_M_within_3 rfl (c_M_within (d := d + 4) _ p2 0 999999 h) rfl (Nat.le_of_ble_eq_true rfl) rfl rfl ?_ ?_
      · rintro _ _ ⟨x6, e9, e8, h⟩
        cases e9
        rw [e8]
        show xRn G l _ _ _ 19 [.ref 24, .int p1, .int p2, .int p3, .int p4, .int p5, .int p6] [.int x6] (hL (sF S 800 0) r)
        refine xRn.if_eq (tgt := 55) (nx := 22) (off := 36) (by decide +kernel) (by decide) rfl (fun c7 => ?_) (fun c7 => ?_)
        · have h := h.1 c7
          refine xRn.forget (xle_eq (xle_no (xle_no (xle_no (xle_no (xle_no (xle_no xle_nil))))))) ?_
          exact t_M_give_55   (sF S 800 0) r h
        · have h := h.2 c7
          refine xRn.blk (pc1 := 27) (ls1 := [.ref 24, .int p1, .int p2, .int p3, .int p4, .int p5, .int p6]) (st1 := [.int 999999, .int 0, .int p4]) (hp1 := (hL (sF S 800 0) r)) (ob := []) [(.iload 4, 2, 4, 0, 0, 0), (.iconst 0, 1, 0, 0, 0, 0), (.ldc 138, 2, 0, 0, 0, 999999)] [] (by decide +kernel) rfl xall_nil (xSee_nil _) rfl rfl ?_
          refine xRn.callS (al := [.int p4, .int 0, .int 999999]) (st := []) (nx := 30) (by decide +kernel) lk_S_M_give_139_M_within_3 rfl (c_M_within (d := d + 4) _ p4 0 999999 h) rfl (Nat.le_of_ble_eq_true rfl) rfl rfl ?_ ?_
          · rintro _ _ ⟨x8, e9, e8, h⟩
            cases e9
            rw [e8]
            show xRn G l _ _ _ 30 [.ref 24, .int p1, .int p2, .int p3, .int p4, .int p5, .int p6] [.int x8] (hL (sF S 800 0) r)
            refine xRn.if_eq (tgt := 55) (nx := 33) (off := 25) (by decide +kernel) (by decide) rfl (fun c9 => ?_) (fun c9 => ?_)
            · have h := h.1 c9
              refine xRn.forget (xle_eq (xle_no (xle_no (xle_no (xle_no (xle_no (xle_no xle_nil))))))) ?_
              exact t_M_give_55   (sF S 800 0) r h
            · have h := h.2 c9
              refine xRn.blk (pc1 := 38) (ls1 := [.ref 24, .int p1, .int p2, .int p3, .int p4, .int p5, .int p6]) (st1 := [.int 999999, .int 0, .int p5]) (hp1 := (hL (sF S 800 0) r)) (ob := []) [(.iload 5, 2, 5, 0, 0, 0), (.iconst 0, 1, 0, 0, 0, 0), (.ldc 138, 2, 0, 0, 0, 999999)] [] (by decide +kernel) rfl xall_nil (xSee_nil _) rfl rfl ?_
              refine xRn.callS (al := [.int p5, .int 0, .int 999999]) (st := []) (nx := 41) (by decide +kernel) lk_S_M_give_139_M_within_3 rfl (c_M_within (d := d + 4) _ p5 0 999999 h) rfl (Nat.le_of_ble_eq_true rfl) rfl rfl ?_ ?_
              · rintro _ _ ⟨x10, e9, e8, h⟩
                cases e9
                rw [e8]
                show xRn G l _ _ _ 41 [.ref 24, .int p1, .int p2, .int p3, .int p4, .int p5, .int p6] [.int x10] (hL (sF S 800 0) r)
                refine xRn.if_eq (tgt := 55) (nx := 44) (off := 14) (by decide +kernel) (by decide) rfl (fun c11 => ?_) (fun c11 => ?_)
                · have h := h.1 c11
                  refine xRn.forget (xle_eq (xle_no (xle_no (xle_no (xle_no (xle_no (xle_no xle_nil))))))) ?_
                  exact t_M_give_55   (sF S 800 0) r h
                · have h := h.2 c11
                  refine xRn.blk (pc1 := 49) (ls1 := [.ref 24, .int p1, .int p2, .int p3, .int p4, .int p5, .int p6]) (st1 := [.int 999999, .int 0, .int p6]) (hp1 := (hL (sF S 800 0) r)) (ob := []) [(.iload 6, 2, 6, 0, 0, 0), (.iconst 0, 1, 0, 0, 0, 0), (.ldc 138, 2, 0, 0, 0, 999999)] [] (by decide +kernel) rfl xall_nil (xSee_nil _) rfl rfl ?_
                  refine xRn.callS (al := [.int p6, .int 0, .int 999999]) (st := []) (nx := 52) (by decide +kernel) lk_S_M_give_139_M_within_3 rfl (c_M_within (d := d + 4) _ p6 0 999999 h) rfl (Nat.le_of_ble_eq_true rfl) rfl rfl ?_ ?_
                  · rintro _ _ ⟨x12, e9, e8, h⟩
                    cases e9
                    rw [e8]
                    show xRn G l _ _ _ 52 [.ref 24, .int p1, .int p2, .int p3, .int p4, .int p5, .int p6] [.int x12] (hL (sF S 800 0) r)
                    refine xRn.if_ne (tgt := 61) (nx := 55) (off := 9) (by decide +kernel) (by decide) rfl (fun c13 => ?_) (fun c13 => ?_)
                    · have h := h.1 c13
                      refine xRn.blk (pc1 := 73) (ls1 := [.ref 24, .int p1, .int p2, .int p3, .int p4, .int p5, .int p6]) (st1 := [.int 48, .int p1, .int p3, .int p2, .int p1, .ref 24]) (hp1 := (hL (sF (sF S 800 0) 838 1) r)) (ob := [(24 : Nat) = 24, narrow .boolean (.int 1) = .int 1 ∧ fits .boolean (.int 1) = true]) [(.aload_n 0, 1, 0, 0, 0, 0), (.iconst 1, 1, 0, 0, 0, 1), (.putfield 63, 3, 38, 6, 0, 0), (.aload_n 0, 1, 0, 0, 0, 0), (.iload_n 1, 1, 1, 0, 0, 0), (.iload_n 2, 1, 2, 0, 0, 0), (.iload_n 3, 1, 3, 0, 0, 0), (.iload_n 1, 1, 1, 0, 0, 0), (.bipush 48, 2, 0, 0, 0, 48)] [(24, xc8 (sF S 800 0))] (by decide +kernel) rfl (xall_cons rfl (xall_cons (⟨rfl, rfl⟩) xall_nil)) (xSee_cons rfl (xne_nil _) (xSee_nil _)) rfl rfl ?_
                      refine xRn.ic_ne (tgt := 85) (nx := 76) (off := 12) (by decide +kernel) (by decide) rfl (fun c14 => ?_) (fun c14 => ?_)
                      · have h := h.1 c14
                        refine xRn.blk (pc1 := 90) (ls1 := [.ref 24, .int p1, .int p2, .int p3, .int p4, .int p5, .int p6]) (st1 := [.int 52, .int p1, .int p4, .int p3, .int p2, .int p1, .ref 24]) (hp1 := (hL (sF (sF S 800 0) 838 1) r)) (ob := []) [(.iload 4, 2, 4, 0, 0, 0), (.iload_n 1, 1, 1, 0, 0, 0), (.bipush 52, 2, 0, 0, 0, 52)] [] (by decide +kernel) rfl xall_nil (xSee_nil _) rfl rfl ?_
                        refine xRn.ic_ne (tgt := 108) (nx := 93) (off := 18) (by decide +kernel) (by decide) rfl (fun c15 => ?_) (fun c15 => ?_)
                        · have h := h.1 c15
                          refine xRn.blk (pc1 := 113) (ls1 := [.ref 24, .int p1, .int p2, .int p3, .int p4, .int p5, .int p6]) (st1 := [.int 0, .int p6, .int p5, .int p4, .int p3, .int p2, .int p1, .ref 24]) (hp1 := (hL (sF (sF S 800 0) 838 1) r)) (ob := []) [(.iload 5, 2, 5, 0, 0, 0), (.iload 6, 2, 6, 0, 0, 0), (.iconst 0, 1, 0, 0, 0, 0)] [] (by decide +kernel) rfl xall_nil (xSee_nil _) rfl rfl ?_
                          refine xRn.callV (al := [.int p1, .int p2, .int p3, .int p4, .int p5, .int p6, .int 0]) (st := []) (nx := 116) (by decide +kernel) lk_V_M_give_108_M_make_6_7 rfl rfl (c_M_make (d := d + 0) (sF (sF S 800 0) 838 1) r p1 p2 p3 p4 p5 p6 0 h) rfl (Nat.le_of_ble_eq_true rfl) rfl rfl ?_ ?_
                          · rintro _ _ ⟨S17, r18, e9, rfl, h⟩
                            cases e9
                            show xRn G l _ _ _ 116 [.ref 24, .int p1, .int p2, .int p3, .int p4, .int p5, .int p6] [] (hL S17 r18)
                            refine xRn.forget (xle_eq (xle_no (xle_no (xle_no (xle_no (xle_no (xle_no xle_nil))))))) ?_
                            exact t_M_give_116   S17 r18 h
                          · rintro _ _ ⟨_, _, e9, _⟩
                            cases e9
                        · have h := h.2 c15
                          refine xRn.blk (pc1 := 95) (ls1 := [.ref 24, .int p1, .int p2, .int p3, .int p4, .int p5, .int p6]) (st1 := [.int p5, .int p4, .int p3, .int p2, .int p1, .ref 24]) (hp1 := (hL (sF (sF S 800 0) 838 1) r)) (ob := []) [(.iload 5, 2, 5, 0, 0, 0)] [] (by decide +kernel) rfl xall_nil (xSee_nil _) rfl rfl ?_
                          refine xRn.if_le (tgt := 103) (nx := 98) (off := 8) (by decide +kernel) (by decide) rfl (fun c19 => ?_) (fun c19 => ?_)
                          · have h := h.1 c19
                            refine xRn.blk (pc1 := 105) (ls1 := [.ref 24, .int p1, .int p2, .int p3, .int p4, .int p5, .int p6]) (st1 := [.int 78, .int p4, .int p3, .int p2, .int p1, .ref 24]) (hp1 := (hL (sF (sF S 800 0) 838 1) r)) (ob := []) [(.bipush 78, 2, 0, 0, 0, 78)] [] (by decide +kernel) rfl xall_nil (xSee_nil _) rfl rfl ?_
                            refine xRn.goto (tgt := 110) (off := 5) (by decide +kernel) (by decide) ?_
                            refine xRn.blk (pc1 := 113) (ls1 := [.ref 24, .int p1, .int p2, .int p3, .int p4, .int p5, .int p6]) (st1 := [.int 0, .int p6, .int 78, .int p4, .int p3, .int p2, .int p1, .ref 24]) (hp1 := (hL (sF (sF S 800 0) 838 1) r)) (ob := []) [(.iload 6, 2, 6, 0, 0, 0), (.iconst 0, 1, 0, 0, 0, 0)] [] (by decide +kernel) rfl xall_nil (xSee_nil _) rfl rfl ?_
                            refine xRn.callV (al := [.int p1, .int p2, .int p3, .int p4, .int 78, .int p6, .int 0]) (st := []) (nx := 116) (by decide +kernel) lk_V_M_give_108_M_make_6_7 rfl rfl (c_M_make (d := d + 0) (sF (sF S 800 0) 838 1) r p1 p2 p3 p4 78 p6 0 h) rfl (Nat.le_of_ble_eq_true rfl) rfl rfl ?_ ?_
                            · rintro _ _ ⟨S21, r22, e9, rfl, h⟩
                              cases e9
                              show xRn G l _ _ _ 116 [.ref 24, .int p1, .int p2, .int p3, .int p4, .int p5, .int p6] [] (hL S21 r22)
                              refine xRn.forget (xle_eq (xle_no (xle_no (xle_no (xle_no (xle_no (xle_no xle_nil))))))) ?_
                              exact t_M_give_116   S21 r22 h
                            · rintro _ _ ⟨_, _, e9, _⟩
                              cases e9
                          · have h := h.2 c19
                            refine xRn.blk (pc1 := 100) (ls1 := [.ref 24, .int p1, .int p2, .int p3, .int p4, .int p5, .int p6]) (st1 := [.int 89, .int p4, .int p3, .int p2, .int p1, .ref 24]) (hp1 := (hL (sF (sF S 800 0) 838 1) r)) (ob := []) [(.bipush 89, 2, 0, 0, 0, 89)] [] (by decide +kernel) rfl xall_nil (xSee_nil _) rfl rfl ?_
                            refine xRn.goto (tgt := 110) (off := 10) (by decide +kernel) (by decide) ?_
                            refine xRn.blk (pc1 := 113) (ls1 := [.ref 24, .int p1, .int p2, .int p3, .int p4, .int p5, .int p6]) (st1 := [.int 0, .int p6, .int 89, .int p4, .int p3, .int p2, .int p1, .ref 24]) (hp1 := (hL (sF (sF S 800 0) 838 1) r)) (ob := []) [(.iload 6, 2, 6, 0, 0, 0), (.iconst 0, 1, 0, 0, 0, 0)] [] (by decide +kernel) rfl xall_nil (xSee_nil _) rfl rfl ?_
                            refine xRn.callV (al := [.int p1, .int p2, .int p3, .int p4, .int 89, .int p6, .int 0]) (st := []) (nx := 116) (by decide +kernel) lk_V_M_give_108_M_make_6_7 rfl rfl (c_M_make (d := d + 0) (sF (sF S 800 0) 838 1) r p1 p2 p3 p4 89 p6 0 h) rfl (Nat.le_of_ble_eq_true rfl) rfl rfl ?_ ?_
                            · rintro _ _ ⟨S24, r25, e9, rfl, h⟩
                              cases e9
                              show xRn G l _ _ _ 116 [.ref 24, .int p1, .int p2, .int p3, .int p4, .int p5, .int p6] [] (hL S24 r25)
                              refine xRn.forget (xle_eq (xle_no (xle_no (xle_no (xle_no (xle_no (xle_no xle_nil))))))) ?_
                              exact t_M_give_116   S24 r25 h
                            · rintro _ _ ⟨_, _, e9, _⟩
                              cases e9
                      · have h := h.2 c14
                        refine xRn.blk (pc1 := 78) (ls1 := [.ref 24, .int p1, .int p2, .int p3, .int p4, .int p5, .int p6]) (st1 := [.int p4, .int p3, .int p2, .int p1, .ref 24]) (hp1 := (hL (sF (sF S 800 0) 838 1) r)) (ob := []) [(.iload 4, 2, 4, 0, 0, 0)] [] (by decide +kernel) rfl xall_nil (xSee_nil _) rfl rfl ?_
                        refine xRn.if_ne (tgt := 85) (nx := 81) (off := 7) (by decide +kernel) (by decide) rfl (fun c26 => ?_) (fun c26 => ?_)
                        · have h := h.1 c26
                          refine xRn.blk (pc1 := 90) (ls1 := [.ref 24, .int p1, .int p2, .int p3, .int p4, .int p5, .int p6]) (st1 := [.int 52, .int p1, .int p4, .int p3, .int p2, .int p1, .ref 24]) (hp1 := (hL (sF (sF S 800 0) 838 1) r)) (ob := []) [(.iload 4, 2, 4, 0, 0, 0), (.iload_n 1, 1, 1, 0, 0, 0), (.bipush 52, 2, 0, 0, 0, 52)] [] (by decide +kernel) rfl xall_nil (xSee_nil _) rfl rfl ?_
                          refine xRn.ic_ne (tgt := 108) (nx := 93) (off := 18) (by decide +kernel) (by decide) rfl (fun c27 => ?_) (fun c27 => ?_)
                          · have h := h.1 c27
                            refine xRn.blk (pc1 := 113) (ls1 := [.ref 24, .int p1, .int p2, .int p3, .int p4, .int p5, .int p6]) (st1 := [.int 0, .int p6, .int p5, .int p4, .int p3, .int p2, .int p1, .ref 24]) (hp1 := (hL (sF (sF S 800 0) 838 1) r)) (ob := []) [(.iload 5, 2, 5, 0, 0, 0), (.iload 6, 2, 6, 0, 0, 0), (.iconst 0, 1, 0, 0, 0, 0)] [] (by decide +kernel) rfl xall_nil (xSee_nil _) rfl rfl ?_
                            refine xRn.callV (al := [.int p1, .int p2, .int p3, .int p4, .int p5, .int p6, .int 0]) (st := []) (nx := 116) (by decide +kernel) lk_V_M_give_108_M_make_6_7 rfl rfl (c_M_make (d := d + 0) (sF (sF S 800 0) 838 1) r p1 p2 p3 p4 p5 p6 0 h) rfl (Nat.le_of_ble_eq_true rfl) rfl rfl ?_ ?_
                            · rintro _ _ ⟨S29, r30, e9, rfl, h⟩
                              cases e9
                              show xRn G l _ _ _ 116 [.ref 24, .int p1, .int p2, .int p3, .int p4, .int p5, .int p6] [] (hL S29 r30)
                              refine xRn.forget (xle_eq (xle_no (xle_no (xle_no (xle_no (xle_no (xle_no xle_nil))))))) ?_
                              exact t_M_give_116   S29 r30 h
                            · rintro _ _ ⟨_, _, e9, _⟩
                              cases e9
                          · have h := h.2 c27
                            refine xRn.blk (pc1 := 95) (ls1 := [.ref 24, .int p1, .int p2, .int p3, .int p4, .int p5, .int p6]) (st1 := [.int p5, .int p4, .int p3, .int p2, .int p1, .ref 24]) (hp1 := (hL (sF (sF S 800 0) 838 1) r)) (ob := []) [(.iload 5, 2, 5, 0, 0, 0)] [] (by decide +kernel) rfl xall_nil (xSee_nil _) rfl rfl ?_
                            refine xRn.if_le (tgt := 103) (nx := 98) (off := 8) (by decide +kernel) (by decide) rfl (fun c31 => ?_) (fun c31 => ?_)
                            · have h := h.1 c31
                              refine xRn.blk (pc1 := 105) (ls1 := [.ref 24, .int p1, .int p2, .int p3, .int p4, .int p5, .int p6]) (st1 := [.int 78, .int p4, .int p3, .int p2, .int p1, .ref 24]) (hp1 := (hL (sF (sF S 800 0) 838 1) r)) (ob := []) [(.bipush 78, 2, 0, 0, 0, 78)] [] (by decide +kernel) rfl xall_nil (xSee_nil _) rfl rfl ?_
                              refine xRn.goto (tgt := 110) (off := 5) (by decide +kernel) (by decide) ?_
                              refine xRn.blk (pc1 := 113) (ls1 := [.ref 24, .int p1, .int p2, .int p3, .int p4, .int p5, .int p6]) (st1 := [.int 0, .int p6, .int 78, .int p4, .int p3, .int p2, .int p1, .ref 24]) (hp1 := (hL (sF (sF S 800 0) 838 1) r)) (ob := []) [(.iload 6, 2, 6, 0, 0, 0), (.iconst 0, 1, 0, 0, 0, 0)] [] (by decide +kernel) rfl xall_nil (xSee_nil _) rfl rfl ?_
                              refine xRn.callV (al := [.int p1, .int p2, .int p3, .int p4, .int 78, .int p6, .int 0]) (st := []) (nx := 116) (by decide +kernel) lk_V_M_give_108_M_make_6_7 rfl rfl (c_M_make (d := d + 0) (sF (sF S 800 0) 838 1) r p1 p2 p3 p4 78 p6 0 h) rfl (Nat.le_of_ble_eq_true rfl) rfl rfl ?_ ?_
                              · rintro _ _ ⟨S33, r34, e9, rfl, h⟩
                                cases e9
                                show xRn G l _ _ _ 116 [.ref 24, .int p1, .int p2, .int p3, .int p4, .int p5, .int p6] [] (hL S33 r34)
                                refine xRn.forget (xle_eq (xle_no (xle_no (xle_no (xle_no (xle_no (xle_no xle_nil))))))) ?_
                                exact t_M_give_116   S33 r34 h
                              · rintro _ _ ⟨_, _, e9, _⟩
                                cases e9
                            · have h := h.2 c31
                              refine xRn.blk (pc1 := 100) (ls1 := [.ref 24, .int p1, .int p2, .int p3, .int p4, .int p5, .int p6]) (st1 := [.int 89, .int p4, .int p3, .int p2, .int p1, .ref 24]) (hp1 := (hL (sF (sF S 800 0) 838 1) r)) (ob := []) [(.bipush 89, 2, 0, 0, 0, 89)] [] (by decide +kernel) rfl xall_nil (xSee_nil _) rfl rfl ?_
                              refine xRn.goto (tgt := 110) (off := 10) (by decide +kernel) (by decide) ?_
                              refine xRn.blk (pc1 := 113) (ls1 := [.ref 24, .int p1, .int p2, .int p3, .int p4, .int p5, .int p6]) (st1 := [.int 0, .int p6, .int 89, .int p4, .int p3, .int p2, .int p1, .ref 24]) (hp1 := (hL (sF (sF S 800 0) 838 1) r)) (ob := []) [(.iload 6, 2, 6, 0, 0, 0), (.iconst 0, 1, 0, 0, 0, 0)] [] (by decide +kernel) rfl xall_nil (xSee_nil _) rfl rfl ?_
                              refine xRn.callV (al := [.int p1, .int p2, .int p3, .int p4, .int 89, .int p6, .int 0]) (st := []) (nx := 116) (by decide +kernel) lk_V_M_give_108_M_make_6_7 rfl rfl (c_M_make (d := d + 0) (sF (sF S 800 0) 838 1) r p1 p2 p3 p4 89 p6 0 h) rfl (Nat.le_of_ble_eq_true rfl) rfl rfl ?_ ?_
                              · rintro _ _ ⟨S36, r37, e9, rfl, h⟩
                                cases e9
                                show xRn G l _ _ _ 116 [.ref 24, .int p1, .int p2, .int p3, .int p4, .int p5, .int p6] [] (hL S36 r37)
                                refine xRn.forget (xle_eq (xle_no (xle_no (xle_no (xle_no (xle_no (xle_no xle_nil))))))) ?_
                                exact t_M_give_116   S36 r37 h
                              · rintro _ _ ⟨_, _, e9, _⟩
                                cases e9
                        · have h := h.2 c26
                          refine xRn.blk (pc1 := 82) (ls1 := [.ref 24, .int p1, .int p2, .int p3, .int p4, .int p5, .int p6]) (st1 := [.int (-1), .int p3, .int p2, .int p1, .ref 24]) (hp1 := (hL (sF (sF S 800 0) 838 1) r)) (ob := []) [(.iconst (-1), 1, 0, 0, 0, (-1))] [] (by decide +kernel) rfl xall_nil (xSee_nil _) rfl rfl ?_
                          refine xRn.goto (tgt := 87) (off := 5) (by decide +kernel) (by decide) ?_
                          refine xRn.blk (pc1 := 90) (ls1 := [.ref 24, .int p1, .int p2, .int p3, .int p4, .int p5, .int p6]) (st1 := [.int 52, .int p1, .int (-1), .int p3, .int p2, .int p1, .ref 24]) (hp1 := (hL (sF (sF S 800 0) 838 1) r)) (ob := []) [(.iload_n 1, 1, 1, 0, 0, 0), (.bipush 52, 2, 0, 0, 0, 52)] [] (by decide +kernel) rfl xall_nil (xSee_nil _) rfl rfl ?_
                          refine xRn.ic_ne (tgt := 108) (nx := 93) (off := 18) (by decide +kernel) (by decide) rfl (fun c38 => ?_) (fun c38 => ?_)
                          · have h := h.1 c38
                            refine xRn.blk (pc1 := 113) (ls1 := [.ref 24, .int p1, .int p2, .int p3, .int p4, .int p5, .int p6]) (st1 := [.int 0, .int p6, .int p5, .int (-1), .int p3, .int p2, .int p1, .ref 24]) (hp1 := (hL (sF (sF S 800 0) 838 1) r)) (ob := []) [(.iload 5, 2, 5, 0, 0, 0), (.iload 6, 2, 6, 0, 0, 0), (.iconst 0, 1, 0, 0, 0, 0)] [] (by decide +kernel) rfl xall_nil (xSee_nil _) rfl rfl ?_
                            refine xRn.callV (al := [.int p1, .int p2, .int p3, .int (-1), .int p5, .int p6, .int 0]) (st := []) (nx := 116) (by decide +kernel) lk_V_M_give_108_M_make_6_7 rfl rfl (c_M_make (d := d + 0) (sF (sF S 800 0) 838 1) r p1 p2 p3 (-1) p5 p6 0 h) rfl (Nat.le_of_ble_eq_true rfl) rfl rfl ?_ ?_
                            · rintro _ _ ⟨S40, r41, e9, rfl, h⟩
                              cases e9
                              show xRn G l _ _ _ 116 [.ref 24, .int p1, .int p2, .int p3, .int p4, .int p5, .int p6] [] (hL S40 r41)
                              refine xRn.forget (xle_eq (xle_no (xle_no (xle_no (xle_no (xle_no (xle_no xle_nil))))))) ?_
                              exact t_M_give_116   S40 r41 h
                            · rintro _ _ ⟨_, _, e9, _⟩
                              cases e9
                          · have h := h.2 c38
                            refine xRn.blk (pc1 := 95) (ls1 := [.ref 24, .int p1, .int p2, .int p3, .int p4, .int p5, .int p6]) (st1 := [.int p5, .int (-1), .int p3, .int p2, .int p1, .ref 24]) (hp1 := (hL (sF (sF S 800 0) 838 1) r)) (ob := []) [(.iload 5, 2, 5, 0, 0, 0)] [] (by decide +kernel) rfl xall_nil (xSee_nil _) rfl rfl ?_
                            refine xRn.if_le (tgt := 103) (nx := 98) (off := 8) (by decide +kernel) (by decide) rfl (fun c42 => ?_) (fun c42 => ?_)
                            · have h := h.1 c42
                              refine xRn.blk (pc1 := 105) (ls1 := [.ref 24, .int p1, .int p2, .int p3, .int p4, .int p5, .int p6]) (st1 := [.int 78, .int (-1), .int p3, .int p2, .int p1, .ref 24]) (hp1 := (hL (sF (sF S 800 0) 838 1) r)) (ob := []) [(.bipush 78, 2, 0, 0, 0, 78)] [] (by decide +kernel) rfl xall_nil (xSee_nil _) rfl rfl ?_
                              refine xRn.goto (tgt := 110) (off := 5) (by decide +kernel) (by decide) ?_
                              refine xRn.blk (pc1 := 113) (ls1 := [.ref 24, .int p1, .int p2, .int p3, .int p4, .int p5, .int p6]) (st1 := [.int 0, .int p6, .int 78, .int (-1), .int p3, .int p2, .int p1, .ref 24]) (hp1 := (hL (sF (sF S 800 0) 838 1) r)) (ob := []) [(.iload 6, 2, 6, 0, 0, 0), (.iconst 0, 1, 0, 0, 0, 0)] [] (by decide +kernel) rfl xall_nil (xSee_nil _) rfl rfl ?_
                              refine xRn.callV (al := [.int p1, .int p2, .int p3, .int (-1), .int 78, .int p6, .int 0]) (st := []) (nx := 116) (by decide +kernel) lk_V_M_give_108_M_make_6_7 rfl rfl (c_M_make (d := d + 0) (sF (sF S 800 0) 838 1) r p1 p2 p3 (-1) 78 p6 0 h) rfl (Nat.le_of_ble_eq_true rfl) rfl rfl ?_ ?_
                              · rintro _ _ ⟨S44, r45, e9, rfl, h⟩
                                cases e9
                                show xRn G l _ _ _ 116 [.ref 24, .int p1, .int p2, .int p3, .int p4, .int p5, .int p6] [] (hL S44 r45)
                                refine xRn.forget (xle_eq (xle_no (xle_no (xle_no (xle_no (xle_no (xle_no xle_nil))))))) ?_
                                exact t_M_give_116   S44 r45 h
                              · rintro _ _ ⟨_, _, e9, _⟩
                                cases e9
                            · have h := h.2 c42
                              refine xRn.blk (pc1 := 100) (ls1 := [.ref 24, .int p1, .int p2, .int p3, .int p4, .int p5, .int p6]) (st1 := [.int 89, .int (-1), .int p3, .int p2, .int p1, .ref 24]) (hp1 := (hL (sF (sF S 800 0) 838 1) r)) (ob := []) [(.bipush 89, 2, 0, 0, 0, 89)] [] (by decide +kernel) rfl xall_nil (xSee_nil _) rfl rfl ?_
                              refine xRn.goto (tgt := 110) (off := 10) (by decide +kernel) (by decide) ?_
                              refine xRn.blk (pc1 := 113) (ls1 := [.ref 24, .int p1, .int p2, .int p3, .int p4, .int p5, .int p6]) (st1 := [.int 0, .int p6, .int 89, .int (-1), .int p3, .int p2, .int p1, .ref 24]) (hp1 := (hL (sF (sF S 800 0) 838 1) r)) (ob := []) [(.iload 6, 2, 6, 0, 0, 0), (.iconst 0, 1, 0, 0, 0, 0)] [] (by decide +kernel) rfl xall_nil (xSee_nil _) rfl rfl ?_
                              refine xRn.callV (al := [.int p1, .int p2, .int p3, .int (-1), .int 89, .int p6, .int 0]) (st := []) (nx := 116) (by decide +kernel) lk_V_M_give_108_M_make_6_7 rfl rfl (c_M_make (d := d + 0) (sF (sF S 800 0) 838 1) r p1 p2 p3 (-1) 89 p6 0 h) rfl (Nat.le_of_ble_eq_true rfl) rfl rfl ?_ ?_
                              · rintro _ _ ⟨S47, r48, e9, rfl, h⟩
                                cases e9
                                show xRn G l _ _ _ 116 [.ref 24, .int p1, .int p2, .int p3, .int p4, .int p5, .int p6] [] (hL S47 r48)
                                refine xRn.forget (xle_eq (xle_no (xle_no (xle_no (xle_no (xle_no (xle_no xle_nil))))))) ?_
                                exact t_M_give_116   S47 r48 h
                              · rintro _ _ ⟨_, _, e9, _⟩
                                cases e9
                    · have h := h.2 c13
                      refine xRn.forget (xle_eq (xle_no (xle_no (xle_no (xle_no (xle_no (xle_no xle_nil))))))) ?_
                      exact t_M_give_55   (sF S 800 0) r h
                  · rintro _ _ ⟨_, e9, _⟩
                    cases e9
              · rintro _ _ ⟨_, e9, _⟩
                cases e9
          · rintro _ _ ⟨_, e9, _⟩
            cases e9
      · rintro _ _ ⟨_, e9, _⟩
        cases e9
  · rintro _ _ ⟨_, e9, _⟩
    cases e9
/-! M_spoil -/
def w_M_spoil_26   (K : Int32 → XS → List AE → Prop) (S : XS) (r : List AE) : Prop :=
  (w_M_fail S r 1 (fun x1 S2 r3 => (K x1 S2 r3)))
set_option maxRecDepth 100000 in
theorem t_M_spoil_26 {G : XG} {l : Launch} {d : Nat} {K : Int32 → XS → List AE → Prop} (S : XS) (r : List AE) (h : w_M_spoil_26 K S r) : xRn G l (d + 1) xm_M_spoil (pI K) 26 [.ref 24, .null, .null] [] (hL S r) := by
  refine xRn.blk (pc1 := 28) (ls1 := [.ref 24, .null, .null]) (st1 := [.int 1, .ref 24]) (hp1 := (hL S r)) (ob := []) [(.aload_n 0, 1, 0, 0, 0, 0), (.iconst 1, 1, 0, 0, 0, 1)] [] (by decide +kernel) rfl xall_nil (xSee_nil _) rfl rfl ?_
  refine xRn.callV (al := [.int 1]) (st := []) (nx := 31) (by decide +kernel) lk_V_M_spoil_143_M_fail_6_1 rfl rfl (c_M_fail (d := d + 0) S r 1 h) rfl (Nat.le_of_ble_eq_true rfl) rfl rfl ?_ ?_
  · rintro _ _ ⟨x1, S2, r3, e9, rfl, h⟩
    cases e9
    show xRn G l _ _ _ 31 [.ref 24, .null, .null] [.int x1] (hL S2 r3)
    exact xRn.iret (by decide +kernel) rfl rfl ⟨_, _, _, rfl, rfl, h⟩
  · rintro _ _ ⟨_, _, _, e9, _⟩
    cases e9
def w_M_spoil  (S : XS) (r : List AE) (p1 : Int32) (p2 : Int32) (K : Int32 → XS → List AE → Prop) : Prop :=
  (((gF S 801) = 0 → (w_M_spoil_26 K (sF S 800 0) r)) ∧ (¬ (gF S 801) = 0 → (w_M_within p1 0 ((gF S 802) - 1) (fun x5 => ((¬ x5 = 0 → (w_M_within p2 1 127 (fun x7 => ((¬ x7 = 0 → (vp_in p1 120) ∧ (vp_in p1 120) ∧ (vp_in p1 120) ∧ (K ((upd (gA S 9) p1.toNatClampNeg (((gA S 9) p1.toNatClampNeg) ^^^ p2)) p1.toNatClampNeg) (sF (sA (sF S 800 0) 9 (upd (gA S 9) p1.toNatClampNeg (((gA S 9) p1.toNatClampNeg) ^^^ p2))) 815 0) r)) ∧ (x7 = 0 → (w_M_fail (sF S 800 0) r 2 (fun x12 S13 r14 => (K x12 S13 r14)))))))) ∧ (x5 = 0 → (w_M_spoil_26 K (sF S 800 0) r)))))))
set_option maxRecDepth 100000 in
theorem c_M_spoil {G : XG} {l : Launch} {d : Nat} (S : XS) (r : List AE) (p1 : Int32) (p2 : Int32) {K : Int32 → XS → List AE → Prop} (h : w_M_spoil  S r p1 p2 K) : xCt G l (d + 1) xm_M_spoil [.ref 24, .int p1, .int p2] (hL S r) (pI K) := by
  refine xCt.intro (by decide) (by decide) (List.forall_mem_cons.mpr ⟨rfl, (List.forall_mem_cons.mpr ⟨rfl, (List.forall_mem_cons.mpr ⟨rfl, (fun _ h => by cases h)⟩)⟩)⟩) (Nat.le_of_ble_eq_true rfl) rfl ?_
  show xRn G l _ xm_M_spoil _ 0 [.ref 24, .int p1, .int p2] [] (hL S r)
  refine xRn.blk (pc1 := 9) (ls1 := [.ref 24, .int p1, .int p2]) (st1 := [.int (gF S 801)]) (hp1 := (hL (sF S 800 0) r)) (ob := [(24 : Nat) = 24, (24 : Nat) = 24]) [(.aload_n 0, 1, 0, 0, 0, 0), (.iconst 0, 1, 0, 0, 0, 0), (.putfield 60, 3, 0, 6, 0, 0), (.aload_n 0, 1, 0, 0, 0, 0), (.getfield 146, 3, 1, 6, 0, 0)] [(24, xc8 S)] (by decide +kernel) rfl (xall_cons rfl (xall_cons rfl xall_nil)) (xSee_cons rfl (xne_nil _) (xSee_nil _)) rfl rfl ?_
  refine xRn.if_eq (tgt := 26) (nx := 12) (off := 17) (by decide +kernel) (by decide) rfl (fun c4 => ?_) (fun c4 => ?_)
  · have h := h.1 c4
    refine xRn.forget (xle_eq (xle_no (xle_no xle_nil))) ?_
    exact t_M_spoil_26   (sF S 800 0) r h
  · have h := h.2 c4
    refine xRn.blk (pc1 := 20) (ls1 := [.ref 24, .int p1, .int p2]) (st1 := [.int ((gF S 802) - 1), .int 0, .int p1]) (hp1 := (hL (sF S 800 0) r)) (ob := [(24 : Nat) = 24]) [(.iload_n 1, 1, 1, 0, 0, 0), (.iconst 0, 1, 0, 0, 0, 0), (.aload_n 0, 1, 0, 0, 0, 0), (.getfield 67, 3, 2, 6, 0, 0), (.iconst 1, 1, 0, 0, 0, 1), (.isub, 1, 0, 0, 0, 0)] [(24, xc8 (sF S 800 0))] (by decide +kernel) rfl (xall_cons rfl xall_nil) (xSee_cons rfl (xne_nil _) (xSee_nil _)) rfl rfl ?_
    refine xRn.callS (al := [.int p1, .int 0, .int ((gF S 802) - 1)]) (st := []) (nx := 23) (by decide +kernel) lk_S_M_spoil_139_M_within_3 rfl (c_M_within (d := d + 0) _ p1 0 ((gF S 802) - 1) h) rfl (Nat.le_of_ble_eq_true rfl) rfl rfl ?_ ?_
    · rintro _ _ ⟨x5, e9, e8, h⟩
      cases e9
      rw [e8]
      show xRn G l _ _ _ 23 [.ref 24, .int p1, .int p2] [.int x5] (hL (sF S 800 0) r)
      refine xRn.if_ne (tgt := 32) (nx := 26) (off := 9) (by decide +kernel) (by decide) rfl (fun c6 => ?_) (fun c6 => ?_)
      · have h := h.1 c6
        refine xRn.blk (pc1 := 36) (ls1 := [.ref 24, .int p1, .int p2]) (st1 := [.int 127, .int 1, .int p2]) (hp1 := (hL (sF S 800 0) r)) (ob := []) [(.iload_n 2, 1, 2, 0, 0, 0), (.iconst 1, 1, 0, 0, 0, 1), (.bipush 127, 2, 0, 0, 0, 127)] [] (by decide +kernel) rfl xall_nil (xSee_nil _) rfl rfl ?_
        refine xRn.callS (al := [.int p2, .int 1, .int 127]) (st := []) (nx := 39) (by decide +kernel) lk_S_M_spoil_139_M_within_3 rfl (c_M_within (d := d + 0) _ p2 1 127 h) rfl (Nat.le_of_ble_eq_true rfl) rfl rfl ?_ ?_
        · rintro _ _ ⟨x7, e9, e8, h⟩
          cases e9
          rw [e8]
          show xRn G l _ _ _ 39 [.ref 24, .int p1, .int p2] [.int x7] (hL (sF S 800 0) r)
          refine xRn.if_ne (tgt := 48) (nx := 42) (off := 9) (by decide +kernel) (by decide) rfl (fun c8 => ?_) (fun c8 => ?_)
          · have h := h.1 c8
            obtain ⟨o9, o10, o11, h⟩ := h
            refine xRn.blk (pc1 := 73) (ls1 := [.ref 24, .int p1, .int p2]) (st1 := [.int ((upd (gA S 9) p1.toNatClampNeg (((gA S 9) p1.toNatClampNeg) ^^^ p2)) p1.toNatClampNeg)]) (hp1 := (hL (sF (sA (sF S 800 0) 9 (upd (gA S 9) p1.toNatClampNeg (((gA S 9) p1.toNatClampNeg) ^^^ p2))) 815 0) r)) (ob := [(24 : Nat) = 24, (24 : Nat) = 24, (25 : Nat) = 25, vp_in p1 120, (25 : Nat) = 25, vp_in p1 120, (24 : Nat) = 24, (24 : Nat) = 24, (25 : Nat) = 25, vp_in p1 120]) [(.aload_n 0, 1, 0, 0, 0, 0), (.getfield 7, 3, 3, 6, 0, 0), (.iload_n 1, 1, 1, 0, 0, 0), (.aload_n 0, 1, 0, 0, 0, 0), (.getfield 7, 3, 3, 6, 0, 0), (.iload_n 1, 1, 1, 0, 0, 0), (.iaload, 1, 0, 0, 1, 0), (.iload_n 2, 1, 2, 0, 0, 0), (.ixor, 1, 0, 0, 0, 0), (.iastore, 1, 0, 0, 1, 0), (.aload_n 0, 1, 0, 0, 0, 0), (.iconst 0, 1, 0, 0, 0, 0), (.putfield 70, 3, 15, 6, 0, 0), (.aload_n 0, 1, 0, 0, 0, 0), (.getfield 7, 3, 3, 6, 0, 0), (.iload_n 1, 1, 1, 0, 0, 0), (.iaload, 1, 0, 0, 1, 0)] [(24, xc8 (sF S 800 0)), (25, xc9 (sF S 800 0))] (by decide +kernel) rfl (xall_cons rfl (xall_cons rfl (xall_cons rfl (xall_cons o9 (xall_cons rfl (xall_cons o10 (xall_cons rfl (xall_cons rfl (xall_cons rfl (xall_cons o11 xall_nil)))))))))) (xSee_cons rfl (xne_cons (by decide) (xne_nil _)) (xSee_cons rfl (xne_nil _) (xSee_nil _))) rfl rfl ?_
            exact xRn.iret (by decide +kernel) rfl rfl ⟨_, _, _, rfl, rfl, h⟩
          · have h := h.2 c8
            refine xRn.blk (pc1 := 44) (ls1 := [.ref 24, .int p1, .int p2]) (st1 := [.int 2, .ref 24]) (hp1 := (hL (sF S 800 0) r)) (ob := []) [(.aload_n 0, 1, 0, 0, 0, 0), (.iconst 2, 1, 0, 0, 0, 2)] [] (by decide +kernel) rfl xall_nil (xSee_nil _) rfl rfl ?_
            refine xRn.callV (al := [.int 2]) (st := []) (nx := 47) (by decide +kernel) lk_V_M_spoil_143_M_fail_6_1 rfl rfl (c_M_fail (d := d + 0) (sF S 800 0) r 2 h) rfl (Nat.le_of_ble_eq_true rfl) rfl rfl ?_ ?_
            · rintro _ _ ⟨x12, S13, r14, e9, rfl, h⟩
              cases e9
              show xRn G l _ _ _ 47 [.ref 24, .int p1, .int p2] [.int x12] (hL S13 r14)
              exact xRn.iret (by decide +kernel) rfl rfl ⟨_, _, _, rfl, rfl, h⟩
            · rintro _ _ ⟨_, _, _, e9, _⟩
              cases e9
        · rintro _ _ ⟨_, e9, _⟩
          cases e9
      · have h := h.2 c6
        refine xRn.forget (xle_eq (xle_no (xle_no xle_nil))) ?_
        exact t_M_spoil_26   (sF S 800 0) r h
    · rintro _ _ ⟨_, e9, _⟩
      cases e9
/-! M_add -/
def w_M_add_37   (K : Int32 → XS → List AE → Prop) (S : XS) (r : List AE) (v1 : Int32) (v2 : Int32) : Prop :=
  ((¬ v2 = (120 : Int32) → (vp_in v2 120) ∧ (K (v2 + 1) (sF (sF (sA (sF S 801 1) 9 (upd (gA S 9) v2.toNatClampNeg v1)) 802 (v2 + 1)) 815 0) r)) ∧ (v2 = (120 : Int32) → (w_M_fail S r 2 (fun x3 S4 r5 => (K x3 S4 r5)))))
set_option maxRecDepth 100000 in
theorem t_M_add_37 {G : XG} {l : Launch} {d : Nat} {K : Int32 → XS → List AE → Prop} (S : XS) (r : List AE) (v1 : Int32) (v2 : Int32) (h : w_M_add_37 K S r v1 v2) : xRn G l (d + 1) xm_M_add (pI K) 37 [.ref 24, .int v1, .int v2] [] (hL S r) := by
  refine xRn.blk (pc1 := 40) (ls1 := [.ref 24, .int v1, .int v2]) (st1 := [.int 120, .int v2]) (hp1 := (hL S r)) (ob := []) [(.iload_n 2, 1, 2, 0, 0, 0), (.bipush 120, 2, 0, 0, 0, 120)] [] (by decide +kernel) rfl xall_nil (xSee_nil _) rfl rfl ?_
  refine xRn.ic_ne (tgt := 49) (nx := 43) (off := 9) (by decide +kernel) (by decide) rfl (fun c1 => ?_) (fun c1 => ?_)
  · have h := h.1 c1
    obtain ⟨o2, h⟩ := h
    refine xRn.blk (pc1 := 65) (ls1 := [.ref 24, .int v1, .int v2]) (st1 := [.int (v2 + 1), .ref 24]) (hp1 := (hL (sA (sF S 801 1) 9 (upd (gA S 9) v2.toNatClampNeg v1)) r)) (ob := [(24 : Nat) = 24, narrow .boolean (.int 1) = .int 1 ∧ fits .boolean (.int 1) = true, (24 : Nat) = 24, (25 : Nat) = 25, vp_in v2 120]) [(.aload_n 0, 1, 0, 0, 0, 0), (.iconst 1, 1, 0, 0, 0, 1), (.putfield 146, 3, 1, 6, 0, 0), (.aload_n 0, 1, 0, 0, 0, 0), (.getfield 7, 3, 3, 6, 0, 0), (.iload_n 2, 1, 2, 0, 0, 0), (.iload_n 1, 1, 1, 0, 0, 0), (.iastore, 1, 0, 0, 1, 0), (.aload_n 0, 1, 0, 0, 0, 0), (.iload_n 2, 1, 2, 0, 0, 0), (.iconst 1, 1, 0, 0, 0, 1), (.iadd, 1, 0, 0, 0, 0)] [(24, xc8 S), (25, xc9 S)] (by decide +kernel) rfl (xall_cons rfl (xall_cons (⟨rfl, rfl⟩) (xall_cons rfl (xall_cons rfl (xall_cons o2 xall_nil))))) (xSee_cons rfl (xne_cons (by decide) (xne_nil _)) (xSee_cons rfl (xne_nil _) (xSee_nil _))) rfl rfl ?_
    refine xRn.blk (pc1 := 77) (ls1 := [.ref 24, .int v1, .int v2]) (st1 := [.int (v2 + 1)]) (hp1 := (hL (sF (sF (sA (sF S 801 1) 9 (upd (gA S 9) v2.toNatClampNeg v1)) 802 (v2 + 1)) 815 0) r)) (ob := [(24 : Nat) = 24, (24 : Nat) = 24, (24 : Nat) = 24]) [(.putfield 67, 3, 2, 6, 0, 0), (.aload_n 0, 1, 0, 0, 0, 0), (.iconst 0, 1, 0, 0, 0, 0), (.putfield 70, 3, 15, 6, 0, 0), (.aload_n 0, 1, 0, 0, 0, 0), (.getfield 67, 3, 2, 6, 0, 0)] [(24, xc8 (sA (sF S 801 1) 9 (upd (gA S 9) v2.toNatClampNeg v1)))] (by decide +kernel) rfl (xall_cons rfl (xall_cons rfl (xall_cons rfl xall_nil))) (xSee_cons rfl (xne_nil _) (xSee_nil _)) rfl rfl ?_
    exact xRn.iret (by decide +kernel) rfl rfl ⟨_, _, _, rfl, rfl, h⟩
  · have h := h.2 c1
    refine xRn.blk (pc1 := 45) (ls1 := [.ref 24, .int v1, .int v2]) (st1 := [.int 2, .ref 24]) (hp1 := (hL S r)) (ob := []) [(.aload_n 0, 1, 0, 0, 0, 0), (.iconst 2, 1, 0, 0, 0, 2)] [] (by decide +kernel) rfl xall_nil (xSee_nil _) rfl rfl ?_
    refine xRn.callV (al := [.int 2]) (st := []) (nx := 48) (by decide +kernel) lk_V_M_add_143_M_fail_6_1 rfl rfl (c_M_fail (d := d + 0) S r 2 h) rfl (Nat.le_of_ble_eq_true rfl) rfl rfl ?_ ?_
    · rintro _ _ ⟨x3, S4, r5, e9, rfl, h⟩
      cases e9
      show xRn G l _ _ _ 48 [.ref 24, .int v1, .int v2] [.int x3] (hL S4 r5)
      exact xRn.iret (by decide +kernel) rfl rfl ⟨_, _, _, rfl, rfl, h⟩
    · rintro _ _ ⟨_, _, _, e9, _⟩
      cases e9
def w_M_add  (S : XS) (r : List AE) (p1 : Int32) (K : Int32 → XS → List AE → Prop) : Prop :=
  (w_M_within p1 0 127 (fun x6 => ((¬ x6 = 0 → (((gF S 801) = 0 → (w_M_add_37 K (sF S 800 0) r p1 0)) ∧ (¬ (gF S 801) = 0 → (w_M_add_37 K (sF S 800 0) r p1 (gF S 802))))) ∧ (x6 = 0 → (w_M_fail (sF S 800 0) r 1 (fun x9 S10 r11 => (K x9 S10 r11)))))))
set_option maxRecDepth 100000 in
theorem c_M_add {G : XG} {l : Launch} {d : Nat} (S : XS) (r : List AE) (p1 : Int32) {K : Int32 → XS → List AE → Prop} (h : w_M_add  S r p1 K) : xCt G l (d + 1) xm_M_add [.ref 24, .int p1] (hL S r) (pI K) := by
  refine xCt.intro (by decide) (by decide) (List.forall_mem_cons.mpr ⟨rfl, (List.forall_mem_cons.mpr ⟨rfl, (fun _ h => by cases h)⟩)⟩) (Nat.le_of_ble_eq_true rfl) rfl ?_
  show xRn G l _ xm_M_add _ 0 [.ref 24, .int p1, .null] [] (hL S r)
  refine xRn.blk (pc1 := 9) (ls1 := [.ref 24, .int p1, .null]) (st1 := [.int 127, .int 0, .int p1]) (hp1 := (hL (sF S 800 0) r)) (ob := [(24 : Nat) = 24]) [(.aload_n 0, 1, 0, 0, 0, 0), (.iconst 0, 1, 0, 0, 0, 0), (.putfield 60, 3, 0, 6, 0, 0), (.iload_n 1, 1, 1, 0, 0, 0), (.iconst 0, 1, 0, 0, 0, 0), (.bipush 127, 2, 0, 0, 0, 127)] [(24, xc8 S)] (by decide +kernel) rfl (xall_cons rfl xall_nil) (xSee_cons rfl (xne_nil _) (xSee_nil _)) rfl rfl ?_
  refine xRn.callS (al := [.int p1, .int 0, .int 127]) (st := []) (nx := 12) (by decide +kernel) lk_S_M_add_139_M_within_3 rfl (c_M_within (d := d + 0) _ p1 0 127 h) rfl (Nat.le_of_ble_eq_true rfl) rfl rfl ?_ ?_
  · rintro _ _ ⟨x6, e9, e8, h⟩
    cases e9
    rw [e8]
    show xRn G l _ _ _ 12 [.ref 24, .int p1, .null] [.int x6] (hL (sF S 800 0) r)
    refine xRn.if_ne (tgt := 21) (nx := 15) (off := 9) (by decide +kernel) (by decide) rfl (fun c7 => ?_) (fun c7 => ?_)
    · have h := h.1 c7
      refine xRn.blk (pc1 := 25) (ls1 := [.ref 24, .int p1, .null]) (st1 := [.int (gF S 801)]) (hp1 := (hL (sF S 800 0) r)) (ob := [(24 : Nat) = 24]) [(.aload_n 0, 1, 0, 0, 0, 0), (.getfield 146, 3, 1, 6, 0, 0)] [(24, xc8 (sF S 800 0))] (by decide +kernel) rfl (xall_cons rfl xall_nil) (xSee_cons rfl (xne_nil _) (xSee_nil _)) rfl rfl ?_
      refine xRn.if_eq (tgt := 35) (nx := 28) (off := 10) (by decide +kernel) (by decide) rfl (fun c8 => ?_) (fun c8 => ?_)
      · have h := h.1 c8
        refine xRn.blk (pc1 := 37) (ls1 := [.ref 24, .int p1, .int 0]) (st1 := []) (hp1 := (hL (sF S 800 0) r)) (ob := []) [(.iconst 0, 1, 0, 0, 0, 0), (.istore_n 2, 1, 2, 0, 0, 0)] [] (by decide +kernel) rfl xall_nil (xSee_nil _) rfl rfl ?_
        refine xRn.forget (xle_eq (xle_eq (xle_eq xle_nil))) ?_
        exact t_M_add_37   (sF S 800 0) r p1 0 h
      · have h := h.2 c8
        refine xRn.blk (pc1 := 32) (ls1 := [.ref 24, .int p1, .null]) (st1 := [.int (gF S 802)]) (hp1 := (hL (sF S 800 0) r)) (ob := [(24 : Nat) = 24]) [(.aload_n 0, 1, 0, 0, 0, 0), (.getfield 67, 3, 2, 6, 0, 0)] [(24, xc8 (sF S 800 0))] (by decide +kernel) rfl (xall_cons rfl xall_nil) (xSee_cons rfl (xne_nil _) (xSee_nil _)) rfl rfl ?_
        refine xRn.goto (tgt := 36) (off := 4) (by decide +kernel) (by decide) ?_
        refine xRn.blk (pc1 := 37) (ls1 := [.ref 24, .int p1, .int (gF S 802)]) (st1 := []) (hp1 := (hL (sF S 800 0) r)) (ob := []) [(.istore_n 2, 1, 2, 0, 0, 0)] [] (by decide +kernel) rfl xall_nil (xSee_nil _) rfl rfl ?_
        refine xRn.forget (xle_eq (xle_eq (xle_eq xle_nil))) ?_
        exact t_M_add_37   (sF S 800 0) r p1 (gF S 802) h
    · have h := h.2 c7
      refine xRn.blk (pc1 := 17) (ls1 := [.ref 24, .int p1, .null]) (st1 := [.int 1, .ref 24]) (hp1 := (hL (sF S 800 0) r)) (ob := []) [(.aload_n 0, 1, 0, 0, 0, 0), (.iconst 1, 1, 0, 0, 0, 1)] [] (by decide +kernel) rfl xall_nil (xSee_nil _) rfl rfl ?_
      refine xRn.callV (al := [.int 1]) (st := []) (nx := 20) (by decide +kernel) lk_V_M_add_143_M_fail_6_1 rfl rfl (c_M_fail (d := d + 0) (sF S 800 0) r 1 h) rfl (Nat.le_of_ble_eq_true rfl) rfl rfl ?_ ?_
      · rintro _ _ ⟨x9, S10, r11, e9, rfl, h⟩
        cases e9
        show xRn G l _ _ _ 20 [.ref 24, .int p1, .null] [.int x9] (hL S10 r11)
        exact xRn.iret (by decide +kernel) rfl rfl ⟨_, _, _, rfl, rfl, h⟩
      · rintro _ _ ⟨_, _, _, e9, _⟩
        cases e9
  · rintro _ _ ⟨_, e9, _⟩
    cases e9
/-! M_cut -/
def w_M_cut_170   (K : Int32 → XS → List AE → Prop) (S : XS) (r : List AE) : Prop :=
  (K 0 S r)
set_option maxRecDepth 100000 in
theorem t_M_cut_170 {G : XG} {l : Launch} {d : Nat} {K : Int32 → XS → List AE → Prop} (S : XS) (r : List AE) (h : w_M_cut_170 K S r) : xRn G l (d + 1) xm_M_cut (pI K) 170 [.null, .null, .null, .null, .null] [] (hL S r) := by
  refine xRn.blk (pc1 := 171) (ls1 := [.null, .null, .null, .null, .null]) (st1 := [.int 0]) (hp1 := (hL S r)) (ob := []) [(.iconst 0, 1, 0, 0, 0, 0)] [] (by decide +kernel) rfl xall_nil (xSee_nil _) rfl rfl ?_
  exact xRn.iret (by decide +kernel) rfl rfl ⟨_, _, _, rfl, rfl, h⟩
def w_M_cut_146 (k7 : XS → List AE → Int32 → Prop)  (K : Int32 → XS → List AE → Prop) (S : XS) (r : List AE) (v1 : Int32) (v2 : Int32) (v4 : Int32) : Prop :=
  ((v1 = (gF S 802) → (w_M_cut_170 K S r)) ∧ (¬ v1 = (gF S 802) → (vp_in v1 120) ∧ ((¬ ((gA S 9) v1.toNatClampNeg) = (1 : Int32) → (w_M_cut_170 K S r)) ∧ (((gA S 9) v1.toNatClampNeg) = (1 : Int32) → ((¬ v1 = v4 → (vp_in (gF S 804) 41) ∧ (vp_in (gF S 804) 41) ∧ (vp_in (gF S 804) 41) ∧ (k7 (sF (sA (sA (sA S 10 (upd (gA S 10) (gF S 804).toNatClampNeg v2)) 11 (upd (gA S 11) (gF S 804).toNatClampNeg v4)) 12 (upd (gA S 12) (gF S 804).toNatClampNeg v1)) 804 ((gF S 804) + 1)) r (v1 + 1))) ∧ (v1 = v4 → (w_M_cut_170 K S r)))))))
set_option maxRecDepth 100000 in
theorem t_M_cut_146 {G : XG} {l : Launch} {d : Nat} {k7 : XS → List AE → Int32 → Prop} {K : Int32 → XS → List AE → Prop} (hk7 : ∀ (S : XS) (r : List AE) (v1 : Int32), k7 S r v1 → xRn G l (d + 1) xm_M_cut (pI K) 7 [.ref 24, .int v1, .null, .null, .null] [] (hL S r)) (S : XS) (r : List AE) (v1 : Int32) (v2 : Int32) (v4 : Int32) (h : w_M_cut_146 k7 K S r v1 v2 v4) : xRn G l (d + 1) xm_M_cut (pI K) 146 [.ref 24, .int v1, .int v2, .null, .int v4] [] (hL S r) := by
  refine xRn.blk (pc1 := 151) (ls1 := [.ref 24, .int v1, .int v2, .null, .int v4]) (st1 := [.int (gF S 802), .int v1]) (hp1 := (hL S r)) (ob := [(24 : Nat) = 24]) [(.iload_n 1, 1, 1, 0, 0, 0), (.aload_n 0, 1, 0, 0, 0, 0), (.getfield 67, 3, 2, 6, 0, 0)] [(24, xc8 S)] (by decide +kernel) rfl (xall_cons rfl xall_nil) (xSee_cons rfl (xne_nil _) (xSee_nil _)) rfl rfl ?_
  refine xRn.ic_eq (tgt := 170) (nx := 154) (off := 19) (by decide +kernel) (by decide) rfl (fun c1 => ?_) (fun c1 => ?_)
  · have h := h.1 c1
    refine xRn.forget (xle_no (xle_no (xle_no (xle_eq (xle_no xle_nil))))) ?_
    exact t_M_cut_170   S r h
  · have h := h.2 c1
    obtain ⟨o2, h⟩ := h
    refine xRn.blk (pc1 := 161) (ls1 := [.ref 24, .int v1, .int v2, .null, .int v4]) (st1 := [.int 1, .int ((gA S 9) v1.toNatClampNeg)]) (hp1 := (hL S r)) (ob := [(24 : Nat) = 24, (25 : Nat) = 25, vp_in v1 120]) [(.aload_n 0, 1, 0, 0, 0, 0), (.getfield 7, 3, 3, 6, 0, 0), (.iload_n 1, 1, 1, 0, 0, 0), (.iaload, 1, 0, 0, 1, 0), (.iconst 1, 1, 0, 0, 0, 1)] [(24, xc8 S), (25, xc9 S)] (by decide +kernel) rfl (xall_cons rfl (xall_cons rfl (xall_cons o2 xall_nil))) (xSee_cons rfl (xne_cons (by decide) (xne_nil _)) (xSee_cons rfl (xne_nil _) (xSee_nil _))) rfl rfl ?_
    refine xRn.ic_ne (tgt := 170) (nx := 164) (off := 9) (by decide +kernel) (by decide) rfl (fun c3 => ?_) (fun c3 => ?_)
    · have h := h.1 c3
      refine xRn.forget (xle_no (xle_no (xle_no (xle_eq (xle_no xle_nil))))) ?_
      exact t_M_cut_170   S r h
    · have h := h.2 c3
      refine xRn.blk (pc1 := 167) (ls1 := [.ref 24, .int v1, .int v2, .null, .int v4]) (st1 := [.int v4, .int v1]) (hp1 := (hL S r)) (ob := []) [(.iload_n 1, 1, 1, 0, 0, 0), (.iload 4, 2, 4, 0, 0, 0)] [] (by decide +kernel) rfl xall_nil (xSee_nil _) rfl rfl ?_
      refine xRn.ic_ne (tgt := 172) (nx := 170) (off := 5) (by decide +kernel) (by decide) rfl (fun c4 => ?_) (fun c4 => ?_)
      · have h := h.1 c4
        obtain ⟨o5, o6, h⟩ := h
        refine xRn.blk (pc1 := 202) (ls1 := [.ref 24, .int v1, .int v2, .null, .int v4]) (st1 := [.int v1, .int (gF S 804), .ref 28]) (hp1 := (hL (sA (sA S 10 (upd (gA S 10) (gF S 804).toNatClampNeg v2)) 11 (upd (gA S 11) (gF S 804).toNatClampNeg v4)) r)) (ob := [(24 : Nat) = 24, (24 : Nat) = 24, (26 : Nat) = 26, vp_in (gF S 804) 41, (24 : Nat) = 24, (24 : Nat) = 24, (27 : Nat) = 27, vp_in (gF S 804) 41, (24 : Nat) = 24, (24 : Nat) = 24]) [(.aload_n 0, 1, 0, 0, 0, 0), (.getfield 13, 3, 5, 6, 0, 0), (.aload_n 0, 1, 0, 0, 0, 0), (.getfield 149, 3, 4, 6, 0, 0), (.iload_n 2, 1, 2, 0, 0, 0), (.iastore, 1, 0, 0, 1, 0), (.aload_n 0, 1, 0, 0, 0, 0), (.getfield 16, 3, 6, 6, 0, 0), (.aload_n 0, 1, 0, 0, 0, 0), (.getfield 149, 3, 4, 6, 0, 0), (.iload 4, 2, 4, 0, 0, 0), (.iastore, 1, 0, 0, 2, 0), (.aload_n 0, 1, 0, 0, 0, 0), (.getfield 19, 3, 7, 6, 0, 0), (.aload_n 0, 1, 0, 0, 0, 0), (.getfield 149, 3, 4, 6, 0, 0), (.iload_n 1, 1, 1, 0, 0, 0)] [(24, xc8 S), (26, xc10 S), (27, xc11 S)] (by decide +kernel) rfl (xall_cons rfl (xall_cons rfl (xall_cons rfl (xall_cons o5 (xall_cons rfl (xall_cons rfl (xall_cons rfl (xall_cons o6 (xall_cons rfl (xall_cons rfl xall_nil)))))))))) (xSee_cons rfl (xne_cons (by decide) (xne_cons (by decide) (xne_nil _))) (xSee_cons rfl (xne_cons (by decide) (xne_nil _)) (xSee_cons rfl (xne_nil _) (xSee_nil _)))) rfl rfl ?_
        obtain ⟨o7, h⟩ := h
        refine xRn.blk (pc1 := 216) (ls1 := [.ref 24, .int (v1 + 1), .int v2, .null, .int v4]) (st1 := []) (hp1 := (hL (sF (sA (sA (sA S 10 (upd (gA S 10) (gF S 804).toNatClampNeg v2)) 11 (upd (gA S 11) (gF S 804).toNatClampNeg v4)) 12 (upd (gA S 12) (gF S 804).toNatClampNeg v1)) 804 ((gF S 804) + 1)) r)) (ob := [(28 : Nat) = 28, vp_in (gF S 804) 41, (24 : Nat) = 24, (24 : Nat) = 24]) [(.iastore, 1, 0, 0, 0, 0), (.aload_n 0, 1, 0, 0, 0, 0), (.dup, 1, 0, 0, 0, 0), (.getfield 149, 3, 4, 6, 1, 0), (.iconst 1, 1, 0, 0, 0, 1), (.iadd, 1, 0, 0, 0, 0), (.putfield 149, 3, 4, 6, 1, 0), (.iinc 1 1, 3, 1, 0, 0, 1)] [(28, xc12 (sA (sA S 10 (upd (gA S 10) (gF S 804).toNatClampNeg v2)) 11 (upd (gA S 11) (gF S 804).toNatClampNeg v4))), (24, xc8 (sA (sA S 10 (upd (gA S 10) (gF S 804).toNatClampNeg v2)) 11 (upd (gA S 11) (gF S 804).toNatClampNeg v4)))] (by decide +kernel) rfl (xall_cons rfl (xall_cons o7 (xall_cons rfl (xall_cons rfl xall_nil)))) (xSee_cons rfl (xne_cons (by decide) (xne_nil _)) (xSee_cons rfl (xne_nil _) (xSee_nil _))) rfl rfl ?_
        refine xRn.goto (tgt := 7) (off := (-209)) (by decide +kernel) (by decide) ?_
        refine xRn.forget (xle_eq (xle_eq (xle_no (xle_eq (xle_no xle_nil))))) ?_
        exact hk7 (sF (sA (sA (sA S 10 (upd (gA S 10) (gF S 804).toNatClampNeg v2)) 11 (upd (gA S 11) (gF S 804).toNatClampNeg v4)) 12 (upd (gA S 12) (gF S 804).toNatClampNeg v1)) 804 ((gF S 804) + 1)) r (v1 + 1) h
      · have h := h.2 c4
        refine xRn.forget (xle_no (xle_no (xle_no (xle_eq (xle_no xle_nil))))) ?_
        exact t_M_cut_170   S r h
def w_M_cut_110 (k7 : XS → List AE → Int32 → Prop)  (K : Int32 → XS → List AE → Prop) : Nat → XS → List AE → Int32 → Int32 → Int32 → Prop
  | 0, _, _, _, _, _ => False
  | n + 1, S, r, v1, v2, v4 => (((gF S 802) ≤ v1 → (w_M_cut_146 k7 K S r v1 v2 v4)) ∧ (¬ (gF S 802) ≤ v1 → (vp_in v1 120) ∧ ((((gA S 9) v1.toNatClampNeg) < (33 : Int32) → (w_M_cut_146 k7 K S r v1 v2 v4)) ∧ (¬ ((gA S 9) v1.toNatClampNeg) < (33 : Int32) → (vp_in v1 120) ∧ (((126 : Int32) < ((gA S 9) v1.toNatClampNeg) → (w_M_cut_146 k7 K S r v1 v2 v4)) ∧ (¬ (126 : Int32) < ((gA S 9) v1.toNatClampNeg) → (w_M_cut_110 k7 K n S r (v1 + 1) v2 v4)))))))
set_option maxRecDepth 100000 in
theorem t_M_cut_110 {G : XG} {l : Launch} {d : Nat} {k7 : XS → List AE → Int32 → Prop} {K : Int32 → XS → List AE → Prop} (hk7 : ∀ (S : XS) (r : List AE) (v1 : Int32), k7 S r v1 → xRn G l (d + 1) xm_M_cut (pI K) 7 [.ref 24, .int v1, .null, .null, .null] [] (hL S r)) : ∀ (n : Nat) (S : XS) (r : List AE) (v1 : Int32) (v2 : Int32) (v4 : Int32), w_M_cut_110 k7 K n S r v1 v2 v4 → xRn G l (d + 1) xm_M_cut (pI K) 110 [.ref 24, .int v1, .int v2, .null, .int v4] [] (hL S r) := by
  intro n
  induction n with
  | zero => intro S r v1 v2 v4 h; exact h.elim
  | succ n ih =>
    intro S r v1 v2 v4 h
    refine xRn.blk (pc1 := 115) (ls1 := [.ref 24, .int v1, .int v2, .null, .int v4]) (st1 := [.int (gF S 802), .int v1]) (hp1 := (hL S r)) (ob := [(24 : Nat) = 24]) [(.iload_n 1, 1, 1, 0, 0, 0), (.aload_n 0, 1, 0, 0, 0, 0), (.getfield 67, 3, 2, 6, 0, 0)] [(24, xc8 S)] (by decide +kernel) rfl (xall_cons rfl xall_nil) (xSee_cons rfl (xne_nil _) (xSee_nil _)) rfl rfl ?_
    refine xRn.ic_ge (tgt := 146) (nx := 118) (off := 31) (by decide +kernel) (by decide) rfl (fun c8 => ?_) (fun c8 => ?_)
    · have h := h.1 c8
      refine xRn.forget (xle_eq (xle_eq (xle_eq (xle_eq (xle_eq xle_nil))))) ?_
      exact t_M_cut_146  hk7 S r v1 v2 v4 h
    · have h := h.2 c8
      obtain ⟨o9, h⟩ := h
      refine xRn.blk (pc1 := 126) (ls1 := [.ref 24, .int v1, .int v2, .null, .int v4]) (st1 := [.int 33, .int ((gA S 9) v1.toNatClampNeg)]) (hp1 := (hL S r)) (ob := [(24 : Nat) = 24, (25 : Nat) = 25, vp_in v1 120]) [(.aload_n 0, 1, 0, 0, 0, 0), (.getfield 7, 3, 3, 6, 0, 0), (.iload_n 1, 1, 1, 0, 0, 0), (.iaload, 1, 0, 0, 1, 0), (.bipush 33, 2, 0, 0, 0, 33)] [(24, xc8 S), (25, xc9 S)] (by decide +kernel) rfl (xall_cons rfl (xall_cons rfl (xall_cons o9 xall_nil))) (xSee_cons rfl (xne_cons (by decide) (xne_nil _)) (xSee_cons rfl (xne_nil _) (xSee_nil _))) rfl rfl ?_
      refine xRn.ic_lt (tgt := 146) (nx := 129) (off := 20) (by decide +kernel) (by decide) rfl (fun c10 => ?_) (fun c10 => ?_)
      · have h := h.1 c10
        refine xRn.forget (xle_eq (xle_eq (xle_eq (xle_eq (xle_eq xle_nil))))) ?_
        exact t_M_cut_146  hk7 S r v1 v2 v4 h
      · have h := h.2 c10
        obtain ⟨o11, h⟩ := h
        refine xRn.blk (pc1 := 137) (ls1 := [.ref 24, .int v1, .int v2, .null, .int v4]) (st1 := [.int 126, .int ((gA S 9) v1.toNatClampNeg)]) (hp1 := (hL S r)) (ob := [(24 : Nat) = 24, (25 : Nat) = 25, vp_in v1 120]) [(.aload_n 0, 1, 0, 0, 0, 0), (.getfield 7, 3, 3, 6, 0, 0), (.iload_n 1, 1, 1, 0, 0, 0), (.iaload, 1, 0, 0, 1, 0), (.bipush 126, 2, 0, 0, 0, 126)] [(24, xc8 S), (25, xc9 S)] (by decide +kernel) rfl (xall_cons rfl (xall_cons rfl (xall_cons o11 xall_nil))) (xSee_cons rfl (xne_cons (by decide) (xne_nil _)) (xSee_cons rfl (xne_nil _) (xSee_nil _))) rfl rfl ?_
        refine xRn.ic_gt (tgt := 146) (nx := 140) (off := 9) (by decide +kernel) (by decide) rfl (fun c12 => ?_) (fun c12 => ?_)
        · have h := h.1 c12
          refine xRn.forget (xle_eq (xle_eq (xle_eq (xle_eq (xle_eq xle_nil))))) ?_
          exact t_M_cut_146  hk7 S r v1 v2 v4 h
        · have h := h.2 c12
          refine xRn.blk (pc1 := 143) (ls1 := [.ref 24, .int (v1 + 1), .int v2, .null, .int v4]) (st1 := []) (hp1 := (hL S r)) (ob := []) [(.iinc 1 1, 3, 1, 0, 0, 1)] [] (by decide +kernel) rfl xall_nil (xSee_nil _) rfl rfl ?_
          refine xRn.goto (tgt := 110) (off := (-33)) (by decide +kernel) (by decide) ?_
          refine xRn.forget (xle_eq (xle_eq (xle_eq (xle_eq (xle_eq xle_nil))))) ?_
          exact ih S r (v1 + 1) v2 v4 h
def w_M_cut_102   (K : Int32 → XS → List AE → Prop) (S : XS) (r : List AE) : Prop :=
  (K 0 S r)
set_option maxRecDepth 100000 in
theorem t_M_cut_102 {G : XG} {l : Launch} {d : Nat} {K : Int32 → XS → List AE → Prop} (S : XS) (r : List AE) (h : w_M_cut_102 K S r) : xRn G l (d + 1) xm_M_cut (pI K) 102 [.null, .null, .null, .null, .null] [] (hL S r) := by
  refine xRn.blk (pc1 := 103) (ls1 := [.null, .null, .null, .null, .null]) (st1 := [.int 0]) (hp1 := (hL S r)) (ob := []) [(.iconst 0, 1, 0, 0, 0, 0)] [] (by decide +kernel) rfl xall_nil (xSee_nil _) rfl rfl ?_
  exact xRn.iret (by decide +kernel) rfl rfl ⟨_, _, _, rfl, rfl, h⟩
def w_M_cut_67 (k7 : XS → List AE → Int32 → Prop)  (K : Int32 → XS → List AE → Prop) (S : XS) (r : List AE) (v1 : Int32) (v2 : Int32) (v3 : Int32) : Prop :=
  ((v1 = v3 → (w_M_cut_102 K S r)) ∧ (¬ v1 = v3 → (vp_in v3 120) ∧ ((((gA S 9) v3.toNatClampNeg) = (48 : Int32) → (w_M_cut_102 K S r)) ∧ (¬ ((gA S 9) v3.toNatClampNeg) = (48 : Int32) → ((v1 = (gF S 802) → (w_M_cut_102 K S r)) ∧ (¬ v1 = (gF S 802) → (vp_in v1 120) ∧ ((((gA S 9) v1.toNatClampNeg) = (61 : Int32) → (∃ j, w_M_cut_110 k7 K j S r (v1 + 1) v2 (v1 + 1))) ∧ (¬ ((gA S 9) v1.toNatClampNeg) = (61 : Int32) → (w_M_cut_102 K S r)))))))))
set_option maxRecDepth 100000 in
theorem t_M_cut_67 {G : XG} {l : Launch} {d : Nat} {k7 : XS → List AE → Int32 → Prop} {K : Int32 → XS → List AE → Prop} (hk7 : ∀ (S : XS) (r : List AE) (v1 : Int32), k7 S r v1 → xRn G l (d + 1) xm_M_cut (pI K) 7 [.ref 24, .int v1, .null, .null, .null] [] (hL S r)) (S : XS) (r : List AE) (v1 : Int32) (v2 : Int32) (v3 : Int32) (h : w_M_cut_67 k7 K S r v1 v2 v3) : xRn G l (d + 1) xm_M_cut (pI K) 67 [.ref 24, .int v1, .int v2, .int v3, .null] [] (hL S r) := by
  refine xRn.blk (pc1 := 69) (ls1 := [.ref 24, .int v1, .int v2, .int v3, .null]) (st1 := [.int v3, .int v1]) (hp1 := (hL S r)) (ob := []) [(.iload_n 1, 1, 1, 0, 0, 0), (.iload_n 3, 1, 3, 0, 0, 0)] [] (by decide +kernel) rfl xall_nil (xSee_nil _) rfl rfl ?_
  refine xRn.ic_eq (tgt := 102) (nx := 72) (off := 33) (by decide +kernel) (by decide) rfl (fun c13 => ?_) (fun c13 => ?_)
  · have h := h.1 c13
    refine xRn.forget (xle_no (xle_no (xle_no (xle_no (xle_eq xle_nil))))) ?_
    exact t_M_cut_102   S r h
  · have h := h.2 c13
    obtain ⟨o14, h⟩ := h
    refine xRn.blk (pc1 := 80) (ls1 := [.ref 24, .int v1, .int v2, .int v3, .null]) (st1 := [.int 48, .int ((gA S 9) v3.toNatClampNeg)]) (hp1 := (hL S r)) (ob := [(24 : Nat) = 24, (25 : Nat) = 25, vp_in v3 120]) [(.aload_n 0, 1, 0, 0, 0, 0), (.getfield 7, 3, 3, 6, 0, 0), (.iload_n 3, 1, 3, 0, 0, 0), (.iaload, 1, 0, 0, 1, 0), (.bipush 48, 2, 0, 0, 0, 48)] [(24, xc8 S), (25, xc9 S)] (by decide +kernel) rfl (xall_cons rfl (xall_cons rfl (xall_cons o14 xall_nil))) (xSee_cons rfl (xne_cons (by decide) (xne_nil _)) (xSee_cons rfl (xne_nil _) (xSee_nil _))) rfl rfl ?_
    refine xRn.ic_eq (tgt := 102) (nx := 83) (off := 22) (by decide +kernel) (by decide) rfl (fun c15 => ?_) (fun c15 => ?_)
    · have h := h.1 c15
      refine xRn.forget (xle_no (xle_no (xle_no (xle_no (xle_eq xle_nil))))) ?_
      exact t_M_cut_102   S r h
    · have h := h.2 c15
      refine xRn.blk (pc1 := 88) (ls1 := [.ref 24, .int v1, .int v2, .int v3, .null]) (st1 := [.int (gF S 802), .int v1]) (hp1 := (hL S r)) (ob := [(24 : Nat) = 24]) [(.iload_n 1, 1, 1, 0, 0, 0), (.aload_n 0, 1, 0, 0, 0, 0), (.getfield 67, 3, 2, 6, 0, 0)] [(24, xc8 S)] (by decide +kernel) rfl (xall_cons rfl xall_nil) (xSee_cons rfl (xne_nil _) (xSee_nil _)) rfl rfl ?_
      refine xRn.ic_eq (tgt := 102) (nx := 91) (off := 14) (by decide +kernel) (by decide) rfl (fun c16 => ?_) (fun c16 => ?_)
      · have h := h.1 c16
        refine xRn.forget (xle_no (xle_no (xle_no (xle_no (xle_eq xle_nil))))) ?_
        exact t_M_cut_102   S r h
      · have h := h.2 c16
        obtain ⟨o17, h⟩ := h
        refine xRn.blk (pc1 := 99) (ls1 := [.ref 24, .int v1, .int v2, .int v3, .null]) (st1 := [.int 61, .int ((gA S 9) v1.toNatClampNeg)]) (hp1 := (hL S r)) (ob := [(24 : Nat) = 24, (25 : Nat) = 25, vp_in v1 120]) [(.aload_n 0, 1, 0, 0, 0, 0), (.getfield 7, 3, 3, 6, 0, 0), (.iload_n 1, 1, 1, 0, 0, 0), (.iaload, 1, 0, 0, 1, 0), (.bipush 61, 2, 0, 0, 0, 61)] [(24, xc8 S), (25, xc9 S)] (by decide +kernel) rfl (xall_cons rfl (xall_cons rfl (xall_cons o17 xall_nil))) (xSee_cons rfl (xne_cons (by decide) (xne_nil _)) (xSee_cons rfl (xne_nil _) (xSee_nil _))) rfl rfl ?_
        refine xRn.ic_eq (tgt := 104) (nx := 102) (off := 5) (by decide +kernel) (by decide) rfl (fun c18 => ?_) (fun c18 => ?_)
        · have h := h.1 c18
          refine xRn.blk (pc1 := 110) (ls1 := [.ref 24, .int (v1 + 1), .int v2, .int v3, .int (v1 + 1)]) (st1 := []) (hp1 := (hL S r)) (ob := []) [(.iinc 1 1, 3, 1, 0, 0, 1), (.iload_n 1, 1, 1, 0, 0, 0), (.istore 4, 2, 4, 0, 0, 0)] [] (by decide +kernel) rfl xall_nil (xSee_nil _) rfl rfl ?_
          refine xRn.forget (xle_eq (xle_eq (xle_eq (xle_no (xle_eq xle_nil))))) ?_
          obtain ⟨n19, h⟩ := h
          exact t_M_cut_110  hk7 n19 S r (v1 + 1) v2 (v1 + 1) h
        · have h := h.2 c18
          refine xRn.forget (xle_no (xle_no (xle_no (xle_no (xle_eq xle_nil))))) ?_
          exact t_M_cut_102   S r h
def w_M_cut_19 (k7 : XS → List AE → Int32 → Prop)  (K : Int32 → XS → List AE → Prop) : Nat → XS → List AE → Int32 → Int32 → Int32 → Prop
  | 0, _, _, _, _, _ => False
  | n + 1, S, r, v1, v2, v3 => (((gF S 802) ≤ v1 → (w_M_cut_67 k7 K S r v1 v2 v3)) ∧ (¬ (gF S 802) ≤ v1 → (vp_in v1 120) ∧ (w_M_digit ((gA S 9) v1.toNatClampNeg) (fun x22 => ((x22 = 0 → (w_M_cut_67 k7 K S r v1 v2 v3)) ∧ (¬ x22 = 0 → (((4 : Int32) ≤ (v1 - v3) → (w_M_cut_67 k7 K S r v1 v2 v3)) ∧ (¬ (4 : Int32) ≤ (v1 - v3) → (vp_in v1 120) ∧ (w_M_cut_19 k7 K n S r (v1 + 1) (((10 * v2) + ((gA S 9) v1.toNatClampNeg)) - 48) v3)))))))))
set_option maxRecDepth 100000 in
theorem t_M_cut_19 {G : XG} {l : Launch} {d : Nat} {k7 : XS → List AE → Int32 → Prop} {K : Int32 → XS → List AE → Prop} (hk7 : ∀ (S : XS) (r : List AE) (v1 : Int32), k7 S r v1 → xRn G l (d + 1) xm_M_cut (pI K) 7 [.ref 24, .int v1, .null, .null, .null] [] (hL S r)) : ∀ (n : Nat) (S : XS) (r : List AE) (v1 : Int32) (v2 : Int32) (v3 : Int32), w_M_cut_19 k7 K n S r v1 v2 v3 → xRn G l (d + 1) xm_M_cut (pI K) 19 [.ref 24, .int v1, .int v2, .int v3, .null] [] (hL S r) := by
  intro n
  induction n with
  | zero => intro S r v1 v2 v3 h; exact h.elim
  | succ n ih =>
    intro S r v1 v2 v3 h
    refine xRn.blk (pc1 := 24) (ls1 := [.ref 24, .int v1, .int v2, .int v3, .null]) (st1 := [.int (gF S 802), .int v1]) (hp1 := (hL S r)) (ob := [(24 : Nat) = 24]) [(.iload_n 1, 1, 1, 0, 0, 0), (.aload_n 0, 1, 0, 0, 0, 0), (.getfield 67, 3, 2, 6, 0, 0)] [(24, xc8 S)] (by decide +kernel) rfl (xall_cons rfl xall_nil) (xSee_cons rfl (xne_nil _) (xSee_nil _)) rfl rfl ?_
    refine xRn.ic_ge (tgt := 67) (nx := 27) (off := 43) (by decide +kernel) (by decide) rfl (fun c20 => ?_) (fun c20 => ?_)
    · have h := h.1 c20
      refine xRn.forget (xle_eq (xle_eq (xle_eq (xle_eq (xle_eq xle_nil))))) ?_
      exact t_M_cut_67  hk7 S r v1 v2 v3 h
    · have h := h.2 c20
      obtain ⟨o21, h⟩ := h
      refine xRn.blk (pc1 := 33) (ls1 := [.ref 24, .int v1, .int v2, .int v3, .null]) (st1 := [.int ((gA S 9) v1.toNatClampNeg)]) (hp1 := (hL S r)) (ob := [(24 : Nat) = 24, (25 : Nat) = 25, vp_in v1 120]) [(.aload_n 0, 1, 0, 0, 0, 0), (.getfield 7, 3, 3, 6, 0, 0), (.iload_n 1, 1, 1, 0, 0, 0), (.iaload, 1, 0, 0, 1, 0)] [(24, xc8 S), (25, xc9 S)] (by decide +kernel) rfl (xall_cons rfl (xall_cons rfl (xall_cons o21 xall_nil))) (xSee_cons rfl (xne_cons (by decide) (xne_nil _)) (xSee_cons rfl (xne_nil _) (xSee_nil _))) rfl rfl ?_
      refine xRn.callS (al := [.int ((gA S 9) v1.toNatClampNeg)]) (st := []) (nx := 36) (by decide +kernel) lk_S_M_cut_152_M_digit_1 rfl (c_M_digit (d := d + 0) _ ((gA S 9) v1.toNatClampNeg) h) rfl (Nat.le_of_ble_eq_true rfl) rfl rfl ?_ ?_
      · rintro _ _ ⟨x22, e9, e8, h⟩
        cases e9
        rw [e8]
        show xRn G l _ _ _ 36 [.ref 24, .int v1, .int v2, .int v3, .null] [.int x22] (hL S r)
        refine xRn.if_eq (tgt := 67) (nx := 39) (off := 31) (by decide +kernel) (by decide) rfl (fun c23 => ?_) (fun c23 => ?_)
        · have h := h.1 c23
          refine xRn.forget (xle_eq (xle_eq (xle_eq (xle_eq (xle_eq xle_nil))))) ?_
          exact t_M_cut_67  hk7 S r v1 v2 v3 h
        · have h := h.2 c23
          refine xRn.blk (pc1 := 43) (ls1 := [.ref 24, .int v1, .int v2, .int v3, .null]) (st1 := [.int 4, .int (v1 - v3)]) (hp1 := (hL S r)) (ob := []) [(.iload_n 1, 1, 1, 0, 0, 0), (.iload_n 3, 1, 3, 0, 0, 0), (.isub, 1, 0, 0, 0, 0), (.iconst 4, 1, 0, 0, 0, 4)] [] (by decide +kernel) rfl xall_nil (xSee_nil _) rfl rfl ?_
          refine xRn.ic_ge (tgt := 67) (nx := 46) (off := 24) (by decide +kernel) (by decide) rfl (fun c24 => ?_) (fun c24 => ?_)
          · have h := h.1 c24
            refine xRn.forget (xle_eq (xle_eq (xle_eq (xle_eq (xle_eq xle_nil))))) ?_
            exact t_M_cut_67  hk7 S r v1 v2 v3 h
          · have h := h.2 c24
            obtain ⟨o25, h⟩ := h
            refine xRn.blk (pc1 := 64) (ls1 := [.ref 24, .int (v1 + 1), .int (((10 * v2) + ((gA S 9) v1.toNatClampNeg)) - 48), .int v3, .null]) (st1 := []) (hp1 := (hL S r)) (ob := [(24 : Nat) = 24, (25 : Nat) = 25, vp_in v1 120]) [(.bipush 10, 2, 0, 0, 0, 10), (.iload_n 2, 1, 2, 0, 0, 0), (.imul, 1, 0, 0, 0, 0), (.aload_n 0, 1, 0, 0, 0, 0), (.getfield 7, 3, 3, 6, 0, 0), (.iload_n 1, 1, 1, 0, 0, 0), (.iaload, 1, 0, 0, 1, 0), (.iadd, 1, 0, 0, 0, 0), (.bipush 48, 2, 0, 0, 0, 48), (.isub, 1, 0, 0, 0, 0), (.istore_n 2, 1, 2, 0, 0, 0), (.iinc 1 1, 3, 1, 0, 0, 1)] [(24, xc8 S), (25, xc9 S)] (by decide +kernel) rfl (xall_cons rfl (xall_cons rfl (xall_cons o25 xall_nil))) (xSee_cons rfl (xne_cons (by decide) (xne_nil _)) (xSee_cons rfl (xne_nil _) (xSee_nil _))) rfl rfl ?_
            refine xRn.goto (tgt := 19) (off := (-45)) (by decide +kernel) (by decide) ?_
            refine xRn.forget (xle_eq (xle_eq (xle_eq (xle_eq (xle_eq xle_nil))))) ?_
            exact ih S r (v1 + 1) (((10 * v2) + ((gA S 9) v1.toNatClampNeg)) - 48) v3 h
      · rintro _ _ ⟨_, e9, _⟩
        cases e9
def w_M_cut_7   (K : Int32 → XS → List AE → Prop) : Nat → XS → List AE → Int32 → Prop
  | 0, _, _, _ => False
  | n + 1, S, r, v1 => (((gF S 802) ≤ v1 → (K 1 S r)) ∧ (¬ (gF S 802) ≤ v1 → (∃ j, w_M_cut_19 (fun S r v1 => w_M_cut_7 K n S r v1) K j S r v1 0 v1)))
set_option maxRecDepth 100000 in
theorem t_M_cut_7 {G : XG} {l : Launch} {d : Nat} {K : Int32 → XS → List AE → Prop} : ∀ (n : Nat) (S : XS) (r : List AE) (v1 : Int32), w_M_cut_7 K n S r v1 → xRn G l (d + 1) xm_M_cut (pI K) 7 [.ref 24, .int v1, .null, .null, .null] [] (hL S r) := by
  intro n
  induction n with
  | zero => intro S r v1 h; exact h.elim
  | succ n ih =>
    intro S r v1 h
    refine xRn.blk (pc1 := 12) (ls1 := [.ref 24, .int v1, .null, .null, .null]) (st1 := [.int (gF S 802), .int v1]) (hp1 := (hL S r)) (ob := [(24 : Nat) = 24]) [(.iload_n 1, 1, 1, 0, 0, 0), (.aload_n 0, 1, 0, 0, 0, 0), (.getfield 67, 3, 2, 6, 0, 0)] [(24, xc8 S)] (by decide +kernel) rfl (xall_cons rfl xall_nil) (xSee_cons rfl (xne_nil _) (xSee_nil _)) rfl rfl ?_
    refine xRn.ic_ge (tgt := 219) (nx := 15) (off := 207) (by decide +kernel) (by decide) rfl (fun c26 => ?_) (fun c26 => ?_)
    · have h := h.1 c26
      refine xRn.blk (pc1 := 220) (ls1 := [.ref 24, .int v1, .null, .null, .null]) (st1 := [.int 1]) (hp1 := (hL S r)) (ob := []) [(.iconst 1, 1, 0, 0, 0, 1)] [] (by decide +kernel) rfl xall_nil (xSee_nil _) rfl rfl ?_
      exact xRn.iret (by decide +kernel) rfl rfl ⟨_, _, _, rfl, rfl, h⟩
    · have h := h.2 c26
      refine xRn.blk (pc1 := 19) (ls1 := [.ref 24, .int v1, .int 0, .int v1, .null]) (st1 := []) (hp1 := (hL S r)) (ob := []) [(.iconst 0, 1, 0, 0, 0, 0), (.istore_n 2, 1, 2, 0, 0, 0), (.iload_n 1, 1, 1, 0, 0, 0), (.istore_n 3, 1, 3, 0, 0, 0)] [] (by decide +kernel) rfl xall_nil (xSee_nil _) rfl rfl ?_
      refine xRn.forget (xle_eq (xle_eq (xle_eq (xle_eq (xle_eq xle_nil))))) ?_
      obtain ⟨n27, h⟩ := h
      exact t_M_cut_19  ih n27 S r v1 0 v1 h
def w_M_cut  (S : XS) (r : List AE) (K : Int32 → XS → List AE → Prop) : Prop :=
  (∃ j, w_M_cut_7 K j (sF S 804 0) r 0)
set_option maxRecDepth 100000 in
theorem c_M_cut {G : XG} {l : Launch} {d : Nat} (S : XS) (r : List AE) {K : Int32 → XS → List AE → Prop} (h : w_M_cut  S r K) : xCt G l (d + 1) xm_M_cut [.ref 24] (hL S r) (pI K) := by
  refine xCt.intro (by decide) (by decide) (List.forall_mem_cons.mpr ⟨rfl, (fun _ h => by cases h)⟩) (Nat.le_of_ble_eq_true rfl) rfl ?_
  show xRn G l _ xm_M_cut _ 0 [.ref 24, .null, .null, .null, .null] [] (hL S r)
  refine xRn.blk (pc1 := 7) (ls1 := [.ref 24, .int 0, .null, .null, .null]) (st1 := []) (hp1 := (hL (sF S 804 0) r)) (ob := [(24 : Nat) = 24]) [(.aload_n 0, 1, 0, 0, 0, 0), (.iconst 0, 1, 0, 0, 0, 0), (.putfield 149, 3, 4, 6, 0, 0), (.iconst 0, 1, 0, 0, 0, 0), (.istore_n 1, 1, 1, 0, 0, 0)] [(24, xc8 S)] (by decide +kernel) rfl (xall_cons rfl xall_nil) (xSee_cons rfl (xne_nil _) (xSee_nil _)) rfl rfl ?_
  refine xRn.forget (xle_eq (xle_eq (xle_eq (xle_eq (xle_eq xle_nil))))) ?_
  obtain ⟨n28, h⟩ := h
  exact t_M_cut_7   n28 (sF S 804 0) r 0 h
/-! M_numberAt -/
def w_M_numberAt_48   (K : Int32 → XS → List AE → Prop) : Nat → XS → List AE → Int32 → Int32 → Int32 → Prop
  | 0, _, _, _, _, _ => False
  | n + 1, S, r, v1, v3, v4 => (vp_in v1 41) ∧ ((((gA S 12) v1.toNatClampNeg) ≤ v4 → (K v3 S r)) ∧ (¬ ((gA S 12) v1.toNatClampNeg) ≤ v4 → (vp_in v4 120) ∧ (w_M_digit ((gA S 9) v4.toNatClampNeg) (fun x4 => ((¬ x4 = 0 → (vp_in v4 120) ∧ (w_M_numberAt_48 K n S r v1 (((10 * v3) + ((gA S 9) v4.toNatClampNeg)) - 48) (v4 + 1))) ∧ (x4 = 0 → (K (-1) S r)))))))
set_option maxRecDepth 100000 in
theorem t_M_numberAt_48 {G : XG} {l : Launch} {d : Nat} {K : Int32 → XS → List AE → Prop} : ∀ (n : Nat) (S : XS) (r : List AE) (v1 : Int32) (v3 : Int32) (v4 : Int32), w_M_numberAt_48 K n S r v1 v3 v4 → xRn G l (d + 1) xm_M_numberAt (pI K) 48 [.ref 24, .int v1, .null, .int v3, .int v4] [] (hL S r) := by
  intro n
  induction n with
  | zero => intro S r v1 v3 v4 h; exact h.elim
  | succ n ih =>
    intro S r v1 v3 v4 h
    obtain ⟨o1, h⟩ := h
    refine xRn.blk (pc1 := 56) (ls1 := [.ref 24, .int v1, .null, .int v3, .int v4]) (st1 := [.int ((gA S 12) v1.toNatClampNeg), .int v4]) (hp1 := (hL S r)) (ob := [(24 : Nat) = 24, (28 : Nat) = 28, vp_in v1 41]) [(.iload 4, 2, 4, 0, 0, 0), (.aload_n 0, 1, 0, 0, 0, 0), (.getfield 19, 3, 7, 6, 0, 0), (.iload_n 1, 1, 1, 0, 0, 0), (.iaload, 1, 0, 0, 1, 0)] [(24, xc8 S), (28, xc12 S)] (by decide +kernel) rfl (xall_cons rfl (xall_cons rfl (xall_cons o1 xall_nil))) (xSee_cons rfl (xne_cons (by decide) (xne_nil _)) (xSee_cons rfl (xne_nil _) (xSee_nil _))) rfl rfl ?_
    refine xRn.ic_ge (tgt := 96) (nx := 59) (off := 40) (by decide +kernel) (by decide) rfl (fun c2 => ?_) (fun c2 => ?_)
    · have h := h.1 c2
      refine xRn.blk (pc1 := 97) (ls1 := [.ref 24, .int v1, .null, .int v3, .int v4]) (st1 := [.int v3]) (hp1 := (hL S r)) (ob := []) [(.iload_n 3, 1, 3, 0, 0, 0)] [] (by decide +kernel) rfl xall_nil (xSee_nil _) rfl rfl ?_
      exact xRn.iret (by decide +kernel) rfl rfl ⟨_, _, _, rfl, rfl, h⟩
    · have h := h.2 c2
      obtain ⟨o3, h⟩ := h
      refine xRn.blk (pc1 := 66) (ls1 := [.ref 24, .int v1, .null, .int v3, .int v4]) (st1 := [.int ((gA S 9) v4.toNatClampNeg)]) (hp1 := (hL S r)) (ob := [(24 : Nat) = 24, (25 : Nat) = 25, vp_in v4 120]) [(.aload_n 0, 1, 0, 0, 0, 0), (.getfield 7, 3, 3, 6, 0, 0), (.iload 4, 2, 4, 0, 0, 0), (.iaload, 1, 0, 0, 1, 0)] [(24, xc8 S), (25, xc9 S)] (by decide +kernel) rfl (xall_cons rfl (xall_cons rfl (xall_cons o3 xall_nil))) (xSee_cons rfl (xne_cons (by decide) (xne_nil _)) (xSee_cons rfl (xne_nil _) (xSee_nil _))) rfl rfl ?_
      refine xRn.callS (al := [.int ((gA S 9) v4.toNatClampNeg)]) (st := []) (nx := 69) (by decide +kernel) lk_S_M_numberAt_152_M_digit_1 rfl (c_M_digit (d := d + 0) _ ((gA S 9) v4.toNatClampNeg) h) rfl (Nat.le_of_ble_eq_true rfl) rfl rfl ?_ ?_
      · rintro _ _ ⟨x4, e9, e8, h⟩
        cases e9
        rw [e8]
        show xRn G l _ _ _ 69 [.ref 24, .int v1, .null, .int v3, .int v4] [.int x4] (hL S r)
        refine xRn.if_ne (tgt := 74) (nx := 72) (off := 5) (by decide +kernel) (by decide) rfl (fun c5 => ?_) (fun c5 => ?_)
        · have h := h.1 c5
          obtain ⟨o6, h⟩ := h
          refine xRn.blk (pc1 := 93) (ls1 := [.ref 24, .int v1, .null, .int (((10 * v3) + ((gA S 9) v4.toNatClampNeg)) - 48), .int (v4 + 1)]) (st1 := []) (hp1 := (hL S r)) (ob := [(24 : Nat) = 24, (25 : Nat) = 25, vp_in v4 120]) [(.bipush 10, 2, 0, 0, 0, 10), (.iload_n 3, 1, 3, 0, 0, 0), (.imul, 1, 0, 0, 0, 0), (.aload_n 0, 1, 0, 0, 0, 0), (.getfield 7, 3, 3, 6, 0, 0), (.iload 4, 2, 4, 0, 0, 0), (.iaload, 1, 0, 0, 1, 0), (.iadd, 1, 0, 0, 0, 0), (.bipush 48, 2, 0, 0, 0, 48), (.isub, 1, 0, 0, 0, 0), (.istore_n 3, 1, 3, 0, 0, 0), (.iinc 4 1, 3, 4, 0, 0, 1)] [(24, xc8 S), (25, xc9 S)] (by decide +kernel) rfl (xall_cons rfl (xall_cons rfl (xall_cons o6 xall_nil))) (xSee_cons rfl (xne_cons (by decide) (xne_nil _)) (xSee_cons rfl (xne_nil _) (xSee_nil _))) rfl rfl ?_
          refine xRn.goto (tgt := 48) (off := (-45)) (by decide +kernel) (by decide) ?_
          refine xRn.forget (xle_eq (xle_eq (xle_eq (xle_eq (xle_eq xle_nil))))) ?_
          exact ih S r v1 (((10 * v3) + ((gA S 9) v4.toNatClampNeg)) - 48) (v4 + 1) h
        · have h := h.2 c5
          refine xRn.blk (pc1 := 73) (ls1 := [.ref 24, .int v1, .null, .int v3, .int v4]) (st1 := [.int (-1)]) (hp1 := (hL S r)) (ob := []) [(.iconst (-1), 1, 0, 0, 0, (-1))] [] (by decide +kernel) rfl xall_nil (xSee_nil _) rfl rfl ?_
          exact xRn.iret (by decide +kernel) rfl rfl ⟨_, _, _, rfl, rfl, h⟩
      · rintro _ _ ⟨_, e9, _⟩
        cases e9
def w_M_numberAt_36   (K : Int32 → XS → List AE → Prop) (S : XS) (r : List AE) : Prop :=
  (K (-1) S r)
set_option maxRecDepth 100000 in
theorem t_M_numberAt_36 {G : XG} {l : Launch} {d : Nat} {K : Int32 → XS → List AE → Prop} (S : XS) (r : List AE) (h : w_M_numberAt_36 K S r) : xRn G l (d + 1) xm_M_numberAt (pI K) 36 [.null, .null, .null, .null, .null] [] (hL S r) := by
  refine xRn.blk (pc1 := 37) (ls1 := [.null, .null, .null, .null, .null]) (st1 := [.int (-1)]) (hp1 := (hL S r)) (ob := []) [(.iconst (-1), 1, 0, 0, 0, (-1))] [] (by decide +kernel) rfl xall_nil (xSee_nil _) rfl rfl ?_
  exact xRn.iret (by decide +kernel) rfl rfl ⟨_, _, _, rfl, rfl, h⟩
def w_M_numberAt  (S : XS) (r : List AE) (p1 : Int32) (p2 : Int32) (K : Int32 → XS → List AE → Prop) : Prop :=
  (((gF S 804) ≤ p1 → (w_M_numberAt_36 K S r)) ∧ (¬ (gF S 804) ≤ p1 → (vp_in p1 41) ∧ ((¬ ((gA S 10) p1.toNatClampNeg) = p2 → (w_M_numberAt_36 K S r)) ∧ (((gA S 10) p1.toNatClampNeg) = p2 → (vp_in p1 41) ∧ (vp_in p1 41) ∧ (((((gA S 12) p1.toNatClampNeg) - ((gA S 11) p1.toNatClampNeg)) ≤ (6 : Int32) → (vp_in p1 41) ∧ (∃ j, w_M_numberAt_48 K j S r p1 0 ((gA S 11) p1.toNatClampNeg))) ∧ (¬ (((gA S 12) p1.toNatClampNeg) - ((gA S 11) p1.toNatClampNeg)) ≤ (6 : Int32) → (w_M_numberAt_36 K S r)))))))
set_option maxRecDepth 100000 in
theorem c_M_numberAt {G : XG} {l : Launch} {d : Nat} (S : XS) (r : List AE) (p1 : Int32) (p2 : Int32) {K : Int32 → XS → List AE → Prop} (h : w_M_numberAt  S r p1 p2 K) : xCt G l (d + 1) xm_M_numberAt [.ref 24, .int p1, .int p2] (hL S r) (pI K) := by
  refine xCt.intro (by decide) (by decide) (List.forall_mem_cons.mpr ⟨rfl, (List.forall_mem_cons.mpr ⟨rfl, (List.forall_mem_cons.mpr ⟨rfl, (fun _ h => by cases h)⟩)⟩)⟩) (Nat.le_of_ble_eq_true rfl) rfl ?_
  show xRn G l _ xm_M_numberAt _ 0 [.ref 24, .int p1, .int p2, .null, .null] [] (hL S r)
  refine xRn.blk (pc1 := 5) (ls1 := [.ref 24, .int p1, .int p2, .null, .null]) (st1 := [.int (gF S 804), .int p1]) (hp1 := (hL S r)) (ob := [(24 : Nat) = 24]) [(.iload_n 1, 1, 1, 0, 0, 0), (.aload_n 0, 1, 0, 0, 0, 0), (.getfield 149, 3, 4, 6, 0, 0)] [(24, xc8 S)] (by decide +kernel) rfl (xall_cons rfl xall_nil) (xSee_cons rfl (xne_nil _) (xSee_nil _)) rfl rfl ?_
  refine xRn.ic_ge (tgt := 36) (nx := 8) (off := 31) (by decide +kernel) (by decide) rfl (fun c7 => ?_) (fun c7 => ?_)
  · have h := h.1 c7
    refine xRn.forget (xle_no (xle_no (xle_no (xle_eq (xle_eq xle_nil))))) ?_
    exact t_M_numberAt_36   S r h
  · have h := h.2 c7
    obtain ⟨o8, h⟩ := h
    refine xRn.blk (pc1 := 15) (ls1 := [.ref 24, .int p1, .int p2, .null, .null]) (st1 := [.int p2, .int ((gA S 10) p1.toNatClampNeg)]) (hp1 := (hL S r)) (ob := [(24 : Nat) = 24, (26 : Nat) = 26, vp_in p1 41]) [(.aload_n 0, 1, 0, 0, 0, 0), (.getfield 13, 3, 5, 6, 0, 0), (.iload_n 1, 1, 1, 0, 0, 0), (.iaload, 1, 0, 0, 1, 0), (.iload_n 2, 1, 2, 0, 0, 0)] [(24, xc8 S), (26, xc10 S)] (by decide +kernel) rfl (xall_cons rfl (xall_cons rfl (xall_cons o8 xall_nil))) (xSee_cons rfl (xne_cons (by decide) (xne_nil _)) (xSee_cons rfl (xne_nil _) (xSee_nil _))) rfl rfl ?_
    refine xRn.ic_ne (tgt := 36) (nx := 18) (off := 21) (by decide +kernel) (by decide) rfl (fun c9 => ?_) (fun c9 => ?_)
    · have h := h.1 c9
      refine xRn.forget (xle_no (xle_no (xle_no (xle_eq (xle_eq xle_nil))))) ?_
      exact t_M_numberAt_36   S r h
    · have h := h.2 c9
      obtain ⟨o10, o11, h⟩ := h
      refine xRn.blk (pc1 := 33) (ls1 := [.ref 24, .int p1, .int p2, .null, .null]) (st1 := [.int 6, .int (((gA S 12) p1.toNatClampNeg) - ((gA S 11) p1.toNatClampNeg))]) (hp1 := (hL S r)) (ob := [(24 : Nat) = 24, (28 : Nat) = 28, vp_in p1 41, (24 : Nat) = 24, (27 : Nat) = 27, vp_in p1 41]) [(.aload_n 0, 1, 0, 0, 0, 0), (.getfield 19, 3, 7, 6, 0, 0), (.iload_n 1, 1, 1, 0, 0, 0), (.iaload, 1, 0, 0, 1, 0), (.aload_n 0, 1, 0, 0, 0, 0), (.getfield 16, 3, 6, 6, 0, 0), (.iload_n 1, 1, 1, 0, 0, 0), (.iaload, 1, 0, 0, 2, 0), (.isub, 1, 0, 0, 0, 0), (.bipush 6, 2, 0, 0, 0, 6)] [(24, xc8 S), (28, xc12 S), (27, xc11 S)] (by decide +kernel) rfl (xall_cons rfl (xall_cons rfl (xall_cons o10 (xall_cons rfl (xall_cons rfl (xall_cons o11 xall_nil)))))) (xSee_cons rfl (xne_cons (by decide) (xne_cons (by decide) (xne_nil _))) (xSee_cons rfl (xne_cons (by decide) (xne_nil _)) (xSee_cons rfl (xne_nil _) (xSee_nil _)))) rfl rfl ?_
      refine xRn.ic_le (tgt := 38) (nx := 36) (off := 5) (by decide +kernel) (by decide) rfl (fun c12 => ?_) (fun c12 => ?_)
      · have h := h.1 c12
        obtain ⟨o13, h⟩ := h
        refine xRn.blk (pc1 := 48) (ls1 := [.ref 24, .int p1, .int p2, .int 0, .int ((gA S 11) p1.toNatClampNeg)]) (st1 := []) (hp1 := (hL S r)) (ob := [(24 : Nat) = 24, (27 : Nat) = 27, vp_in p1 41]) [(.iconst 0, 1, 0, 0, 0, 0), (.istore_n 3, 1, 3, 0, 0, 0), (.aload_n 0, 1, 0, 0, 0, 0), (.getfield 16, 3, 6, 6, 0, 0), (.iload_n 1, 1, 1, 0, 0, 0), (.iaload, 1, 0, 0, 1, 0), (.istore 4, 2, 4, 0, 0, 0)] [(24, xc8 S), (27, xc11 S)] (by decide +kernel) rfl (xall_cons rfl (xall_cons rfl (xall_cons o13 xall_nil))) (xSee_cons rfl (xne_cons (by decide) (xne_nil _)) (xSee_cons rfl (xne_nil _) (xSee_nil _))) rfl rfl ?_
        refine xRn.forget (xle_eq (xle_eq (xle_no (xle_eq (xle_eq xle_nil))))) ?_
        obtain ⟨n14, h⟩ := h
        exact t_M_numberAt_48   n14 S r p1 0 ((gA S 11) p1.toNatClampNeg) h
      · have h := h.2 c12
        refine xRn.forget (xle_no (xle_no (xle_no (xle_eq (xle_eq xle_nil))))) ?_
        exact t_M_numberAt_36   S r h
/-! M_letterAt -/
def w_M_letterAt_49   (K : Int32 → XS → List AE → Prop) (S : XS) (r : List AE) : Prop :=
  (K (-1) S r)
set_option maxRecDepth 100000 in
theorem t_M_letterAt_49 {G : XG} {l : Launch} {d : Nat} {K : Int32 → XS → List AE → Prop} (S : XS) (r : List AE) (h : w_M_letterAt_49 K S r) : xRn G l (d + 0) xm_M_letterAt (pI K) 49 [.null, .null, .null] [] (hL S r) := by
  refine xRn.blk (pc1 := 50) (ls1 := [.null, .null, .null]) (st1 := [.int (-1)]) (hp1 := (hL S r)) (ob := []) [(.iconst (-1), 1, 0, 0, 0, (-1))] [] (by decide +kernel) rfl xall_nil (xSee_nil _) rfl rfl ?_
  exact xRn.iret (by decide +kernel) rfl rfl ⟨_, _, _, rfl, rfl, h⟩
def w_M_letterAt  (S : XS) (r : List AE) (p1 : Int32) (p2 : Int32) (K : Int32 → XS → List AE → Prop) : Prop :=
  (((gF S 804) ≤ p1 → (w_M_letterAt_49 K S r)) ∧ (¬ (gF S 804) ≤ p1 → (vp_in p1 41) ∧ ((¬ ((gA S 10) p1.toNatClampNeg) = p2 → (w_M_letterAt_49 K S r)) ∧ (((gA S 10) p1.toNatClampNeg) = p2 → (vp_in p1 41) ∧ (vp_in p1 41) ∧ ((¬ (((gA S 12) p1.toNatClampNeg) - ((gA S 11) p1.toNatClampNeg)) = (1 : Int32) → (w_M_letterAt_49 K S r)) ∧ ((((gA S 12) p1.toNatClampNeg) - ((gA S 11) p1.toNatClampNeg)) = (1 : Int32) → (vp_in p1 41) ∧ (vp_in ((gA S 11) p1.toNatClampNeg) 120) ∧ (K ((gA S 9) ((gA S 11) p1.toNatClampNeg).toNatClampNeg) S r)))))))
set_option maxRecDepth 100000 in
theorem c_M_letterAt {G : XG} {l : Launch} {d : Nat} (S : XS) (r : List AE) (p1 : Int32) (p2 : Int32) {K : Int32 → XS → List AE → Prop} (h : w_M_letterAt  S r p1 p2 K) : xCt G l (d + 0) xm_M_letterAt [.ref 24, .int p1, .int p2] (hL S r) (pI K) := by
  refine xCt.intro (by decide) (by decide) (List.forall_mem_cons.mpr ⟨rfl, (List.forall_mem_cons.mpr ⟨rfl, (List.forall_mem_cons.mpr ⟨rfl, (fun _ h => by cases h)⟩)⟩)⟩) (Nat.le_of_ble_eq_true rfl) rfl ?_
  show xRn G l _ xm_M_letterAt _ 0 [.ref 24, .int p1, .int p2] [] (hL S r)
  refine xRn.blk (pc1 := 5) (ls1 := [.ref 24, .int p1, .int p2]) (st1 := [.int (gF S 804), .int p1]) (hp1 := (hL S r)) (ob := [(24 : Nat) = 24]) [(.iload_n 1, 1, 1, 0, 0, 0), (.aload_n 0, 1, 0, 0, 0, 0), (.getfield 149, 3, 4, 6, 0, 0)] [(24, xc8 S)] (by decide +kernel) rfl (xall_cons rfl xall_nil) (xSee_cons rfl (xne_nil _) (xSee_nil _)) rfl rfl ?_
  refine xRn.ic_ge (tgt := 49) (nx := 8) (off := 44) (by decide +kernel) (by decide) rfl (fun c1 => ?_) (fun c1 => ?_)
  · have h := h.1 c1
    refine xRn.forget (xle_no (xle_no (xle_no xle_nil))) ?_
    exact t_M_letterAt_49   S r h
  · have h := h.2 c1
    obtain ⟨o2, h⟩ := h
    refine xRn.blk (pc1 := 15) (ls1 := [.ref 24, .int p1, .int p2]) (st1 := [.int p2, .int ((gA S 10) p1.toNatClampNeg)]) (hp1 := (hL S r)) (ob := [(24 : Nat) = 24, (26 : Nat) = 26, vp_in p1 41]) [(.aload_n 0, 1, 0, 0, 0, 0), (.getfield 13, 3, 5, 6, 0, 0), (.iload_n 1, 1, 1, 0, 0, 0), (.iaload, 1, 0, 0, 1, 0), (.iload_n 2, 1, 2, 0, 0, 0)] [(24, xc8 S), (26, xc10 S)] (by decide +kernel) rfl (xall_cons rfl (xall_cons rfl (xall_cons o2 xall_nil))) (xSee_cons rfl (xne_cons (by decide) (xne_nil _)) (xSee_cons rfl (xne_nil _) (xSee_nil _))) rfl rfl ?_
    refine xRn.ic_ne (tgt := 49) (nx := 18) (off := 34) (by decide +kernel) (by decide) rfl (fun c3 => ?_) (fun c3 => ?_)
    · have h := h.1 c3
      refine xRn.forget (xle_no (xle_no (xle_no xle_nil))) ?_
      exact t_M_letterAt_49   S r h
    · have h := h.2 c3
      obtain ⟨o4, o5, h⟩ := h
      refine xRn.blk (pc1 := 32) (ls1 := [.ref 24, .int p1, .int p2]) (st1 := [.int 1, .int (((gA S 12) p1.toNatClampNeg) - ((gA S 11) p1.toNatClampNeg))]) (hp1 := (hL S r)) (ob := [(24 : Nat) = 24, (28 : Nat) = 28, vp_in p1 41, (24 : Nat) = 24, (27 : Nat) = 27, vp_in p1 41]) [(.aload_n 0, 1, 0, 0, 0, 0), (.getfield 19, 3, 7, 6, 0, 0), (.iload_n 1, 1, 1, 0, 0, 0), (.iaload, 1, 0, 0, 1, 0), (.aload_n 0, 1, 0, 0, 0, 0), (.getfield 16, 3, 6, 6, 0, 0), (.iload_n 1, 1, 1, 0, 0, 0), (.iaload, 1, 0, 0, 2, 0), (.isub, 1, 0, 0, 0, 0), (.iconst 1, 1, 0, 0, 0, 1)] [(24, xc8 S), (28, xc12 S), (27, xc11 S)] (by decide +kernel) rfl (xall_cons rfl (xall_cons rfl (xall_cons o4 (xall_cons rfl (xall_cons rfl (xall_cons o5 xall_nil)))))) (xSee_cons rfl (xne_cons (by decide) (xne_cons (by decide) (xne_nil _))) (xSee_cons rfl (xne_cons (by decide) (xne_nil _)) (xSee_cons rfl (xne_nil _) (xSee_nil _)))) rfl rfl ?_
      refine xRn.ic_ne (tgt := 49) (nx := 35) (off := 17) (by decide +kernel) (by decide) rfl (fun c6 => ?_) (fun c6 => ?_)
      · have h := h.1 c6
        refine xRn.forget (xle_no (xle_no (xle_no xle_nil))) ?_
        exact t_M_letterAt_49   S r h
      · have h := h.2 c6
        obtain ⟨o7, o8, h⟩ := h
        refine xRn.blk (pc1 := 46) (ls1 := [.ref 24, .int p1, .int p2]) (st1 := [.int ((gA S 9) ((gA S 11) p1.toNatClampNeg).toNatClampNeg)]) (hp1 := (hL S r)) (ob := [(24 : Nat) = 24, (24 : Nat) = 24, (27 : Nat) = 27, vp_in p1 41, (25 : Nat) = 25, vp_in ((gA S 11) p1.toNatClampNeg) 120]) [(.aload_n 0, 1, 0, 0, 0, 0), (.getfield 7, 3, 3, 6, 0, 0), (.aload_n 0, 1, 0, 0, 0, 0), (.getfield 16, 3, 6, 6, 0, 0), (.iload_n 1, 1, 1, 0, 0, 0), (.iaload, 1, 0, 0, 1, 0), (.iaload, 1, 0, 0, 2, 0)] [(24, xc8 S), (27, xc11 S), (25, xc9 S)] (by decide +kernel) rfl (xall_cons rfl (xall_cons rfl (xall_cons rfl (xall_cons o7 (xall_cons rfl (xall_cons o8 xall_nil)))))) (xSee_cons rfl (xne_cons (by decide) (xne_cons (by decide) (xne_nil _))) (xSee_cons rfl (xne_cons (by decide) (xne_nil _)) (xSee_cons rfl (xne_nil _) (xSee_nil _)))) rfl rfl ?_
        refine xRn.goto (tgt := 50) (off := 4) (by decide +kernel) (by decide) ?_
        exact xRn.iret (by decide +kernel) rfl rfl ⟨_, _, _, rfl, rfl, h⟩
/-! M_closed -/
def w_M_closed_127   (K : Int32 → XS → List AE → Prop) (S : XS) (r : List AE) : Prop :=
  (K 0 S r)
set_option maxRecDepth 100000 in
theorem t_M_closed_127 {G : XG} {l : Launch} {d : Nat} {K : Int32 → XS → List AE → Prop} (S : XS) (r : List AE) (h : w_M_closed_127 K S r) : xRn G l (d + 2) xm_M_closed (pI K) 127 [.null, .null, .null, .null, .null] [] (hL S r) := by
  refine xRn.blk (pc1 := 128) (ls1 := [.null, .null, .null, .null, .null]) (st1 := [.int 0]) (hp1 := (hL S r)) (ob := []) [(.iconst 0, 1, 0, 0, 0, 0)] [] (by decide +kernel) rfl xall_nil (xSee_nil _) rfl rfl ?_
  exact xRn.iret (by decide +kernel) rfl rfl ⟨_, _, _, rfl, rfl, h⟩
def w_M_closed_66   (K : Int32 → XS → List AE → Prop) : Nat → XS → List AE → Int32 → Int32 → Int32 → Int32 → Prop
  | 0, _, _, _, _, _, _ => False
  | n + 1, S, r, v1, v2, v3, v4 => ((v2 ≤ v4 → (w_M_numberAt S r v1 10 (fun x2 S3 r4 => ((¬ x2 = (v3 - v3 / 256 * 256) → (w_M_closed_127 K S3 r4)) ∧ (x2 = (v3 - v3 / 256 * 256) → (w_M_numberAt S3 r4 1 9 (fun x6 S7 r8 => ((¬ x6 = ((v2 - ((gA S7 12) (1 : Int32).toNatClampNeg)) - 1) → (w_M_closed_127 K S7 r8)) ∧ (x6 = ((v2 - ((gA S7 12) (1 : Int32).toNatClampNeg)) - 1) → (K 1 S7 r8)))))))))) ∧ (¬ v2 ≤ v4 → (vp_in v4 120) ∧ (w_M_closed_66 K n S r v1 v2 (v3 + ((gA S 9) v4.toNatClampNeg)) (v4 + 1))))
set_option maxRecDepth 100000 in
theorem t_M_closed_66 {G : XG} {l : Launch} {d : Nat} {K : Int32 → XS → List AE → Prop} : ∀ (n : Nat) (S : XS) (r : List AE) (v1 : Int32) (v2 : Int32) (v3 : Int32) (v4 : Int32), w_M_closed_66 K n S r v1 v2 v3 v4 → xRn G l (d + 2) xm_M_closed (pI K) 66 [.ref 24, .int v1, .int v2, .int v3, .int v4] [] (hL S r) := by
  intro n
  induction n with
  | zero => intro S r v1 v2 v3 v4 h; exact h.elim
  | succ n ih =>
    intro S r v1 v2 v3 v4 h
    refine xRn.blk (pc1 := 69) (ls1 := [.ref 24, .int v1, .int v2, .int v3, .int v4]) (st1 := [.int v2, .int v4]) (hp1 := (hL S r)) (ob := []) [(.iload 4, 2, 4, 0, 0, 0), (.iload_n 2, 1, 2, 0, 0, 0)] [] (by decide +kernel) rfl xall_nil (xSee_nil _) rfl rfl ?_
    refine xRn.ic_ge (tgt := 88) (nx := 72) (off := 19) (by decide +kernel) (by decide) rfl (fun c1 => ?_) (fun c1 => ?_)
    · have h := h.1 c1
      refine xRn.blk (pc1 := 92) (ls1 := [.ref 24, .int v1, .int v2, .int v3, .int v4]) (st1 := [.int 10, .int v1, .ref 24]) (hp1 := (hL S r)) (ob := []) [(.aload_n 0, 1, 0, 0, 0, 0), (.iload_n 1, 1, 1, 0, 0, 0), (.bipush 10, 2, 0, 0, 0, 10)] [] (by decide +kernel) rfl xall_nil (xSee_nil _) rfl rfl ?_
      refine xRn.callV (al := [.int v1, .int 10]) (st := []) (nx := 95) (by decide +kernel) lk_V_M_closed_155_M_numberAt_6_2 rfl rfl (c_M_numberAt (d := d + 0) S r v1 10 h) rfl (Nat.le_of_ble_eq_true rfl) rfl rfl ?_ ?_
      · rintro _ _ ⟨x2, S3, r4, e9, rfl, h⟩
        cases e9
        show xRn G l _ _ _ 95 [.ref 24, .int v1, .int v2, .int v3, .int v4] [.int x2] (hL S3 r4)
        refine xRn.blk (pc1 := 100) (ls1 := [.ref 24, .int v1, .int v2, .int v3, .int v4]) (st1 := [.int (v3 - v3 / 256 * 256), .int x2]) (hp1 := (hL S3 r4)) (ob := [¬ (256 : Int32) = 0]) [(.iload_n 3, 1, 3, 0, 0, 0), (.sipush 256, 3, 0, 0, 0, 256), (.irem, 1, 0, 0, 0, 0)] [] (by decide +kernel) rfl (xall_cons (by decide) xall_nil) (xSee_nil _) rfl rfl ?_
        refine xRn.ic_ne (tgt := 127) (nx := 103) (off := 27) (by decide +kernel) (by decide) rfl (fun c5 => ?_) (fun c5 => ?_)
        · have h := h.1 c5
          refine xRn.forget (xle_no (xle_no (xle_no (xle_no (xle_no xle_nil))))) ?_
          exact t_M_closed_127   S3 r4 h
        · have h := h.2 c5
          refine xRn.blk (pc1 := 107) (ls1 := [.ref 24, .int v1, .int v2, .int v3, .int v4]) (st1 := [.int 9, .int 1, .ref 24]) (hp1 := (hL S3 r4)) (ob := []) [(.aload_n 0, 1, 0, 0, 0, 0), (.iconst 1, 1, 0, 0, 0, 1), (.bipush 9, 2, 0, 0, 0, 9)] [] (by decide +kernel) rfl xall_nil (xSee_nil _) rfl rfl ?_
          refine xRn.callV (al := [.int 1, .int 9]) (st := []) (nx := 110) (by decide +kernel) lk_V_M_closed_155_M_numberAt_6_2 rfl rfl (c_M_numberAt (d := d + 0) S3 r4 1 9 h) rfl (Nat.le_of_ble_eq_true rfl) rfl rfl ?_ ?_
          · rintro _ _ ⟨x6, S7, r8, e9, rfl, h⟩
            cases e9
            show xRn G l _ _ _ 110 [.ref 24, .int v1, .int v2, .int v3, .int v4] [.int x6] (hL S7 r8)
            refine xRn.blk (pc1 := 120) (ls1 := [.ref 24, .int v1, .int v2, .int v3, .int v4]) (st1 := [.int ((v2 - ((gA S7 12) (1 : Int32).toNatClampNeg)) - 1), .int x6]) (hp1 := (hL S7 r8)) (ob := [(24 : Nat) = 24, (28 : Nat) = 28, vp_in 1 41]) [(.iload_n 2, 1, 2, 0, 0, 0), (.aload_n 0, 1, 0, 0, 0, 0), (.getfield 19, 3, 7, 6, 0, 0), (.iconst 1, 1, 0, 0, 0, 1), (.iaload, 1, 0, 0, 1, 0), (.isub, 1, 0, 0, 0, 0), (.iconst 1, 1, 0, 0, 0, 1), (.isub, 1, 0, 0, 0, 0)] [(24, xc8 S7), (28, xc12 S7)] (by decide +kernel) rfl (xall_cons rfl (xall_cons rfl (xall_cons (by unfold vp_in; decide) xall_nil))) (xSee_cons rfl (xne_cons (by decide) (xne_nil _)) (xSee_cons rfl (xne_nil _) (xSee_nil _))) rfl rfl ?_
            refine xRn.ic_ne (tgt := 127) (nx := 123) (off := 7) (by decide +kernel) (by decide) rfl (fun c9 => ?_) (fun c9 => ?_)
            · have h := h.1 c9
              refine xRn.forget (xle_no (xle_no (xle_no (xle_no (xle_no xle_nil))))) ?_
              exact t_M_closed_127   S7 r8 h
            · have h := h.2 c9
              refine xRn.blk (pc1 := 124) (ls1 := [.ref 24, .int v1, .int v2, .int v3, .int v4]) (st1 := [.int 1]) (hp1 := (hL S7 r8)) (ob := []) [(.iconst 1, 1, 0, 0, 0, 1)] [] (by decide +kernel) rfl xall_nil (xSee_nil _) rfl rfl ?_
              refine xRn.goto (tgt := 128) (off := 4) (by decide +kernel) (by decide) ?_
              exact xRn.iret (by decide +kernel) rfl rfl ⟨_, _, _, rfl, rfl, h⟩
          · rintro _ _ ⟨_, _, _, e9, _⟩
            cases e9
      · rintro _ _ ⟨_, _, _, e9, _⟩
        cases e9
    · have h := h.2 c1
      obtain ⟨o10, h⟩ := h
      refine xRn.blk (pc1 := 85) (ls1 := [.ref 24, .int v1, .int v2, .int (v3 + ((gA S 9) v4.toNatClampNeg)), .int (v4 + 1)]) (st1 := []) (hp1 := (hL S r)) (ob := [(24 : Nat) = 24, (25 : Nat) = 25, vp_in v4 120]) [(.iload_n 3, 1, 3, 0, 0, 0), (.aload_n 0, 1, 0, 0, 0, 0), (.getfield 7, 3, 3, 6, 0, 0), (.iload 4, 2, 4, 0, 0, 0), (.iaload, 1, 0, 0, 1, 0), (.iadd, 1, 0, 0, 0, 0), (.istore_n 3, 1, 3, 0, 0, 0), (.iinc 4 1, 3, 4, 0, 0, 1)] [(24, xc8 S), (25, xc9 S)] (by decide +kernel) rfl (xall_cons rfl (xall_cons rfl (xall_cons o10 xall_nil))) (xSee_cons rfl (xne_cons (by decide) (xne_nil _)) (xSee_cons rfl (xne_nil _) (xSee_nil _))) rfl rfl ?_
      refine xRn.goto (tgt := 66) (off := (-19)) (by decide +kernel) (by decide) ?_
      refine xRn.forget (xle_eq (xle_eq (xle_eq (xle_eq (xle_eq xle_nil))))) ?_
      exact ih S r v1 v2 (v3 + ((gA S 9) v4.toNatClampNeg)) (v4 + 1) h
def w_M_closed_50   (K : Int32 → XS → List AE → Prop) (S : XS) (r : List AE) : Prop :=
  (K 0 S r)
set_option maxRecDepth 100000 in
theorem t_M_closed_50 {G : XG} {l : Launch} {d : Nat} {K : Int32 → XS → List AE → Prop} (S : XS) (r : List AE) (h : w_M_closed_50 K S r) : xRn G l (d + 2) xm_M_closed (pI K) 50 [.null, .null, .null, .null, .null] [] (hL S r) := by
  refine xRn.blk (pc1 := 51) (ls1 := [.null, .null, .null, .null, .null]) (st1 := [.int 0]) (hp1 := (hL S r)) (ob := []) [(.iconst 0, 1, 0, 0, 0, 0)] [] (by decide +kernel) rfl xall_nil (xSee_nil _) rfl rfl ?_
  exact xRn.iret (by decide +kernel) rfl rfl ⟨_, _, _, rfl, rfl, h⟩
def w_M_closed  (S : XS) (r : List AE) (K : Int32 → XS → List AE → Prop) : Prop :=
  ((((gF S 804) - 1) < (4 : Int32) → (w_M_closed_50 K S r)) ∧ (¬ ((gF S 804) - 1) < (4 : Int32) → (vp_in ((gF S 804) - 1) 41) ∧ ((¬ ((gA S 10) ((gF S 804) - 1).toNatClampNeg) = (10 : Int32) → (w_M_closed_50 K S r)) ∧ (((gA S 10) ((gF S 804) - 1).toNatClampNeg) = (10 : Int32) → (vp_in ((gF S 804) - 1) 41) ∧ (vp_in ((gF S 804) - 1) 41) ∧ ((¬ (((gA S 12) ((gF S 804) - 1).toNatClampNeg) - ((gA S 11) ((gF S 804) - 1).toNatClampNeg)) = (3 : Int32) → (w_M_closed_50 K S r)) ∧ ((((gA S 12) ((gF S 804) - 1).toNatClampNeg) - ((gA S 11) ((gF S 804) - 1).toNatClampNeg)) = (3 : Int32) → (w_M_numberAt S r ((gF S 804) - 1) 10 (fun x17 S18 r19 => ((0 ≤ x17 → (vp_in ((gF S 804) - 1) 41) ∧ (∃ j, w_M_closed_66 K j S18 r19 ((gF S 804) - 1) (((gA S18 11) ((gF S 804) - 1).toNatClampNeg) - 3) 0 0)) ∧ (¬ 0 ≤ x17 → (w_M_closed_50 K S18 r19)))))))))))
set_option maxRecDepth 100000 in
theorem c_M_closed {G : XG} {l : Launch} {d : Nat} (S : XS) (r : List AE) {K : Int32 → XS → List AE → Prop} (h : w_M_closed  S r K) : xCt G l (d + 2) xm_M_closed [.ref 24] (hL S r) (pI K) := by
  refine xCt.intro (by decide) (by decide) (List.forall_mem_cons.mpr ⟨rfl, (fun _ h => by cases h)⟩) (Nat.le_of_ble_eq_true rfl) rfl ?_
  show xRn G l _ xm_M_closed _ 0 [.ref 24, .null, .null, .null, .null] [] (hL S r)
  refine xRn.blk (pc1 := 9) (ls1 := [.ref 24, .int ((gF S 804) - 1), .null, .null, .null]) (st1 := [.int 4, .int ((gF S 804) - 1)]) (hp1 := (hL S r)) (ob := [(24 : Nat) = 24]) [(.aload_n 0, 1, 0, 0, 0, 0), (.getfield 149, 3, 4, 6, 0, 0), (.iconst 1, 1, 0, 0, 0, 1), (.isub, 1, 0, 0, 0, 0), (.istore_n 1, 1, 1, 0, 0, 0), (.iload_n 1, 1, 1, 0, 0, 0), (.iconst 4, 1, 0, 0, 0, 4)] [(24, xc8 S)] (by decide +kernel) rfl (xall_cons rfl xall_nil) (xSee_cons rfl (xne_nil _) (xSee_nil _)) rfl rfl ?_
  refine xRn.ic_lt (tgt := 50) (nx := 12) (off := 41) (by decide +kernel) (by decide) rfl (fun c11 => ?_) (fun c11 => ?_)
  · have h := h.1 c11
    refine xRn.forget (xle_no (xle_no (xle_eq (xle_eq (xle_eq xle_nil))))) ?_
    exact t_M_closed_50   S r h
  · have h := h.2 c11
    obtain ⟨o12, h⟩ := h
    refine xRn.blk (pc1 := 20) (ls1 := [.ref 24, .int ((gF S 804) - 1), .null, .null, .null]) (st1 := [.int 10, .int ((gA S 10) ((gF S 804) - 1).toNatClampNeg)]) (hp1 := (hL S r)) (ob := [(24 : Nat) = 24, (26 : Nat) = 26, vp_in ((gF S 804) - 1) 41]) [(.aload_n 0, 1, 0, 0, 0, 0), (.getfield 13, 3, 5, 6, 0, 0), (.iload_n 1, 1, 1, 0, 0, 0), (.iaload, 1, 0, 0, 1, 0), (.bipush 10, 2, 0, 0, 0, 10)] [(24, xc8 S), (26, xc10 S)] (by decide +kernel) rfl (xall_cons rfl (xall_cons rfl (xall_cons o12 xall_nil))) (xSee_cons rfl (xne_cons (by decide) (xne_nil _)) (xSee_cons rfl (xne_nil _) (xSee_nil _))) rfl rfl ?_
    refine xRn.ic_ne (tgt := 50) (nx := 23) (off := 30) (by decide +kernel) (by decide) rfl (fun c13 => ?_) (fun c13 => ?_)
    · have h := h.1 c13
      refine xRn.forget (xle_no (xle_no (xle_eq (xle_eq (xle_eq xle_nil))))) ?_
      exact t_M_closed_50   S r h
    · have h := h.2 c13
      obtain ⟨o14, o15, h⟩ := h
      refine xRn.blk (pc1 := 37) (ls1 := [.ref 24, .int ((gF S 804) - 1), .null, .null, .null]) (st1 := [.int 3, .int (((gA S 12) ((gF S 804) - 1).toNatClampNeg) - ((gA S 11) ((gF S 804) - 1).toNatClampNeg))]) (hp1 := (hL S r)) (ob := [(24 : Nat) = 24, (28 : Nat) = 28, vp_in ((gF S 804) - 1) 41, (24 : Nat) = 24, (27 : Nat) = 27, vp_in ((gF S 804) - 1) 41]) [(.aload_n 0, 1, 0, 0, 0, 0), (.getfield 19, 3, 7, 6, 0, 0), (.iload_n 1, 1, 1, 0, 0, 0), (.iaload, 1, 0, 0, 1, 0), (.aload_n 0, 1, 0, 0, 0, 0), (.getfield 16, 3, 6, 6, 0, 0), (.iload_n 1, 1, 1, 0, 0, 0), (.iaload, 1, 0, 0, 2, 0), (.isub, 1, 0, 0, 0, 0), (.iconst 3, 1, 0, 0, 0, 3)] [(24, xc8 S), (28, xc12 S), (27, xc11 S)] (by decide +kernel) rfl (xall_cons rfl (xall_cons rfl (xall_cons o14 (xall_cons rfl (xall_cons rfl (xall_cons o15 xall_nil)))))) (xSee_cons rfl (xne_cons (by decide) (xne_cons (by decide) (xne_nil _))) (xSee_cons rfl (xne_cons (by decide) (xne_nil _)) (xSee_cons rfl (xne_nil _) (xSee_nil _)))) rfl rfl ?_
      refine xRn.ic_ne (tgt := 50) (nx := 40) (off := 13) (by decide +kernel) (by decide) rfl (fun c16 => ?_) (fun c16 => ?_)
      · have h := h.1 c16
        refine xRn.forget (xle_no (xle_no (xle_eq (xle_eq (xle_eq xle_nil))))) ?_
        exact t_M_closed_50   S r h
      · have h := h.2 c16
        refine xRn.blk (pc1 := 44) (ls1 := [.ref 24, .int ((gF S 804) - 1), .null, .null, .null]) (st1 := [.int 10, .int ((gF S 804) - 1), .ref 24]) (hp1 := (hL S r)) (ob := []) [(.aload_n 0, 1, 0, 0, 0, 0), (.iload_n 1, 1, 1, 0, 0, 0), (.bipush 10, 2, 0, 0, 0, 10)] [] (by decide +kernel) rfl xall_nil (xSee_nil _) rfl rfl ?_
        refine xRn.callV (al := [.int ((gF S 804) - 1), .int 10]) (st := []) (nx := 47) (by decide +kernel) lk_V_M_closed_155_M_numberAt_6_2 rfl rfl (c_M_numberAt (d := d + 0) S r ((gF S 804) - 1) 10 h) rfl (Nat.le_of_ble_eq_true rfl) rfl rfl ?_ ?_
        · rintro _ _ ⟨x17, S18, r19, e9, rfl, h⟩
          cases e9
          show xRn G l _ _ _ 47 [.ref 24, .int ((gF S 804) - 1), .null, .null, .null] [.int x17] (hL S18 r19)
          refine xRn.if_ge (tgt := 52) (nx := 50) (off := 5) (by decide +kernel) (by decide) rfl (fun c20 => ?_) (fun c20 => ?_)
          · have h := h.1 c20
            obtain ⟨o21, h⟩ := h
            refine xRn.blk (pc1 := 66) (ls1 := [.ref 24, .int ((gF S 804) - 1), .int (((gA S18 11) ((gF S 804) - 1).toNatClampNeg) - 3), .int 0, .int 0]) (st1 := []) (hp1 := (hL S18 r19)) (ob := [(24 : Nat) = 24, (27 : Nat) = 27, vp_in ((gF S 804) - 1) 41]) [(.aload_n 0, 1, 0, 0, 0, 0), (.getfield 16, 3, 6, 6, 0, 0), (.iload_n 1, 1, 1, 0, 0, 0), (.iaload, 1, 0, 0, 1, 0), (.iconst 3, 1, 0, 0, 0, 3), (.isub, 1, 0, 0, 0, 0), (.istore_n 2, 1, 2, 0, 0, 0), (.iconst 0, 1, 0, 0, 0, 0), (.istore_n 3, 1, 3, 0, 0, 0), (.iconst 0, 1, 0, 0, 0, 0), (.istore 4, 2, 4, 0, 0, 0)] [(24, xc8 S18), (27, xc11 S18)] (by decide +kernel) rfl (xall_cons rfl (xall_cons rfl (xall_cons o21 xall_nil))) (xSee_cons rfl (xne_cons (by decide) (xne_nil _)) (xSee_cons rfl (xne_nil _) (xSee_nil _))) rfl rfl ?_
            refine xRn.forget (xle_eq (xle_eq (xle_eq (xle_eq (xle_eq xle_nil))))) ?_
            obtain ⟨n22, h⟩ := h
            exact t_M_closed_66   n22 S18 r19 ((gF S 804) - 1) (((gA S18 11) ((gF S 804) - 1).toNatClampNeg) - 3) 0 0 h
          · have h := h.2 c20
            refine xRn.forget (xle_no (xle_no (xle_eq (xle_eq (xle_eq xle_nil))))) ?_
            exact t_M_closed_50   S18 r19 h
        · rintro _ _ ⟨_, _, _, e9, _⟩
          cases e9
/-! M_good -/
def w_M_good_361   (K : Int32 → XS → List AE → Prop) (S : XS) (r : List AE) : Prop :=
  (K 0 S r)
set_option maxRecDepth 100000 in
theorem t_M_good_361 {G : XG} {l : Launch} {d : Nat} {K : Int32 → XS → List AE → Prop} (S : XS) (r : List AE) (h : w_M_good_361 K S r) : xRn G l (d + 3) xm_M_good (pI K) 361 [.null, .null, .null, .null, .null, .null] [] (hL S r) := by
  refine xRn.blk (pc1 := 362) (ls1 := [.null, .null, .null, .null, .null, .null]) (st1 := [.int 0]) (hp1 := (hL S r)) (ob := []) [(.iconst 0, 1, 0, 0, 0, 0)] [] (by decide +kernel) rfl xall_nil (xSee_nil _) rfl rfl ?_
  exact xRn.iret (by decide +kernel) rfl rfl ⟨_, _, _, rfl, rfl, h⟩
def w_M_good_337 (k186 : XS → List AE → Int32 → Int32 → Int32 → Prop)  (K : Int32 → XS → List AE → Prop) (S : XS) (r : List AE) (v1 : Int32) (v2 : Int32) (v3 : Int32) : Prop :=
  (k186 S r v1 v2 (v3 + 1))
set_option maxRecDepth 100000 in
theorem t_M_good_337 {G : XG} {l : Launch} {d : Nat} {k186 : XS → List AE → Int32 → Int32 → Int32 → Prop} {K : Int32 → XS → List AE → Prop} (hk186 : ∀ (S : XS) (r : List AE) (v1 : Int32) (v2 : Int32) (v3 : Int32), k186 S r v1 v2 v3 → xRn G l (d + 3) xm_M_good (pI K) 186 [.ref 24, .int v1, .int v2, .int v3, .null, .null] [] (hL S r)) (S : XS) (r : List AE) (v1 : Int32) (v2 : Int32) (v3 : Int32) (h : w_M_good_337 k186 K S r v1 v2 v3) : xRn G l (d + 3) xm_M_good (pI K) 337 [.ref 24, .int v1, .int v2, .int v3, .null, .null] [] (hL S r) := by
  refine xRn.blk (pc1 := 340) (ls1 := [.ref 24, .int v1, .int v2, .int (v3 + 1), .null, .null]) (st1 := []) (hp1 := (hL S r)) (ob := []) [(.iinc 3 1, 3, 3, 0, 0, 1)] [] (by decide +kernel) rfl xall_nil (xSee_nil _) rfl rfl ?_
  refine xRn.goto (tgt := 186) (off := (-154)) (by decide +kernel) (by decide) ?_
  refine xRn.forget (xle_eq (xle_eq (xle_eq (xle_eq (xle_eq (xle_eq xle_nil)))))) ?_
  exact hk186 S r v1 v2 (v3 + 1) h
def w_M_good_334 (k186 : XS → List AE → Int32 → Int32 → Int32 → Prop)  (K : Int32 → XS → List AE → Prop) (S : XS) (r : List AE) (v1 : Int32) (v2 : Int32) (v3 : Int32) : Prop :=
  (w_M_good_337 k186 K S r (v1 + 1) v2 v3)
set_option maxRecDepth 100000 in
theorem t_M_good_334 {G : XG} {l : Launch} {d : Nat} {k186 : XS → List AE → Int32 → Int32 → Int32 → Prop} {K : Int32 → XS → List AE → Prop} (hk186 : ∀ (S : XS) (r : List AE) (v1 : Int32) (v2 : Int32) (v3 : Int32), k186 S r v1 v2 v3 → xRn G l (d + 3) xm_M_good (pI K) 186 [.ref 24, .int v1, .int v2, .int v3, .null, .null] [] (hL S r)) (S : XS) (r : List AE) (v1 : Int32) (v2 : Int32) (v3 : Int32) (h : w_M_good_334 k186 K S r v1 v2 v3) : xRn G l (d + 3) xm_M_good (pI K) 334 [.ref 24, .int v1, .int v2, .int v3, .null, .null] [] (hL S r) := by
  refine xRn.blk (pc1 := 337) (ls1 := [.ref 24, .int (v1 + 1), .int v2, .int v3, .null, .null]) (st1 := []) (hp1 := (hL S r)) (ob := []) [(.iinc 1 1, 3, 1, 0, 0, 1)] [] (by decide +kernel) rfl xall_nil (xSee_nil _) rfl rfl ?_
  refine xRn.forget (xle_eq (xle_eq (xle_eq (xle_eq (xle_eq (xle_eq xle_nil)))))) ?_
  exact t_M_good_337  hk186 S r (v1 + 1) v2 v3 h
def w_M_good_316 (k186 : XS → List AE → Int32 → Int32 → Int32 → Prop)  (K : Int32 → XS → List AE → Prop) (S : XS) (r : List AE) (v1 : Int32) (v2 : Int32) (v3 : Int32) (v5 : Int32) : Prop :=
  ((¬ v3 = (2 : Int32) → (w_M_good_334 k186 K (sF S 812 (gF S 812)) r v1 v2 v3)) ∧ (v3 = (2 : Int32) → (w_M_good_334 k186 K (sF S 812 v5) r v1 v2 v3)))
set_option maxRecDepth 100000 in
theorem t_M_good_316 {G : XG} {l : Launch} {d : Nat} {k186 : XS → List AE → Int32 → Int32 → Int32 → Prop} {K : Int32 → XS → List AE → Prop} (hk186 : ∀ (S : XS) (r : List AE) (v1 : Int32) (v2 : Int32) (v3 : Int32), k186 S r v1 v2 v3 → xRn G l (d + 3) xm_M_good (pI K) 186 [.ref 24, .int v1, .int v2, .int v3, .null, .null] [] (hL S r)) (S : XS) (r : List AE) (v1 : Int32) (v2 : Int32) (v3 : Int32) (v5 : Int32) (h : w_M_good_316 k186 K S r v1 v2 v3 v5) : xRn G l (d + 3) xm_M_good (pI K) 316 [.ref 24, .int v1, .int v2, .int v3, .null, .int v5] [] (hL S r) := by
  refine xRn.blk (pc1 := 319) (ls1 := [.ref 24, .int v1, .int v2, .int v3, .null, .int v5]) (st1 := [.int 2, .int v3, .ref 24]) (hp1 := (hL S r)) (ob := []) [(.aload_n 0, 1, 0, 0, 0, 0), (.iload_n 3, 1, 3, 0, 0, 0), (.iconst 2, 1, 0, 0, 0, 2)] [] (by decide +kernel) rfl xall_nil (xSee_nil _) rfl rfl ?_
  refine xRn.ic_ne (tgt := 327) (nx := 322) (off := 8) (by decide +kernel) (by decide) rfl (fun c1 => ?_) (fun c1 => ?_)
  · have h := h.1 c1
    refine xRn.blk (pc1 := 334) (ls1 := [.ref 24, .int v1, .int v2, .int v3, .null, .int v5]) (st1 := []) (hp1 := (hL (sF S 812 (gF S 812)) r)) (ob := [(24 : Nat) = 24, (24 : Nat) = 24]) [(.aload_n 0, 1, 0, 0, 0, 0), (.getfield 183, 3, 12, 6, 0, 0), (.putfield 183, 3, 12, 6, 0, 0)] [(24, xc8 S)] (by decide +kernel) rfl (xall_cons rfl (xall_cons rfl xall_nil)) (xSee_cons rfl (xne_nil _) (xSee_nil _)) rfl rfl ?_
    refine xRn.forget (xle_eq (xle_eq (xle_eq (xle_eq (xle_eq (xle_no xle_nil)))))) ?_
    exact t_M_good_334  hk186 (sF S 812 (gF S 812)) r v1 v2 v3 h
  · have h := h.2 c1
    refine xRn.blk (pc1 := 324) (ls1 := [.ref 24, .int v1, .int v2, .int v3, .null, .int v5]) (st1 := [.int v5, .ref 24]) (hp1 := (hL S r)) (ob := []) [(.iload 5, 2, 5, 0, 0, 0)] [] (by decide +kernel) rfl xall_nil (xSee_nil _) rfl rfl ?_
    refine xRn.goto (tgt := 331) (off := 7) (by decide +kernel) (by decide) ?_
    refine xRn.blk (pc1 := 334) (ls1 := [.ref 24, .int v1, .int v2, .int v3, .null, .int v5]) (st1 := []) (hp1 := (hL (sF S 812 v5) r)) (ob := [(24 : Nat) = 24]) [(.putfield 183, 3, 12, 6, 0, 0)] [(24, xc8 S)] (by decide +kernel) rfl (xall_cons rfl xall_nil) (xSee_cons rfl (xne_nil _) (xSee_nil _)) rfl rfl ?_
    refine xRn.forget (xle_eq (xle_eq (xle_eq (xle_eq (xle_eq (xle_no xle_nil)))))) ?_
    exact t_M_good_334  hk186 (sF S 812 v5) r v1 v2 v3 h
def w_M_good_298 (k186 : XS → List AE → Int32 → Int32 → Int32 → Prop)  (K : Int32 → XS → List AE → Prop) (S : XS) (r : List AE) (v1 : Int32) (v2 : Int32) (v3 : Int32) (v5 : Int32) : Prop :=
  ((¬ v3 = (1 : Int32) → (w_M_good_316 k186 K (sF S 811 (gF S 811)) r v1 v2 v3 v5)) ∧ (v3 = (1 : Int32) → (w_M_good_316 k186 K (sF S 811 v5) r v1 v2 v3 v5)))
set_option maxRecDepth 100000 in
theorem t_M_good_298 {G : XG} {l : Launch} {d : Nat} {k186 : XS → List AE → Int32 → Int32 → Int32 → Prop} {K : Int32 → XS → List AE → Prop} (hk186 : ∀ (S : XS) (r : List AE) (v1 : Int32) (v2 : Int32) (v3 : Int32), k186 S r v1 v2 v3 → xRn G l (d + 3) xm_M_good (pI K) 186 [.ref 24, .int v1, .int v2, .int v3, .null, .null] [] (hL S r)) (S : XS) (r : List AE) (v1 : Int32) (v2 : Int32) (v3 : Int32) (v5 : Int32) (h : w_M_good_298 k186 K S r v1 v2 v3 v5) : xRn G l (d + 3) xm_M_good (pI K) 298 [.ref 24, .int v1, .int v2, .int v3, .null, .int v5] [] (hL S r) := by
  refine xRn.blk (pc1 := 301) (ls1 := [.ref 24, .int v1, .int v2, .int v3, .null, .int v5]) (st1 := [.int 1, .int v3, .ref 24]) (hp1 := (hL S r)) (ob := []) [(.aload_n 0, 1, 0, 0, 0, 0), (.iload_n 3, 1, 3, 0, 0, 0), (.iconst 1, 1, 0, 0, 0, 1)] [] (by decide +kernel) rfl xall_nil (xSee_nil _) rfl rfl ?_
  refine xRn.ic_ne (tgt := 309) (nx := 304) (off := 8) (by decide +kernel) (by decide) rfl (fun c2 => ?_) (fun c2 => ?_)
  · have h := h.1 c2
    refine xRn.blk (pc1 := 316) (ls1 := [.ref 24, .int v1, .int v2, .int v3, .null, .int v5]) (st1 := []) (hp1 := (hL (sF S 811 (gF S 811)) r)) (ob := [(24 : Nat) = 24, (24 : Nat) = 24]) [(.aload_n 0, 1, 0, 0, 0, 0), (.getfield 180, 3, 11, 6, 0, 0), (.putfield 180, 3, 11, 6, 0, 0)] [(24, xc8 S)] (by decide +kernel) rfl (xall_cons rfl (xall_cons rfl xall_nil)) (xSee_cons rfl (xne_nil _) (xSee_nil _)) rfl rfl ?_
    refine xRn.forget (xle_eq (xle_eq (xle_eq (xle_eq (xle_eq (xle_eq xle_nil)))))) ?_
    exact t_M_good_316  hk186 (sF S 811 (gF S 811)) r v1 v2 v3 v5 h
  · have h := h.2 c2
    refine xRn.blk (pc1 := 306) (ls1 := [.ref 24, .int v1, .int v2, .int v3, .null, .int v5]) (st1 := [.int v5, .ref 24]) (hp1 := (hL S r)) (ob := []) [(.iload 5, 2, 5, 0, 0, 0)] [] (by decide +kernel) rfl xall_nil (xSee_nil _) rfl rfl ?_
    refine xRn.goto (tgt := 313) (off := 7) (by decide +kernel) (by decide) ?_
    refine xRn.blk (pc1 := 316) (ls1 := [.ref 24, .int v1, .int v2, .int v3, .null, .int v5]) (st1 := []) (hp1 := (hL (sF S 811 v5) r)) (ob := [(24 : Nat) = 24]) [(.putfield 180, 3, 11, 6, 0, 0)] [(24, xc8 S)] (by decide +kernel) rfl (xall_cons rfl xall_nil) (xSee_cons rfl (xne_nil _) (xSee_nil _)) rfl rfl ?_
    refine xRn.forget (xle_eq (xle_eq (xle_eq (xle_eq (xle_eq (xle_eq xle_nil)))))) ?_
    exact t_M_good_316  hk186 (sF S 811 v5) r v1 v2 v3 v5 h
def w_M_good_281 (k186 : XS → List AE → Int32 → Int32 → Int32 → Prop)  (K : Int32 → XS → List AE → Prop) (S : XS) (r : List AE) (v1 : Int32) (v2 : Int32) (v3 : Int32) (v5 : Int32) : Prop :=
  ((¬ v3 = 0 → (w_M_good_298 k186 K (sF S 810 (gF S 810)) r v1 v2 v3 v5)) ∧ (v3 = 0 → (w_M_good_298 k186 K (sF S 810 v5) r v1 v2 v3 v5)))
set_option maxRecDepth 100000 in
theorem t_M_good_281 {G : XG} {l : Launch} {d : Nat} {k186 : XS → List AE → Int32 → Int32 → Int32 → Prop} {K : Int32 → XS → List AE → Prop} (hk186 : ∀ (S : XS) (r : List AE) (v1 : Int32) (v2 : Int32) (v3 : Int32), k186 S r v1 v2 v3 → xRn G l (d + 3) xm_M_good (pI K) 186 [.ref 24, .int v1, .int v2, .int v3, .null, .null] [] (hL S r)) (S : XS) (r : List AE) (v1 : Int32) (v2 : Int32) (v3 : Int32) (v5 : Int32) (h : w_M_good_281 k186 K S r v1 v2 v3 v5) : xRn G l (d + 3) xm_M_good (pI K) 281 [.ref 24, .int v1, .int v2, .int v3, .null, .int v5] [] (hL S r) := by
  refine xRn.blk (pc1 := 283) (ls1 := [.ref 24, .int v1, .int v2, .int v3, .null, .int v5]) (st1 := [.int v3, .ref 24]) (hp1 := (hL S r)) (ob := []) [(.aload_n 0, 1, 0, 0, 0, 0), (.iload_n 3, 1, 3, 0, 0, 0)] [] (by decide +kernel) rfl xall_nil (xSee_nil _) rfl rfl ?_
  refine xRn.if_ne (tgt := 291) (nx := 286) (off := 8) (by decide +kernel) (by decide) rfl (fun c3 => ?_) (fun c3 => ?_)
  · have h := h.1 c3
    refine xRn.blk (pc1 := 298) (ls1 := [.ref 24, .int v1, .int v2, .int v3, .null, .int v5]) (st1 := []) (hp1 := (hL (sF S 810 (gF S 810)) r)) (ob := [(24 : Nat) = 24, (24 : Nat) = 24]) [(.aload_n 0, 1, 0, 0, 0, 0), (.getfield 177, 3, 10, 6, 0, 0), (.putfield 177, 3, 10, 6, 0, 0)] [(24, xc8 S)] (by decide +kernel) rfl (xall_cons rfl (xall_cons rfl xall_nil)) (xSee_cons rfl (xne_nil _) (xSee_nil _)) rfl rfl ?_
    refine xRn.forget (xle_eq (xle_eq (xle_eq (xle_eq (xle_eq (xle_eq xle_nil)))))) ?_
    exact t_M_good_298  hk186 (sF S 810 (gF S 810)) r v1 v2 v3 v5 h
  · have h := h.2 c3
    refine xRn.blk (pc1 := 288) (ls1 := [.ref 24, .int v1, .int v2, .int v3, .null, .int v5]) (st1 := [.int v5, .ref 24]) (hp1 := (hL S r)) (ob := []) [(.iload 5, 2, 5, 0, 0, 0)] [] (by decide +kernel) rfl xall_nil (xSee_nil _) rfl rfl ?_
    refine xRn.goto (tgt := 295) (off := 7) (by decide +kernel) (by decide) ?_
    refine xRn.blk (pc1 := 298) (ls1 := [.ref 24, .int v1, .int v2, .int v3, .null, .int v5]) (st1 := []) (hp1 := (hL (sF S 810 v5) r)) (ob := [(24 : Nat) = 24]) [(.putfield 177, 3, 10, 6, 0, 0)] [(24, xc8 S)] (by decide +kernel) rfl (xall_cons rfl xall_nil) (xSee_cons rfl (xne_nil _) (xSee_nil _)) rfl rfl ?_
    refine xRn.forget (xle_eq (xle_eq (xle_eq (xle_eq (xle_eq (xle_eq xle_nil)))))) ?_
    exact t_M_good_298  hk186 (sF S 810 v5) r v1 v2 v3 v5 h
def w_M_good_279 (k186 : XS → List AE → Int32 → Int32 → Int32 → Prop)  (K : Int32 → XS → List AE → Prop) (S : XS) (r : List AE) (v1 : Int32) (v3 : Int32) (v5 : Int32) : Prop :=
  (w_M_good_281 k186 K S r v1 0 v3 v5)
set_option maxRecDepth 100000 in
theorem t_M_good_279 {G : XG} {l : Launch} {d : Nat} {k186 : XS → List AE → Int32 → Int32 → Int32 → Prop} {K : Int32 → XS → List AE → Prop} (hk186 : ∀ (S : XS) (r : List AE) (v1 : Int32) (v2 : Int32) (v3 : Int32), k186 S r v1 v2 v3 → xRn G l (d + 3) xm_M_good (pI K) 186 [.ref 24, .int v1, .int v2, .int v3, .null, .null] [] (hL S r)) (S : XS) (r : List AE) (v1 : Int32) (v3 : Int32) (v5 : Int32) (h : w_M_good_279 k186 K S r v1 v3 v5) : xRn G l (d + 3) xm_M_good (pI K) 279 [.ref 24, .int v1, .null, .int v3, .null, .int v5] [] (hL S r) := by
  refine xRn.blk (pc1 := 281) (ls1 := [.ref 24, .int v1, .int 0, .int v3, .null, .int v5]) (st1 := []) (hp1 := (hL S r)) (ob := []) [(.iconst 0, 1, 0, 0, 0, 0), (.istore_n 2, 1, 2, 0, 0, 0)] [] (by decide +kernel) rfl xall_nil (xSee_nil _) rfl rfl ?_
  refine xRn.forget (xle_eq (xle_eq (xle_eq (xle_eq (xle_eq (xle_eq xle_nil)))))) ?_
  exact t_M_good_281  hk186 S r v1 0 v3 v5 h
def w_M_good_275 (k186 : XS → List AE → Int32 → Int32 → Int32 → Prop)  (K : Int32 → XS → List AE → Prop) (S : XS) (r : List AE) (v1 : Int32) (v3 : Int32) (v5 : Int32) : Prop :=
  (w_M_good_281 k186 K S r v1 1 v3 v5)
set_option maxRecDepth 100000 in
theorem t_M_good_275 {G : XG} {l : Launch} {d : Nat} {k186 : XS → List AE → Int32 → Int32 → Int32 → Prop} {K : Int32 → XS → List AE → Prop} (hk186 : ∀ (S : XS) (r : List AE) (v1 : Int32) (v2 : Int32) (v3 : Int32), k186 S r v1 v2 v3 → xRn G l (d + 3) xm_M_good (pI K) 186 [.ref 24, .int v1, .int v2, .int v3, .null, .null] [] (hL S r)) (S : XS) (r : List AE) (v1 : Int32) (v3 : Int32) (v5 : Int32) (h : w_M_good_275 k186 K S r v1 v3 v5) : xRn G l (d + 3) xm_M_good (pI K) 275 [.ref 24, .int v1, .null, .int v3, .null, .int v5] [] (hL S r) := by
  refine xRn.blk (pc1 := 276) (ls1 := [.ref 24, .int v1, .null, .int v3, .null, .int v5]) (st1 := [.int 1]) (hp1 := (hL S r)) (ob := []) [(.iconst 1, 1, 0, 0, 0, 1)] [] (by decide +kernel) rfl xall_nil (xSee_nil _) rfl rfl ?_
  refine xRn.goto (tgt := 280) (off := 4) (by decide +kernel) (by decide) ?_
  refine xRn.blk (pc1 := 281) (ls1 := [.ref 24, .int v1, .int 1, .int v3, .null, .int v5]) (st1 := []) (hp1 := (hL S r)) (ob := []) [(.istore_n 2, 1, 2, 0, 0, 0)] [] (by decide +kernel) rfl xall_nil (xSee_nil _) rfl rfl ?_
  refine xRn.forget (xle_eq (xle_eq (xle_eq (xle_eq (xle_eq (xle_eq xle_nil)))))) ?_
  exact t_M_good_281  hk186 S r v1 1 v3 v5 h
def w_M_good_239 (k186 : XS → List AE → Int32 → Int32 → Int32 → Prop)  (K : Int32 → XS → List AE → Prop) (S : XS) (r : List AE) (v1 : Int32) (v2 : Int32) (v3 : Int32) (v5 : Int32) : Prop :=
  ((v2 = 0 → (w_M_good_279 k186 K S r v1 v3 v5)) ∧ (¬ v2 = 0 → ((v5 < 0 → (w_M_good_279 k186 K S r v1 v3 v5)) ∧ (¬ v5 < 0 → ((¬ (gF S 808) = (52 : Int32) → (w_M_good_275 k186 K S r v1 v3 v5)) ∧ ((gF S 808) = (52 : Int32) → ((v3 = 0 → (w_M_good_275 k186 K S r v1 v3 v5)) ∧ (¬ v3 = 0 → ((v5 = (89 : Int32) → (w_M_good_275 k186 K S r v1 v3 v5)) ∧ (¬ v5 = (89 : Int32) → ((¬ v5 = (78 : Int32) → (w_M_good_279 k186 K S r v1 v3 v5)) ∧ (v5 = (78 : Int32) → (w_M_good_275 k186 K S r v1 v3 v5)))))))))))))
set_option maxRecDepth 100000 in
theorem t_M_good_239 {G : XG} {l : Launch} {d : Nat} {k186 : XS → List AE → Int32 → Int32 → Int32 → Prop} {K : Int32 → XS → List AE → Prop} (hk186 : ∀ (S : XS) (r : List AE) (v1 : Int32) (v2 : Int32) (v3 : Int32), k186 S r v1 v2 v3 → xRn G l (d + 3) xm_M_good (pI K) 186 [.ref 24, .int v1, .int v2, .int v3, .null, .null] [] (hL S r)) (S : XS) (r : List AE) (v1 : Int32) (v2 : Int32) (v3 : Int32) (v5 : Int32) (h : w_M_good_239 k186 K S r v1 v2 v3 v5) : xRn G l (d + 3) xm_M_good (pI K) 239 [.ref 24, .int v1, .int v2, .int v3, .null, .int v5] [] (hL S r) := by
  refine xRn.blk (pc1 := 240) (ls1 := [.ref 24, .int v1, .int v2, .int v3, .null, .int v5]) (st1 := [.int v2]) (hp1 := (hL S r)) (ob := []) [(.iload_n 2, 1, 2, 0, 0, 0)] [] (by decide +kernel) rfl xall_nil (xSee_nil _) rfl rfl ?_
  refine xRn.if_eq (tgt := 279) (nx := 243) (off := 39) (by decide +kernel) (by decide) rfl (fun c4 => ?_) (fun c4 => ?_)
  · have h := h.1 c4
    refine xRn.forget (xle_eq (xle_eq (xle_no (xle_eq (xle_eq (xle_eq xle_nil)))))) ?_
    exact t_M_good_279  hk186 S r v1 v3 v5 h
  · have h := h.2 c4
    refine xRn.blk (pc1 := 245) (ls1 := [.ref 24, .int v1, .int v2, .int v3, .null, .int v5]) (st1 := [.int v5]) (hp1 := (hL S r)) (ob := []) [(.iload 5, 2, 5, 0, 0, 0)] [] (by decide +kernel) rfl xall_nil (xSee_nil _) rfl rfl ?_
    refine xRn.if_lt (tgt := 279) (nx := 248) (off := 34) (by decide +kernel) (by decide) rfl (fun c5 => ?_) (fun c5 => ?_)
    · have h := h.1 c5
      refine xRn.forget (xle_eq (xle_eq (xle_no (xle_eq (xle_eq (xle_eq xle_nil)))))) ?_
      exact t_M_good_279  hk186 S r v1 v3 v5 h
    · have h := h.2 c5
      refine xRn.blk (pc1 := 254) (ls1 := [.ref 24, .int v1, .int v2, .int v3, .null, .int v5]) (st1 := [.int 52, .int (gF S 808)]) (hp1 := (hL S r)) (ob := [(24 : Nat) = 24]) [(.aload_n 0, 1, 0, 0, 0, 0), (.getfield 168, 3, 8, 6, 0, 0), (.bipush 52, 2, 0, 0, 0, 52)] [(24, xc8 S)] (by decide +kernel) rfl (xall_cons rfl xall_nil) (xSee_cons rfl (xne_nil _) (xSee_nil _)) rfl rfl ?_
      refine xRn.ic_ne (tgt := 275) (nx := 257) (off := 21) (by decide +kernel) (by decide) rfl (fun c6 => ?_) (fun c6 => ?_)
      · have h := h.1 c6
        refine xRn.forget (xle_eq (xle_eq (xle_no (xle_eq (xle_eq (xle_eq xle_nil)))))) ?_
        exact t_M_good_275  hk186 S r v1 v3 v5 h
      · have h := h.2 c6
        refine xRn.blk (pc1 := 258) (ls1 := [.ref 24, .int v1, .int v2, .int v3, .null, .int v5]) (st1 := [.int v3]) (hp1 := (hL S r)) (ob := []) [(.iload_n 3, 1, 3, 0, 0, 0)] [] (by decide +kernel) rfl xall_nil (xSee_nil _) rfl rfl ?_
        refine xRn.if_eq (tgt := 275) (nx := 261) (off := 17) (by decide +kernel) (by decide) rfl (fun c7 => ?_) (fun c7 => ?_)
        · have h := h.1 c7
          refine xRn.forget (xle_eq (xle_eq (xle_no (xle_eq (xle_eq (xle_eq xle_nil)))))) ?_
          exact t_M_good_275  hk186 S r v1 v3 v5 h
        · have h := h.2 c7
          refine xRn.blk (pc1 := 265) (ls1 := [.ref 24, .int v1, .int v2, .int v3, .null, .int v5]) (st1 := [.int 89, .int v5]) (hp1 := (hL S r)) (ob := []) [(.iload 5, 2, 5, 0, 0, 0), (.bipush 89, 2, 0, 0, 0, 89)] [] (by decide +kernel) rfl xall_nil (xSee_nil _) rfl rfl ?_
          refine xRn.ic_eq (tgt := 275) (nx := 268) (off := 10) (by decide +kernel) (by decide) rfl (fun c8 => ?_) (fun c8 => ?_)
          · have h := h.1 c8
            refine xRn.forget (xle_eq (xle_eq (xle_no (xle_eq (xle_eq (xle_eq xle_nil)))))) ?_
            exact t_M_good_275  hk186 S r v1 v3 v5 h
          · have h := h.2 c8
            refine xRn.blk (pc1 := 272) (ls1 := [.ref 24, .int v1, .int v2, .int v3, .null, .int v5]) (st1 := [.int 78, .int v5]) (hp1 := (hL S r)) (ob := []) [(.iload 5, 2, 5, 0, 0, 0), (.bipush 78, 2, 0, 0, 0, 78)] [] (by decide +kernel) rfl xall_nil (xSee_nil _) rfl rfl ?_
            refine xRn.ic_ne (tgt := 279) (nx := 275) (off := 7) (by decide +kernel) (by decide) rfl (fun c9 => ?_) (fun c9 => ?_)
            · have h := h.1 c9
              refine xRn.forget (xle_eq (xle_eq (xle_no (xle_eq (xle_eq (xle_eq xle_nil)))))) ?_
              exact t_M_good_279  hk186 S r v1 v3 v5 h
            · have h := h.2 c9
              refine xRn.forget (xle_eq (xle_eq (xle_no (xle_eq (xle_eq (xle_eq xle_nil)))))) ?_
              exact t_M_good_275  hk186 S r v1 v3 v5 h
def w_M_good_230 (k186 : XS → List AE → Int32 → Int32 → Int32 → Prop)  (K : Int32 → XS → List AE → Prop) (S : XS) (r : List AE) (v1 : Int32) (v2 : Int32) (v3 : Int32) (v4 : Int32) : Prop :=
  (w_M_numberAt S r v1 v4 (fun x10 S11 r12 => (w_M_good_239 k186 K S11 r12 v1 v2 v3 x10)))
set_option maxRecDepth 100000 in
theorem t_M_good_230 {G : XG} {l : Launch} {d : Nat} {k186 : XS → List AE → Int32 → Int32 → Int32 → Prop} {K : Int32 → XS → List AE → Prop} (hk186 : ∀ (S : XS) (r : List AE) (v1 : Int32) (v2 : Int32) (v3 : Int32), k186 S r v1 v2 v3 → xRn G l (d + 3) xm_M_good (pI K) 186 [.ref 24, .int v1, .int v2, .int v3, .null, .null] [] (hL S r)) (S : XS) (r : List AE) (v1 : Int32) (v2 : Int32) (v3 : Int32) (v4 : Int32) (h : w_M_good_230 k186 K S r v1 v2 v3 v4) : xRn G l (d + 3) xm_M_good (pI K) 230 [.ref 24, .int v1, .int v2, .int v3, .int v4, .null] [] (hL S r) := by
  refine xRn.blk (pc1 := 234) (ls1 := [.ref 24, .int v1, .int v2, .int v3, .int v4, .null]) (st1 := [.int v4, .int v1, .ref 24]) (hp1 := (hL S r)) (ob := []) [(.aload_n 0, 1, 0, 0, 0, 0), (.iload_n 1, 1, 1, 0, 0, 0), (.iload 4, 2, 4, 0, 0, 0)] [] (by decide +kernel) rfl xall_nil (xSee_nil _) rfl rfl ?_
  refine xRn.callV (al := [.int v1, .int v4]) (st := []) (nx := 237) (by decide +kernel) lk_V_M_good_155_M_numberAt_6_2 rfl rfl (c_M_numberAt (d := d + 1) S r v1 v4 h) rfl (Nat.le_of_ble_eq_true rfl) rfl rfl ?_ ?_
  · rintro _ _ ⟨x10, S11, r12, e9, rfl, h⟩
    cases e9
    show xRn G l _ _ _ 237 [.ref 24, .int v1, .int v2, .int v3, .int v4, .null] [.int x10] (hL S11 r12)
    refine xRn.blk (pc1 := 239) (ls1 := [.ref 24, .int v1, .int v2, .int v3, .int v4, .int x10]) (st1 := []) (hp1 := (hL S11 r12)) (ob := []) [(.istore 5, 2, 5, 0, 0, 0)] [] (by decide +kernel) rfl xall_nil (xSee_nil _) rfl rfl ?_
    refine xRn.forget (xle_eq (xle_eq (xle_eq (xle_eq (xle_no (xle_eq xle_nil)))))) ?_
    exact t_M_good_239  hk186 S11 r12 v1 v2 v3 x10 h
  · rintro _ _ ⟨_, _, _, e9, _⟩
    cases e9
def w_M_good_186   (K : Int32 → XS → List AE → Prop) : Nat → XS → List AE → Int32 → Int32 → Int32 → Prop
  | 0, _, _, _, _, _ => False
  | n + 1, S, r, v1, v2, v3 => (((3 : Int32) ≤ v3 → ((v2 = 0 → (w_M_good_361 K S r)) ∧ (¬ v2 = 0 → ((¬ v1 = ((gF S 804) - 1) → (w_M_good_361 K S r)) ∧ (v1 = ((gF S 804) - 1) → (K 1 S r)))))) ∧ (¬ (3 : Int32) ≤ v3 → (w_M_name (gF S 808) v3 (fun x16 => ((x16 ≤ 0 → (w_M_good_337 (fun S r v1 v2 v3 => w_M_good_186 K n S r v1 v2 v3) K S r v1 v2 v3)) ∧ (¬ x16 ≤ 0 → ((¬ (gF S 808) = (52 : Int32) → (w_M_good_230 (fun S r v1 v2 v3 => w_M_good_186 K n S r v1 v2 v3) K S r v1 v2 v3 x16)) ∧ ((gF S 808) = (52 : Int32) → ((¬ v3 = (1 : Int32) → (w_M_good_230 (fun S r v1 v2 v3 => w_M_good_186 K n S r v1 v2 v3) K S r v1 v2 v3 x16)) ∧ (v3 = (1 : Int32) → (w_M_letterAt S r v1 x16 (fun x20 S21 r22 => (w_M_good_239 (fun S r v1 v2 v3 => w_M_good_186 K n S r v1 v2 v3) K S21 r22 v1 v2 v3 x20)))))))))))))
set_option maxRecDepth 100000 in
theorem t_M_good_186 {G : XG} {l : Launch} {d : Nat} {K : Int32 → XS → List AE → Prop} : ∀ (n : Nat) (S : XS) (r : List AE) (v1 : Int32) (v2 : Int32) (v3 : Int32), w_M_good_186 K n S r v1 v2 v3 → xRn G l (d + 3) xm_M_good (pI K) 186 [.ref 24, .int v1, .int v2, .int v3, .null, .null] [] (hL S r) := by
  intro n
  induction n with
  | zero => intro S r v1 v2 v3 h; exact h.elim
  | succ n ih =>
    intro S r v1 v2 v3 h
    refine xRn.blk (pc1 := 188) (ls1 := [.ref 24, .int v1, .int v2, .int v3, .null, .null]) (st1 := [.int 3, .int v3]) (hp1 := (hL S r)) (ob := []) [(.iload_n 3, 1, 3, 0, 0, 0), (.iconst 3, 1, 0, 0, 0, 3)] [] (by decide +kernel) rfl xall_nil (xSee_nil _) rfl rfl ?_
    refine xRn.ic_ge (tgt := 343) (nx := 191) (off := 155) (by decide +kernel) (by decide) rfl (fun c13 => ?_) (fun c13 => ?_)
    · have h := h.1 c13
      refine xRn.blk (pc1 := 344) (ls1 := [.ref 24, .int v1, .int v2, .int v3, .null, .null]) (st1 := [.int v2]) (hp1 := (hL S r)) (ob := []) [(.iload_n 2, 1, 2, 0, 0, 0)] [] (by decide +kernel) rfl xall_nil (xSee_nil _) rfl rfl ?_
      refine xRn.if_eq (tgt := 361) (nx := 347) (off := 17) (by decide +kernel) (by decide) rfl (fun c14 => ?_) (fun c14 => ?_)
      · have h := h.1 c14
        refine xRn.forget (xle_no (xle_no (xle_no (xle_no (xle_eq (xle_eq xle_nil)))))) ?_
        exact t_M_good_361   S r h
      · have h := h.2 c14
        refine xRn.blk (pc1 := 354) (ls1 := [.ref 24, .int v1, .int v2, .int v3, .null, .null]) (st1 := [.int ((gF S 804) - 1), .int v1]) (hp1 := (hL S r)) (ob := [(24 : Nat) = 24]) [(.iload_n 1, 1, 1, 0, 0, 0), (.aload_n 0, 1, 0, 0, 0, 0), (.getfield 149, 3, 4, 6, 0, 0), (.iconst 1, 1, 0, 0, 0, 1), (.isub, 1, 0, 0, 0, 0)] [(24, xc8 S)] (by decide +kernel) rfl (xall_cons rfl xall_nil) (xSee_cons rfl (xne_nil _) (xSee_nil _)) rfl rfl ?_
        refine xRn.ic_ne (tgt := 361) (nx := 357) (off := 7) (by decide +kernel) (by decide) rfl (fun c15 => ?_) (fun c15 => ?_)
        · have h := h.1 c15
          refine xRn.forget (xle_no (xle_no (xle_no (xle_no (xle_eq (xle_eq xle_nil)))))) ?_
          exact t_M_good_361   S r h
        · have h := h.2 c15
          refine xRn.blk (pc1 := 358) (ls1 := [.ref 24, .int v1, .int v2, .int v3, .null, .null]) (st1 := [.int 1]) (hp1 := (hL S r)) (ob := []) [(.iconst 1, 1, 0, 0, 0, 1)] [] (by decide +kernel) rfl xall_nil (xSee_nil _) rfl rfl ?_
          refine xRn.goto (tgt := 362) (off := 4) (by decide +kernel) (by decide) ?_
          exact xRn.iret (by decide +kernel) rfl rfl ⟨_, _, _, rfl, rfl, h⟩
    · have h := h.2 c13
      refine xRn.blk (pc1 := 196) (ls1 := [.ref 24, .int v1, .int v2, .int v3, .null, .null]) (st1 := [.int v3, .int (gF S 808)]) (hp1 := (hL S r)) (ob := [(24 : Nat) = 24]) [(.aload_n 0, 1, 0, 0, 0, 0), (.getfield 168, 3, 8, 6, 0, 0), (.iload_n 3, 1, 3, 0, 0, 0)] [(24, xc8 S)] (by decide +kernel) rfl (xall_cons rfl xall_nil) (xSee_cons rfl (xne_nil _) (xSee_nil _)) rfl rfl ?_
      refine xRn.callS (al := [.int (gF S 808), .int v3]) (st := []) (nx := 199) (by decide +kernel) lk_S_M_good_87_M_name_2 rfl (c_M_name (d := d + 2) _ (gF S 808) v3 h) rfl (Nat.le_of_ble_eq_true rfl) rfl rfl ?_ ?_
      · rintro _ _ ⟨x16, e9, e8, h⟩
        cases e9
        rw [e8]
        show xRn G l _ _ _ 199 [.ref 24, .int v1, .int v2, .int v3, .null, .null] [.int x16] (hL S r)
        refine xRn.blk (pc1 := 203) (ls1 := [.ref 24, .int v1, .int v2, .int v3, .int x16, .null]) (st1 := [.int x16]) (hp1 := (hL S r)) (ob := []) [(.istore 4, 2, 4, 0, 0, 0), (.iload 4, 2, 4, 0, 0, 0)] [] (by decide +kernel) rfl xall_nil (xSee_nil _) rfl rfl ?_
        refine xRn.if_le (tgt := 337) (nx := 206) (off := 134) (by decide +kernel) (by decide) rfl (fun c17 => ?_) (fun c17 => ?_)
        · have h := h.1 c17
          refine xRn.forget (xle_eq (xle_eq (xle_eq (xle_eq (xle_no (xle_eq xle_nil)))))) ?_
          exact t_M_good_337  ih S r v1 v2 v3 h
        · have h := h.2 c17
          refine xRn.blk (pc1 := 212) (ls1 := [.ref 24, .int v1, .int v2, .int v3, .int x16, .null]) (st1 := [.int 52, .int (gF S 808)]) (hp1 := (hL S r)) (ob := [(24 : Nat) = 24]) [(.aload_n 0, 1, 0, 0, 0, 0), (.getfield 168, 3, 8, 6, 0, 0), (.bipush 52, 2, 0, 0, 0, 52)] [(24, xc8 S)] (by decide +kernel) rfl (xall_cons rfl xall_nil) (xSee_cons rfl (xne_nil _) (xSee_nil _)) rfl rfl ?_
          refine xRn.ic_ne (tgt := 230) (nx := 215) (off := 18) (by decide +kernel) (by decide) rfl (fun c18 => ?_) (fun c18 => ?_)
          · have h := h.1 c18
            refine xRn.forget (xle_eq (xle_eq (xle_eq (xle_eq (xle_eq (xle_eq xle_nil)))))) ?_
            exact t_M_good_230  ih S r v1 v2 v3 x16 h
          · have h := h.2 c18
            refine xRn.blk (pc1 := 217) (ls1 := [.ref 24, .int v1, .int v2, .int v3, .int x16, .null]) (st1 := [.int 1, .int v3]) (hp1 := (hL S r)) (ob := []) [(.iload_n 3, 1, 3, 0, 0, 0), (.iconst 1, 1, 0, 0, 0, 1)] [] (by decide +kernel) rfl xall_nil (xSee_nil _) rfl rfl ?_
            refine xRn.ic_ne (tgt := 230) (nx := 220) (off := 13) (by decide +kernel) (by decide) rfl (fun c19 => ?_) (fun c19 => ?_)
            · have h := h.1 c19
              refine xRn.forget (xle_eq (xle_eq (xle_eq (xle_eq (xle_eq (xle_eq xle_nil)))))) ?_
              exact t_M_good_230  ih S r v1 v2 v3 x16 h
            · have h := h.2 c19
              refine xRn.blk (pc1 := 224) (ls1 := [.ref 24, .int v1, .int v2, .int v3, .int x16, .null]) (st1 := [.int x16, .int v1, .ref 24]) (hp1 := (hL S r)) (ob := []) [(.aload_n 0, 1, 0, 0, 0, 0), (.iload_n 1, 1, 1, 0, 0, 0), (.iload 4, 2, 4, 0, 0, 0)] [] (by decide +kernel) rfl xall_nil (xSee_nil _) rfl rfl ?_
              refine xRn.callV (al := [.int v1, .int x16]) (st := []) (nx := 227) (by decide +kernel) lk_V_M_good_165_M_letterAt_6_2 rfl rfl (c_M_letterAt (d := d + 2) S r v1 x16 h) rfl (Nat.le_of_ble_eq_true rfl) rfl rfl ?_ ?_
              · rintro _ _ ⟨x20, S21, r22, e9, rfl, h⟩
                cases e9
                show xRn G l _ _ _ 227 [.ref 24, .int v1, .int v2, .int v3, .int x16, .null] [.int x20] (hL S21 r22)
                refine xRn.goto (tgt := 237) (off := 10) (by decide +kernel) (by decide) ?_
                refine xRn.blk (pc1 := 239) (ls1 := [.ref 24, .int v1, .int v2, .int v3, .int x16, .int x20]) (st1 := []) (hp1 := (hL S21 r22)) (ob := []) [(.istore 5, 2, 5, 0, 0, 0)] [] (by decide +kernel) rfl xall_nil (xSee_nil _) rfl rfl ?_
                refine xRn.forget (xle_eq (xle_eq (xle_eq (xle_eq (xle_no (xle_eq xle_nil)))))) ?_
                exact t_M_good_239  ih S21 r22 v1 v2 v3 x20 h
              · rintro _ _ ⟨_, _, _, e9, _⟩
                cases e9
      · rintro _ _ ⟨_, e9, _⟩
        cases e9
def w_M_good_182   (K : Int32 → XS → List AE → Prop) (S : XS) (r : List AE) (v1 : Int32) : Prop :=
  (∃ j, w_M_good_186 K j S r v1 1 0)
set_option maxRecDepth 100000 in
theorem t_M_good_182 {G : XG} {l : Launch} {d : Nat} {K : Int32 → XS → List AE → Prop} (S : XS) (r : List AE) (v1 : Int32) (h : w_M_good_182 K S r v1) : xRn G l (d + 3) xm_M_good (pI K) 182 [.ref 24, .int v1, .null, .null, .null, .null] [] (hL S r) := by
  refine xRn.blk (pc1 := 186) (ls1 := [.ref 24, .int v1, .int 1, .int 0, .null, .null]) (st1 := []) (hp1 := (hL S r)) (ob := []) [(.iconst 1, 1, 0, 0, 0, 1), (.istore_n 2, 1, 2, 0, 0, 0), (.iconst 0, 1, 0, 0, 0, 0), (.istore_n 3, 1, 3, 0, 0, 0)] [] (by decide +kernel) rfl xall_nil (xSee_nil _) rfl rfl ?_
  refine xRn.forget (xle_eq (xle_eq (xle_eq (xle_eq (xle_eq (xle_eq xle_nil)))))) ?_
  obtain ⟨n23, h⟩ := h
  exact t_M_good_186   n23 S r v1 1 0 h
def w_M_good_164   (K : Int32 → XS → List AE → Prop) (S : XS) (r : List AE) (v1 : Int32) : Prop :=
  ((¬ (gF S 808) = (48 : Int32) → (w_M_good_182 K S r v1)) ∧ ((gF S 808) = (48 : Int32) → ((¬ (gF S 814) = 0 → (w_M_good_182 K S r v1)) ∧ ((gF S 814) = 0 → (K 1 S r)))))
set_option maxRecDepth 100000 in
theorem t_M_good_164 {G : XG} {l : Launch} {d : Nat} {K : Int32 → XS → List AE → Prop} (S : XS) (r : List AE) (v1 : Int32) (h : w_M_good_164 K S r v1) : xRn G l (d + 3) xm_M_good (pI K) 164 [.ref 24, .int v1, .null, .null, .null, .null] [] (hL S r) := by
  refine xRn.blk (pc1 := 170) (ls1 := [.ref 24, .int v1, .null, .null, .null, .null]) (st1 := [.int 48, .int (gF S 808)]) (hp1 := (hL S r)) (ob := [(24 : Nat) = 24]) [(.aload_n 0, 1, 0, 0, 0, 0), (.getfield 168, 3, 8, 6, 0, 0), (.bipush 48, 2, 0, 0, 0, 48)] [(24, xc8 S)] (by decide +kernel) rfl (xall_cons rfl xall_nil) (xSee_cons rfl (xne_nil _) (xSee_nil _)) rfl rfl ?_
  refine xRn.ic_ne (tgt := 182) (nx := 173) (off := 12) (by decide +kernel) (by decide) rfl (fun c24 => ?_) (fun c24 => ?_)
  · have h := h.1 c24
    refine xRn.forget (xle_eq (xle_eq (xle_eq (xle_eq (xle_eq (xle_eq xle_nil)))))) ?_
    exact t_M_good_182   S r v1 h
  · have h := h.2 c24
    refine xRn.blk (pc1 := 177) (ls1 := [.ref 24, .int v1, .null, .null, .null, .null]) (st1 := [.int (gF S 814)]) (hp1 := (hL S r)) (ob := [(24 : Nat) = 24]) [(.aload_n 0, 1, 0, 0, 0, 0), (.getfield 186, 3, 14, 6, 0, 0)] [(24, xc8 S)] (by decide +kernel) rfl (xall_cons rfl xall_nil) (xSee_cons rfl (xne_nil _) (xSee_nil _)) rfl rfl ?_
    refine xRn.if_ne (tgt := 182) (nx := 180) (off := 5) (by decide +kernel) (by decide) rfl (fun c25 => ?_) (fun c25 => ?_)
    · have h := h.1 c25
      refine xRn.forget (xle_eq (xle_eq (xle_eq (xle_eq (xle_eq (xle_eq xle_nil)))))) ?_
      exact t_M_good_182   S r v1 h
    · have h := h.2 c25
      refine xRn.blk (pc1 := 181) (ls1 := [.ref 24, .int v1, .null, .null, .null, .null]) (st1 := [.int 1]) (hp1 := (hL S r)) (ob := []) [(.iconst 1, 1, 0, 0, 0, 1)] [] (by decide +kernel) rfl xall_nil (xSee_nil _) rfl rfl ?_
      exact xRn.iret (by decide +kernel) rfl rfl ⟨_, _, _, rfl, rfl, h⟩
def w_M_good_130   (K : Int32 → XS → List AE → Prop) (S : XS) (r : List AE) (v1 : Int32) : Prop :=
  ((((gF S 804) - 1) ≤ v1 → (w_M_good_164 K (sF (sF (sF (sF S 810 0) 811 0) 812 0) 814 0) r v1)) ∧ (¬ ((gF S 804) - 1) ≤ v1 → (w_M_good_164 K (sF (sF (sF (sF S 810 0) 811 0) 812 0) 814 1) r v1)))
set_option maxRecDepth 100000 in
theorem t_M_good_130 {G : XG} {l : Launch} {d : Nat} {K : Int32 → XS → List AE → Prop} (S : XS) (r : List AE) (v1 : Int32) (h : w_M_good_130 K S r v1) : xRn G l (d + 3) xm_M_good (pI K) 130 [.ref 24, .int v1, .null, .null, .null, .null] [] (hL S r) := by
  refine xRn.blk (pc1 := 142) (ls1 := [.ref 24, .int v1, .null, .null, .null, .null]) (st1 := [.int 0, .ref 24]) (hp1 := (hL (sF (sF S 810 0) 811 0) r)) (ob := [(24 : Nat) = 24, (24 : Nat) = 24]) [(.aload_n 0, 1, 0, 0, 0, 0), (.iconst 0, 1, 0, 0, 0, 0), (.putfield 177, 3, 10, 6, 0, 0), (.aload_n 0, 1, 0, 0, 0, 0), (.iconst 0, 1, 0, 0, 0, 0), (.putfield 180, 3, 11, 6, 0, 0), (.aload_n 0, 1, 0, 0, 0, 0), (.iconst 0, 1, 0, 0, 0, 0)] [(24, xc8 S)] (by decide +kernel) rfl (xall_cons rfl (xall_cons rfl xall_nil)) (xSee_cons rfl (xne_nil _) (xSee_nil _)) rfl rfl ?_
  refine xRn.blk (pc1 := 153) (ls1 := [.ref 24, .int v1, .null, .null, .null, .null]) (st1 := [.int ((gF S 804) - 1), .int v1, .ref 24]) (hp1 := (hL (sF (sF (sF S 810 0) 811 0) 812 0) r)) (ob := [(24 : Nat) = 24, (24 : Nat) = 24]) [(.putfield 183, 3, 12, 6, 0, 0), (.aload_n 0, 1, 0, 0, 0, 0), (.iload_n 1, 1, 1, 0, 0, 0), (.aload_n 0, 1, 0, 0, 0, 0), (.getfield 149, 3, 4, 6, 0, 0), (.iconst 1, 1, 0, 0, 0, 1), (.isub, 1, 0, 0, 0, 0)] [(24, xc8 (sF (sF S 810 0) 811 0))] (by decide +kernel) rfl (xall_cons rfl (xall_cons rfl xall_nil)) (xSee_cons rfl (xne_nil _) (xSee_nil _)) rfl rfl ?_
  refine xRn.ic_ge (tgt := 160) (nx := 156) (off := 7) (by decide +kernel) (by decide) rfl (fun c26 => ?_) (fun c26 => ?_)
  · have h := h.1 c26
    refine xRn.blk (pc1 := 164) (ls1 := [.ref 24, .int v1, .null, .null, .null, .null]) (st1 := []) (hp1 := (hL (sF (sF (sF (sF S 810 0) 811 0) 812 0) 814 0) r)) (ob := [(24 : Nat) = 24, narrow .boolean (.int 0) = .int 0 ∧ fits .boolean (.int 0) = true]) [(.iconst 0, 1, 0, 0, 0, 0), (.putfield 186, 3, 14, 6, 0, 0)] [(24, xc8 (sF (sF (sF S 810 0) 811 0) 812 0))] (by decide +kernel) rfl (xall_cons rfl (xall_cons (⟨rfl, rfl⟩) xall_nil)) (xSee_cons rfl (xne_nil _) (xSee_nil _)) rfl rfl ?_
    refine xRn.forget (xle_eq (xle_eq (xle_eq (xle_eq (xle_eq (xle_eq xle_nil)))))) ?_
    exact t_M_good_164   (sF (sF (sF (sF S 810 0) 811 0) 812 0) 814 0) r v1 h
  · have h := h.2 c26
    refine xRn.blk (pc1 := 157) (ls1 := [.ref 24, .int v1, .null, .null, .null, .null]) (st1 := [.int 1, .ref 24]) (hp1 := (hL (sF (sF (sF S 810 0) 811 0) 812 0) r)) (ob := []) [(.iconst 1, 1, 0, 0, 0, 1)] [] (by decide +kernel) rfl xall_nil (xSee_nil _) rfl rfl ?_
    refine xRn.goto (tgt := 161) (off := 4) (by decide +kernel) (by decide) ?_
    refine xRn.blk (pc1 := 164) (ls1 := [.ref 24, .int v1, .null, .null, .null, .null]) (st1 := []) (hp1 := (hL (sF (sF (sF (sF S 810 0) 811 0) 812 0) 814 1) r)) (ob := [(24 : Nat) = 24, narrow .boolean (.int 1) = .int 1 ∧ fits .boolean (.int 1) = true]) [(.putfield 186, 3, 14, 6, 0, 0)] [(24, xc8 (sF (sF (sF S 810 0) 811 0) 812 0))] (by decide +kernel) rfl (xall_cons rfl (xall_cons (⟨rfl, rfl⟩) xall_nil)) (xSee_cons rfl (xne_nil _) (xSee_nil _)) rfl rfl ?_
    refine xRn.forget (xle_eq (xle_eq (xle_eq (xle_eq (xle_eq (xle_eq xle_nil)))))) ?_
    exact t_M_good_164   (sF (sF (sF (sF S 810 0) 811 0) 812 0) 814 1) r v1 h
def w_M_good_117   (K : Int32 → XS → List AE → Prop) (S : XS) (r : List AE) : Prop :=
  (((gF S 813) = 0 → (w_M_good_130 K S r 4)) ∧ (¬ (gF S 813) = 0 → (w_M_good_130 K S r 5)))
set_option maxRecDepth 100000 in
theorem t_M_good_117 {G : XG} {l : Launch} {d : Nat} {K : Int32 → XS → List AE → Prop} (S : XS) (r : List AE) (h : w_M_good_117 K S r) : xRn G l (d + 3) xm_M_good (pI K) 117 [.ref 24, .null, .null, .null, .null, .null] [] (hL S r) := by
  refine xRn.blk (pc1 := 121) (ls1 := [.ref 24, .null, .null, .null, .null, .null]) (st1 := [.int (gF S 813)]) (hp1 := (hL S r)) (ob := [(24 : Nat) = 24]) [(.aload_n 0, 1, 0, 0, 0, 0), (.getfield 174, 3, 13, 6, 0, 0)] [(24, xc8 S)] (by decide +kernel) rfl (xall_cons rfl xall_nil) (xSee_cons rfl (xne_nil _) (xSee_nil _)) rfl rfl ?_
  refine xRn.if_eq (tgt := 128) (nx := 124) (off := 7) (by decide +kernel) (by decide) rfl (fun c27 => ?_) (fun c27 => ?_)
  · have h := h.1 c27
    refine xRn.blk (pc1 := 130) (ls1 := [.ref 24, .int 4, .null, .null, .null, .null]) (st1 := []) (hp1 := (hL S r)) (ob := []) [(.iconst 4, 1, 0, 0, 0, 4), (.istore_n 1, 1, 1, 0, 0, 0)] [] (by decide +kernel) rfl xall_nil (xSee_nil _) rfl rfl ?_
    refine xRn.forget (xle_eq (xle_eq (xle_eq (xle_eq (xle_eq (xle_eq xle_nil)))))) ?_
    exact t_M_good_130   S r 4 h
  · have h := h.2 c27
    refine xRn.blk (pc1 := 125) (ls1 := [.ref 24, .null, .null, .null, .null, .null]) (st1 := [.int 5]) (hp1 := (hL S r)) (ob := []) [(.iconst 5, 1, 0, 0, 0, 5)] [] (by decide +kernel) rfl xall_nil (xSee_nil _) rfl rfl ?_
    refine xRn.goto (tgt := 129) (off := 4) (by decide +kernel) (by decide) ?_
    refine xRn.blk (pc1 := 130) (ls1 := [.ref 24, .int 5, .null, .null, .null, .null]) (st1 := []) (hp1 := (hL S r)) (ob := []) [(.istore_n 1, 1, 1, 0, 0, 0)] [] (by decide +kernel) rfl xall_nil (xSee_nil _) rfl rfl ?_
    refine xRn.forget (xle_eq (xle_eq (xle_eq (xle_eq (xle_eq (xle_eq xle_nil)))))) ?_
    exact t_M_good_130   S r 5 h
def w_M_good_96   (K : Int32 → XS → List AE → Prop) (S : XS) (r : List AE) : Prop :=
  (((gF S 813) = 0 → (w_M_good_117 K S r)) ∧ (¬ (gF S 813) = 0 → (w_M_letterAt S r 4 43 (fun x29 S30 r31 => ((x29 = (89 : Int32) → (w_M_good_117 K S30 r31)) ∧ (¬ x29 = (89 : Int32) → (K 0 S30 r31)))))))
set_option maxRecDepth 100000 in
theorem t_M_good_96 {G : XG} {l : Launch} {d : Nat} {K : Int32 → XS → List AE → Prop} (S : XS) (r : List AE) (h : w_M_good_96 K S r) : xRn G l (d + 3) xm_M_good (pI K) 96 [.ref 24, .null, .null, .null, .null, .null] [] (hL S r) := by
  refine xRn.blk (pc1 := 100) (ls1 := [.ref 24, .null, .null, .null, .null, .null]) (st1 := [.int (gF S 813)]) (hp1 := (hL S r)) (ob := [(24 : Nat) = 24]) [(.aload_n 0, 1, 0, 0, 0, 0), (.getfield 174, 3, 13, 6, 0, 0)] [(24, xc8 S)] (by decide +kernel) rfl (xall_cons rfl xall_nil) (xSee_cons rfl (xne_nil _) (xSee_nil _)) rfl rfl ?_
  refine xRn.if_eq (tgt := 117) (nx := 103) (off := 17) (by decide +kernel) (by decide) rfl (fun c28 => ?_) (fun c28 => ?_)
  · have h := h.1 c28
    refine xRn.forget (xle_eq (xle_eq (xle_eq (xle_eq (xle_eq (xle_eq xle_nil)))))) ?_
    exact t_M_good_117   S r h
  · have h := h.2 c28
    refine xRn.blk (pc1 := 107) (ls1 := [.ref 24, .null, .null, .null, .null, .null]) (st1 := [.int 43, .int 4, .ref 24]) (hp1 := (hL S r)) (ob := []) [(.aload_n 0, 1, 0, 0, 0, 0), (.iconst 4, 1, 0, 0, 0, 4), (.bipush 43, 2, 0, 0, 0, 43)] [] (by decide +kernel) rfl xall_nil (xSee_nil _) rfl rfl ?_
    refine xRn.callV (al := [.int 4, .int 43]) (st := []) (nx := 110) (by decide +kernel) lk_V_M_good_165_M_letterAt_6_2 rfl rfl (c_M_letterAt (d := d + 2) S r 4 43 h) rfl (Nat.le_of_ble_eq_true rfl) rfl rfl ?_ ?_
    · rintro _ _ ⟨x29, S30, r31, e9, rfl, h⟩
      cases e9
      show xRn G l _ _ _ 110 [.ref 24, .null, .null, .null, .null, .null] [.int x29] (hL S30 r31)
      refine xRn.blk (pc1 := 112) (ls1 := [.ref 24, .null, .null, .null, .null, .null]) (st1 := [.int 89, .int x29]) (hp1 := (hL S30 r31)) (ob := []) [(.bipush 89, 2, 0, 0, 0, 89)] [] (by decide +kernel) rfl xall_nil (xSee_nil _) rfl rfl ?_
      refine xRn.ic_eq (tgt := 117) (nx := 115) (off := 5) (by decide +kernel) (by decide) rfl (fun c32 => ?_) (fun c32 => ?_)
      · have h := h.1 c32
        refine xRn.forget (xle_eq (xle_eq (xle_eq (xle_eq (xle_eq (xle_eq xle_nil)))))) ?_
        exact t_M_good_117   S30 r31 h
      · have h := h.2 c32
        refine xRn.blk (pc1 := 116) (ls1 := [.ref 24, .null, .null, .null, .null, .null]) (st1 := [.int 0]) (hp1 := (hL S30 r31)) (ob := []) [(.iconst 0, 1, 0, 0, 0, 0)] [] (by decide +kernel) rfl xall_nil (xSee_nil _) rfl rfl ?_
        exact xRn.iret (by decide +kernel) rfl rfl ⟨_, _, _, rfl, rfl, h⟩
    · rintro _ _ ⟨_, _, _, e9, _⟩
      cases e9
def w_M_good_74   (K : Int32 → XS → List AE → Prop) (S : XS) (r : List AE) : Prop :=
  (K 0 S r)
set_option maxRecDepth 100000 in
theorem t_M_good_74 {G : XG} {l : Launch} {d : Nat} {K : Int32 → XS → List AE → Prop} (S : XS) (r : List AE) (h : w_M_good_74 K S r) : xRn G l (d + 3) xm_M_good (pI K) 74 [.null, .null, .null, .null, .null, .null] [] (hL S r) := by
  refine xRn.blk (pc1 := 75) (ls1 := [.null, .null, .null, .null, .null, .null]) (st1 := [.int 0]) (hp1 := (hL S r)) (ob := []) [(.iconst 0, 1, 0, 0, 0, 0)] [] (by decide +kernel) rfl xall_nil (xSee_nil _) rfl rfl ?_
  exact xRn.iret (by decide +kernel) rfl rfl ⟨_, _, _, rfl, rfl, h⟩
def w_M_good_26   (K : Int32 → XS → List AE → Prop) (S : XS) (r : List AE) : Prop :=
  (K 0 S r)
set_option maxRecDepth 100000 in
theorem t_M_good_26 {G : XG} {l : Launch} {d : Nat} {K : Int32 → XS → List AE → Prop} (S : XS) (r : List AE) (h : w_M_good_26 K S r) : xRn G l (d + 3) xm_M_good (pI K) 26 [.null, .null, .null, .null, .null, .null] [] (hL S r) := by
  refine xRn.blk (pc1 := 27) (ls1 := [.null, .null, .null, .null, .null, .null]) (st1 := [.int 0]) (hp1 := (hL S r)) (ob := []) [(.iconst 0, 1, 0, 0, 0, 0)] [] (by decide +kernel) rfl xall_nil (xSee_nil _) rfl rfl ?_
  exact xRn.iret (by decide +kernel) rfl rfl ⟨_, _, _, rfl, rfl, h⟩
def w_M_good  (S : XS) (r : List AE) (K : Int32 → XS → List AE → Prop) : Prop :=
  (w_M_cut S r  (fun x33 S34 r35 => ((x33 = 0 → (w_M_good_26 K S34 r35)) ∧ (¬ x33 = 0 → (w_M_closed S34 r35  (fun x37 S38 r39 => ((x37 = 0 → (w_M_good_26 K S38 r39)) ∧ (¬ x37 = 0 → (w_M_letterAt S38 r39 0 8 (fun x41 S42 r43 => ((x41 = (70 : Int32) → (w_M_letterAt S42 r43 2 35 (fun x45 S46 r47 => (w_M_numberAt (sF S46 808 x45) r47 3 34 (fun x48 S49 r50 => (((gF S49 808) < 0 → (w_M_good_74 K (sF S49 809 x48) r50)) ∧ (¬ (gF S49 808) < 0 → ((x48 < 0 → (w_M_good_74 K (sF S49 809 x48) r50)) ∧ (¬ x48 < 0 → (w_M_isType (gF S49 808) (fun x53 => ((¬ x53 = 0 → ((¬ ((gA S49 10) (4 : Int32).toNatClampNeg) = (43 : Int32) → (w_M_good_96 K (sF (sF S49 809 x48) 813 0) r50)) ∧ (((gA S49 10) (4 : Int32).toNatClampNeg) = (43 : Int32) → (w_M_good_96 K (sF (sF S49 809 x48) 813 1) r50)))) ∧ (x53 = 0 → (w_M_good_74 K (sF S49 809 x48) r50)))))))))))))) ∧ (¬ x41 = (70 : Int32) → (w_M_good_26 K S42 r43)))))))))))))
set_option maxRecDepth 100000 in
theorem c_M_good {G : XG} {l : Launch} {d : Nat} (S : XS) (r : List AE) {K : Int32 → XS → List AE → Prop} (h : w_M_good  S r K) : xCt G l (d + 3) xm_M_good [.ref 24] (hL S r) (pI K) := by
  refine xCt.intro (by decide) (by decide) (List.forall_mem_cons.mpr ⟨rfl, (fun _ h => by cases h)⟩) (Nat.le_of_ble_eq_true rfl) rfl ?_
  show xRn G l _ xm_M_good _ 0 [.ref 24, .null, .null, .null, .null, .null] [] (hL S r)
  refine xRn.blk (pc1 := 1) (ls1 := [.ref 24, .null, .null, .null, .null, .null]) (st1 := [.ref 24]) (hp1 := (hL S r)) (ob := []) [(.aload_n 0, 1, 0, 0, 0, 0)] [] (by decide +kernel) rfl xall_nil (xSee_nil _) rfl rfl ?_
  refine xRn.callV (al := []) (st := []) (nx := 4) (by decide +kernel) lk_V_M_good_158_M_cut_6_0 rfl rfl (c_M_cut (d := d + 1) S r  h) rfl (Nat.le_of_ble_eq_true rfl) rfl rfl ?_ ?_
  · rintro _ _ ⟨x33, S34, r35, e9, rfl, h⟩
    cases e9
    show xRn G l _ _ _ 4 [.ref 24, .null, .null, .null, .null, .null] [.int x33] (hL S34 r35)
    refine xRn.if_eq (tgt := 26) (nx := 7) (off := 22) (by decide +kernel) (by decide) rfl (fun c36 => ?_) (fun c36 => ?_)
    · have h := h.1 c36
      refine xRn.forget (xle_no (xle_eq (xle_eq (xle_eq (xle_eq (xle_eq xle_nil)))))) ?_
      exact t_M_good_26   S34 r35 h
    · have h := h.2 c36
      refine xRn.blk (pc1 := 8) (ls1 := [.ref 24, .null, .null, .null, .null, .null]) (st1 := [.ref 24]) (hp1 := (hL S34 r35)) (ob := []) [(.aload_n 0, 1, 0, 0, 0, 0)] [] (by decide +kernel) rfl xall_nil (xSee_nil _) rfl rfl ?_
      refine xRn.callV (al := []) (st := []) (nx := 11) (by decide +kernel) lk_V_M_good_162_M_closed_6_0 rfl rfl (c_M_closed (d := d + 0) S34 r35  h) rfl (Nat.le_of_ble_eq_true rfl) rfl rfl ?_ ?_
      · rintro _ _ ⟨x37, S38, r39, e9, rfl, h⟩
        cases e9
        show xRn G l _ _ _ 11 [.ref 24, .null, .null, .null, .null, .null] [.int x37] (hL S38 r39)
        refine xRn.if_eq (tgt := 26) (nx := 14) (off := 15) (by decide +kernel) (by decide) rfl (fun c40 => ?_) (fun c40 => ?_)
        · have h := h.1 c40
          refine xRn.forget (xle_no (xle_eq (xle_eq (xle_eq (xle_eq (xle_eq xle_nil)))))) ?_
          exact t_M_good_26   S38 r39 h
        · have h := h.2 c40
          refine xRn.blk (pc1 := 18) (ls1 := [.ref 24, .null, .null, .null, .null, .null]) (st1 := [.int 8, .int 0, .ref 24]) (hp1 := (hL S38 r39)) (ob := []) [(.aload_n 0, 1, 0, 0, 0, 0), (.iconst 0, 1, 0, 0, 0, 0), (.bipush 8, 2, 0, 0, 0, 8)] [] (by decide +kernel) rfl xall_nil (xSee_nil _) rfl rfl ?_
          refine xRn.callV (al := [.int 0, .int 8]) (st := []) (nx := 21) (by decide +kernel) lk_V_M_good_165_M_letterAt_6_2 rfl rfl (c_M_letterAt (d := d + 2) S38 r39 0 8 h) rfl (Nat.le_of_ble_eq_true rfl) rfl rfl ?_ ?_
          · rintro _ _ ⟨x41, S42, r43, e9, rfl, h⟩
            cases e9
            show xRn G l _ _ _ 21 [.ref 24, .null, .null, .null, .null, .null] [.int x41] (hL S42 r43)
            refine xRn.blk (pc1 := 23) (ls1 := [.ref 24, .null, .null, .null, .null, .null]) (st1 := [.int 70, .int x41]) (hp1 := (hL S42 r43)) (ob := []) [(.bipush 70, 2, 0, 0, 0, 70)] [] (by decide +kernel) rfl xall_nil (xSee_nil _) rfl rfl ?_
            refine xRn.ic_eq (tgt := 28) (nx := 26) (off := 5) (by decide +kernel) (by decide) rfl (fun c44 => ?_) (fun c44 => ?_)
            · have h := h.1 c44
              refine xRn.blk (pc1 := 33) (ls1 := [.ref 24, .null, .null, .null, .null, .null]) (st1 := [.int 35, .int 2, .ref 24, .ref 24]) (hp1 := (hL S42 r43)) (ob := []) [(.aload_n 0, 1, 0, 0, 0, 0), (.aload_n 0, 1, 0, 0, 0, 0), (.iconst 2, 1, 0, 0, 0, 2), (.bipush 35, 2, 0, 0, 0, 35)] [] (by decide +kernel) rfl xall_nil (xSee_nil _) rfl rfl ?_
              refine xRn.callV (al := [.int 2, .int 35]) (st := [.ref 24]) (nx := 36) (by decide +kernel) lk_V_M_good_165_M_letterAt_6_2 rfl rfl (c_M_letterAt (d := d + 2) S42 r43 2 35 h) rfl (Nat.le_of_ble_eq_true rfl) rfl rfl ?_ ?_
              · rintro _ _ ⟨x45, S46, r47, e9, rfl, h⟩
                cases e9
                show xRn G l _ _ _ 36 [.ref 24, .null, .null, .null, .null, .null] [.int x45, .ref 24] (hL S46 r47)
                refine xRn.blk (pc1 := 44) (ls1 := [.ref 24, .null, .null, .null, .null, .null]) (st1 := [.int 34, .int 3, .ref 24, .ref 24]) (hp1 := (hL (sF S46 808 x45) r47)) (ob := [(24 : Nat) = 24]) [(.putfield 168, 3, 8, 6, 0, 0), (.aload_n 0, 1, 0, 0, 0, 0), (.aload_n 0, 1, 0, 0, 0, 0), (.iconst 3, 1, 0, 0, 0, 3), (.bipush 34, 2, 0, 0, 0, 34)] [(24, xc8 S46)] (by decide +kernel) rfl (xall_cons rfl xall_nil) (xSee_cons rfl (xne_nil _) (xSee_nil _)) rfl rfl ?_
                refine xRn.callV (al := [.int 3, .int 34]) (st := [.ref 24]) (nx := 47) (by decide +kernel) lk_V_M_good_155_M_numberAt_6_2 rfl rfl (c_M_numberAt (d := d + 1) (sF S46 808 x45) r47 3 34 h) rfl (Nat.le_of_ble_eq_true rfl) rfl rfl ?_ ?_
                · rintro _ _ ⟨x48, S49, r50, e9, rfl, h⟩
                  cases e9
                  show xRn G l _ _ _ 47 [.ref 24, .null, .null, .null, .null, .null] [.int x48, .ref 24] (hL S49 r50)
                  refine xRn.blk (pc1 := 54) (ls1 := [.ref 24, .null, .null, .null, .null, .null]) (st1 := [.int (gF S49 808)]) (hp1 := (hL (sF S49 809 x48) r50)) (ob := [(24 : Nat) = 24, (24 : Nat) = 24]) [(.putfield 171, 3, 9, 6, 0, 0), (.aload_n 0, 1, 0, 0, 0, 0), (.getfield 168, 3, 8, 6, 0, 0)] [(24, xc8 S49)] (by decide +kernel) rfl (xall_cons rfl (xall_cons rfl xall_nil)) (xSee_cons rfl (xne_nil _) (xSee_nil _)) rfl rfl ?_
                  refine xRn.if_lt (tgt := 74) (nx := 57) (off := 20) (by decide +kernel) (by decide) rfl (fun c51 => ?_) (fun c51 => ?_)
                  · have h := h.1 c51
                    refine xRn.forget (xle_no (xle_eq (xle_eq (xle_eq (xle_eq (xle_eq xle_nil)))))) ?_
                    exact t_M_good_74   (sF S49 809 x48) r50 h
                  · have h := h.2 c51
                    refine xRn.blk (pc1 := 61) (ls1 := [.ref 24, .null, .null, .null, .null, .null]) (st1 := [.int x48]) (hp1 := (hL (sF S49 809 x48) r50)) (ob := [(24 : Nat) = 24]) [(.aload_n 0, 1, 0, 0, 0, 0), (.getfield 171, 3, 9, 6, 0, 0)] [(24, xc8 (sF S49 809 x48))] (by decide +kernel) rfl (xall_cons rfl xall_nil) (xSee_cons rfl (xne_nil _) (xSee_nil _)) rfl rfl ?_
                    refine xRn.if_lt (tgt := 74) (nx := 64) (off := 13) (by decide +kernel) (by decide) rfl (fun c52 => ?_) (fun c52 => ?_)
                    · have h := h.1 c52
                      refine xRn.forget (xle_no (xle_eq (xle_eq (xle_eq (xle_eq (xle_eq xle_nil)))))) ?_
                      exact t_M_good_74   (sF S49 809 x48) r50 h
                    · have h := h.2 c52
                      refine xRn.blk (pc1 := 68) (ls1 := [.ref 24, .null, .null, .null, .null, .null]) (st1 := [.int (gF S49 808)]) (hp1 := (hL (sF S49 809 x48) r50)) (ob := [(24 : Nat) = 24]) [(.aload_n 0, 1, 0, 0, 0, 0), (.getfield 168, 3, 8, 6, 0, 0)] [(24, xc8 (sF S49 809 x48))] (by decide +kernel) rfl (xall_cons rfl xall_nil) (xSee_cons rfl (xne_nil _) (xSee_nil _)) rfl rfl ?_
                      refine xRn.callS (al := [.int (gF S49 808)]) (st := []) (nx := 71) (by decide +kernel) lk_S_M_good_134_M_isType_1 rfl (c_M_isType (d := d + 2) _ (gF S49 808) h) rfl (Nat.le_of_ble_eq_true rfl) rfl rfl ?_ ?_
                      · rintro _ _ ⟨x53, e9, e8, h⟩
                        cases e9
                        rw [e8]
                        show xRn G l _ _ _ 71 [.ref 24, .null, .null, .null, .null, .null] [.int x53] (hL (sF S49 809 x48) r50)
                        refine xRn.if_ne (tgt := 76) (nx := 74) (off := 5) (by decide +kernel) (by decide) rfl (fun c54 => ?_) (fun c54 => ?_)
                        · have h := h.1 c54
                          refine xRn.blk (pc1 := 85) (ls1 := [.ref 24, .null, .null, .null, .null, .null]) (st1 := [.int 43, .int ((gA S49 10) (4 : Int32).toNatClampNeg), .ref 24]) (hp1 := (hL (sF S49 809 x48) r50)) (ob := [(24 : Nat) = 24, (26 : Nat) = 26, vp_in 4 41]) [(.aload_n 0, 1, 0, 0, 0, 0), (.aload_n 0, 1, 0, 0, 0, 0), (.getfield 13, 3, 5, 6, 0, 0), (.iconst 4, 1, 0, 0, 0, 4), (.iaload, 1, 0, 0, 1, 0), (.bipush 43, 2, 0, 0, 0, 43)] [(24, xc8 (sF S49 809 x48)), (26, xc10 (sF S49 809 x48))] (by decide +kernel) rfl (xall_cons rfl (xall_cons rfl (xall_cons (by unfold vp_in; decide) xall_nil))) (xSee_cons rfl (xne_cons (by decide) (xne_nil _)) (xSee_cons rfl (xne_nil _) (xSee_nil _))) rfl rfl ?_
                          refine xRn.ic_ne (tgt := 92) (nx := 88) (off := 7) (by decide +kernel) (by decide) rfl (fun c55 => ?_) (fun c55 => ?_)
                          · have h := h.1 c55
                            refine xRn.blk (pc1 := 96) (ls1 := [.ref 24, .null, .null, .null, .null, .null]) (st1 := []) (hp1 := (hL (sF (sF S49 809 x48) 813 0) r50)) (ob := [(24 : Nat) = 24, narrow .boolean (.int 0) = .int 0 ∧ fits .boolean (.int 0) = true]) [(.iconst 0, 1, 0, 0, 0, 0), (.putfield 174, 3, 13, 6, 0, 0)] [(24, xc8 (sF S49 809 x48))] (by decide +kernel) rfl (xall_cons rfl (xall_cons (⟨rfl, rfl⟩) xall_nil)) (xSee_cons rfl (xne_nil _) (xSee_nil _)) rfl rfl ?_
                            refine xRn.forget (xle_eq (xle_eq (xle_eq (xle_eq (xle_eq (xle_eq xle_nil)))))) ?_
                            exact t_M_good_96   (sF (sF S49 809 x48) 813 0) r50 h
                          · have h := h.2 c55
                            refine xRn.blk (pc1 := 89) (ls1 := [.ref 24, .null, .null, .null, .null, .null]) (st1 := [.int 1, .ref 24]) (hp1 := (hL (sF S49 809 x48) r50)) (ob := []) [(.iconst 1, 1, 0, 0, 0, 1)] [] (by decide +kernel) rfl xall_nil (xSee_nil _) rfl rfl ?_
                            refine xRn.goto (tgt := 93) (off := 4) (by decide +kernel) (by decide) ?_
                            refine xRn.blk (pc1 := 96) (ls1 := [.ref 24, .null, .null, .null, .null, .null]) (st1 := []) (hp1 := (hL (sF (sF S49 809 x48) 813 1) r50)) (ob := [(24 : Nat) = 24, narrow .boolean (.int 1) = .int 1 ∧ fits .boolean (.int 1) = true]) [(.putfield 174, 3, 13, 6, 0, 0)] [(24, xc8 (sF S49 809 x48))] (by decide +kernel) rfl (xall_cons rfl (xall_cons (⟨rfl, rfl⟩) xall_nil)) (xSee_cons rfl (xne_nil _) (xSee_nil _)) rfl rfl ?_
                            refine xRn.forget (xle_eq (xle_eq (xle_eq (xle_eq (xle_eq (xle_eq xle_nil)))))) ?_
                            exact t_M_good_96   (sF (sF S49 809 x48) 813 1) r50 h
                        · have h := h.2 c54
                          refine xRn.forget (xle_no (xle_eq (xle_eq (xle_eq (xle_eq (xle_eq xle_nil)))))) ?_
                          exact t_M_good_74   (sF S49 809 x48) r50 h
                      · rintro _ _ ⟨_, e9, _⟩
                        cases e9
                · rintro _ _ ⟨_, _, _, e9, _⟩
                  cases e9
              · rintro _ _ ⟨_, _, _, e9, _⟩
                cases e9
            · have h := h.2 c44
              refine xRn.forget (xle_no (xle_eq (xle_eq (xle_eq (xle_eq (xle_eq xle_nil)))))) ?_
              exact t_M_good_26   S42 r43 h
          · rintro _ _ ⟨_, _, _, e9, _⟩
            cases e9
      · rintro _ _ ⟨_, _, _, e9, _⟩
        cases e9
  · rintro _ _ ⟨_, _, _, e9, _⟩
    cases e9
