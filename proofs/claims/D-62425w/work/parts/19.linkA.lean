theorem lk_IN_T_out_42_F_init_0 : xlkIN xm_T_out 42 xm_F_init 0 := by unfold xlkIN; decide +kernel
theorem lk_IN_T_report_146_R_init_0 : xlkIN xm_T_report 146 xm_R_init 0 := by unfold xlkIN; decide +kernel
theorem lk_Math_T_answer_160_Lib_Math_max_name_Lib_Math_max_code : xlkMath xm_T_answer 160 Lib.Math.max.name Lib.Math.max.code := by unfold xlkMath; decide +kernel
theorem lk_Math_T_moveTo_160_Lib_Math_max_name_Lib_Math_max_code : xlkMath xm_T_moveTo 160 Lib.Math.max.name Lib.Math.max.code := by unfold xlkMath; decide +kernel
theorem lk_Math_T_out_87_Lib_Math_min_name_Lib_Math_min_code : xlkMath xm_T_out 87 Lib.Math.min.name Lib.Math.min.code := by unfold xlkMath; decide +kernel
theorem lk_S_T_give_176_T_typeOf_1 : xlkS xm_T_give 176 xm_T_typeOf 1 := by unfold xlkS; decide +kernel
theorem lk_S_T_give_180_T_off_1 : xlkS xm_T_give 180 xm_T_off 1 := by unfold xlkS; decide +kernel
theorem lk_V_T_add_207_F_put_1_1 : xlkV xm_T_add 207 xm_F_put 1 1 := by unfold xlkV; decide +kernel
theorem lk_V_T_answer_156_T_put_0_2 : xlkV xm_T_answer 156 xm_T_put 0 2 := by unfold xlkV; decide +kernel
theorem lk_V_T_answer_163_T_fillUp_0_2 : xlkV xm_T_answer 163 xm_T_fillUp 0 2 := by unfold xlkV; decide +kernel
theorem lk_V_T_ask_166_T_send_0_3 : xlkV xm_T_ask 166 xm_T_send 0 3 := by unfold xlkV; decide +kernel
theorem lk_V_T_fillUp_103_T_out_0_0 : xlkV xm_T_fillUp 103 xm_T_out 0 0 := by unfold xlkV; decide +kernel
theorem lk_V_T_fillUp_111_F_begin_1_3 : xlkV xm_T_fillUp 111 xm_F_begin 1 3 := by unfold xlkV; decide +kernel
theorem lk_V_T_fillUp_115_F_field_1_2 : xlkV xm_T_fillUp 115 xm_F_field 1 2 := by unfold xlkV; decide +kernel
theorem lk_V_T_fillUp_122_F_end_1_0 : xlkV xm_T_fillUp 122 xm_F_end 1 0 := by unfold xlkV; decide +kernel
theorem lk_V_T_fillUp_136_F_letter_1_2 : xlkV xm_T_fillUp 136 xm_F_letter 1 2 := by unfold xlkV; decide +kernel
theorem lk_V_T_give_111_F_begin_1_3 : xlkV xm_T_give 111 xm_F_begin 1 3 := by unfold xlkV; decide +kernel
theorem lk_V_T_give_115_F_field_1_2 : xlkV xm_T_give 115 xm_F_field 1 2 := by unfold xlkV; decide +kernel
theorem lk_V_T_give_122_F_end_1_0 : xlkV xm_T_give 122 xm_F_end 1 0 := by unfold xlkV; decide +kernel
theorem lk_V_T_give_136_F_letter_1_2 : xlkV xm_T_give 136 xm_F_letter 1 2 := by unfold xlkV; decide +kernel
theorem lk_V_T_put_103_T_out_0_0 : xlkV xm_T_put 103 xm_T_out 0 0 := by unfold xlkV; decide +kernel
theorem lk_V_T_put_111_F_begin_1_3 : xlkV xm_T_put 111 xm_F_begin 1 3 := by unfold xlkV; decide +kernel
theorem lk_V_T_put_115_F_field_1_2 : xlkV xm_T_put 115 xm_F_field 1 2 := by unfold xlkV; decide +kernel
theorem lk_V_T_put_122_F_end_1_0 : xlkV xm_T_put 122 xm_F_end 1 0 := by unfold xlkV; decide +kernel
theorem lk_V_T_put_136_F_letter_1_2 : xlkV xm_T_put 136 xm_F_letter 1 2 := by unfold xlkV; decide +kernel
theorem lk_V_T_report_156_T_put_0_2 : xlkV xm_T_report 156 xm_T_put 0 2 := by unfold xlkV; decide +kernel
theorem lk_V_T_send_103_T_out_0_0 : xlkV xm_T_send 103 xm_T_out 0 0 := by unfold xlkV; decide +kernel
theorem lk_V_T_send_111_F_begin_1_3 : xlkV xm_T_send 111 xm_F_begin 1 3 := by unfold xlkV; decide +kernel
theorem lk_V_T_send_115_F_field_1_2 : xlkV xm_T_send 115 xm_F_field 1 2 := by unfold xlkV; decide +kernel
theorem lk_V_T_send_122_F_end_1_0 : xlkV xm_T_send 122 xm_F_end 1 0 := by unfold xlkV; decide +kernel
theorem ha_T_186_7 : ∀ a ∈ Bundle.ownAtoms0 (xR 0) 186 (xR 7) xnames, (a ∈ lw_tbl ∧ xgw a = true) ∨ a ∈ xTw := by decide +kernel
theorem ha_T_199_9 : ∀ a ∈ Bundle.ownAtoms0 (xR 0) 199 (xR 9) xnames, (a ∈ lw_tbl ∧ xgw a = true) ∨ a ∈ xTw := by decide +kernel
theorem ha_T_206_8 : ∀ a ∈ Bundle.ownAtoms0 (xR 0) 206 (xR 8) xnames, (a ∈ lw_tbl ∧ xgw a = true) ∨ a ∈ xTw := by decide +kernel
/-! T_out -/
def w_T_out_50   (K : Nat → XS → List AE → Prop) (S : XS) (r : List AE) (v1 : Int32) : Prop :=
  (vp_in v1 21) ∧ (K ((gB S 5) v1.toNatClampNeg) S r)
set_option maxRecDepth 100000 in
theorem t_T_out_50 {G : XG} {l : Launch} {d : Nat} {K : Nat → XS → List AE → Prop} (S : XS) (r : List AE) (v1 : Int32) (h : w_T_out_50 K S r v1) : xRn G l (d + 2) xm_T_out (pR K) 50 [.ref 16, .int v1] [] (hL S r) := by
  obtain ⟨o1, h⟩ := h
  refine xRn.blk (pc1 := 56) (ls1 := [.ref 16, .int v1]) (st1 := [.ref ((gB S 5) v1.toNatClampNeg)]) (hp1 := (hL S r)) (ob := [(16 : Nat) = 16, (21 : Nat) = 21, vp_in v1 21]) [(.aload_n 0, 1, 0, 0, 0, 0), (.getfield 63, 3, 3, 0, 0, 0), (.iload_n 1, 1, 1, 0, 0, 0), (.aaload, 1, 0, 0, 1, 0)] [(16, xc0 S), (21, xc5 S)] (by decide +kernel) rfl (xall_cons rfl (xall_cons rfl (xall_cons o1 xall_nil))) (xSee_cons rfl (xne_cons (by decide) (xne_nil _)) (xSee_cons rfl (xne_nil _) (xSee_nil _))) rfl rfl ?_
  exact xRn.aret (by decide +kernel) rfl ⟨_, _, _, rfl, rfl, h⟩
def w_T_out  (S : XS) (r : List AE) (K : Nat → XS → List AE → Prop) : Prop :=
  (vp_in (if (20 : Int32) < (gF S 4) then (20 : Int32) else (gF S 4)) 21) ∧ ((¬ ((gB S 5) (if (20 : Int32) < (gF S 4) then (20 : Int32) else (gF S 4)).toNatClampNeg) = 0 → (w_T_out_50 K (sF (sF S 4 ((gF S 4) + 1)) 11 (gF S 9)) r (if (20 : Int32) < (gF S 4) then (20 : Int32) else (gF S 4)))) ∧ (((gB S 5) (if (20 : Int32) < (gF S 4) then (20 : Int32) else (gF S 4)).toNatClampNeg) = 0 → (bud r ∧ (vp_in (if (20 : Int32) < (gF S 4) then (20 : Int32) else (gF S 4)) 21) ∧ (w_T_out_50 K (sB (sF (sF S 4 ((gF S 4) + 1)) 11 (gF S 9)) 5 (va_up (gB S 5) (if (20 : Int32) < (gF S 4) then (20 : Int32) else (gF S 4)).toNatClampNeg (40 + (r).length))) (r ++ [xO 1 [.ref (41 + (r).length), .int 0, .int 0], xI 1 120 (fun _ => 0)]) (if (20 : Int32) < (gF S 4) then (20 : Int32) else (gF S 4))))))
set_option maxRecDepth 100000 in
theorem c_T_out {G : XG} {l : Launch} {d : Nat} (S : XS) (r : List AE) {K : Nat → XS → List AE → Prop} (h : w_T_out  S r K) : xCt G l (d + 2) xm_T_out [.ref 16] (hL S r) (pR K) := by
  refine xCt.intro (by decide) (by decide) (List.forall_mem_cons.mpr ⟨rfl, (fun _ h => by cases h)⟩) (Nat.le_of_ble_eq_true rfl) rfl ?_
  show xRn G l _ xm_T_out _ 0 [.ref 16, .null] [] (hL S r)
  refine xRn.blk (pc1 := 6) (ls1 := [.ref 16, .null]) (st1 := [.int 20, .int (gF S 4)]) (hp1 := (hL S r)) (ob := [(16 : Nat) = 16]) [(.aload_n 0, 1, 0, 0, 0, 0), (.getfield 84, 3, 4, 0, 0, 0), (.bipush 20, 2, 0, 0, 0, 20)] [(16, xc0 S)] (by decide +kernel) rfl (xall_cons rfl xall_nil) (xSee_cons rfl (xne_nil _) (xSee_nil _)) rfl rfl ?_
  refine xRn.mmin (nx := 9) (by decide +kernel) lk_Math_T_out_87_Lib_Math_min_name_Lib_Math_min_code (Nat.le_of_ble_eq_true rfl) rfl rfl ?_
  obtain ⟨o2, h⟩ := h
  refine xRn.blk (pc1 := 34) (ls1 := [.ref 16, .int (if (20 : Int32) < (gF S 4) then (20 : Int32) else (gF S 4))]) (st1 := [.ref ((gB S 5) (if (20 : Int32) < (gF S 4) then (20 : Int32) else (gF S 4)).toNatClampNeg)]) (hp1 := (hL (sF (sF S 4 ((gF S 4) + 1)) 11 (gF S 9)) r)) (ob := [(16 : Nat) = 16, (16 : Nat) = 16, (16 : Nat) = 16, (16 : Nat) = 16, (16 : Nat) = 16, (21 : Nat) = 21, vp_in (if (20 : Int32) < (gF S 4) then (20 : Int32) else (gF S 4)) 21]) [(.istore_n 1, 1, 1, 0, 0, 0), (.aload_n 0, 1, 0, 0, 0, 0), (.dup, 1, 0, 0, 0, 0), (.getfield 84, 3, 4, 0, 0, 0), (.iconst 1, 1, 0, 0, 0, 1), (.iadd, 1, 0, 0, 0, 0), (.putfield 84, 3, 4, 0, 0, 0), (.aload_n 0, 1, 0, 0, 0, 0), (.aload_n 0, 1, 0, 0, 0, 0), (.getfield 93, 3, 9, 0, 0, 0), (.putfield 96, 3, 11, 0, 0, 0), (.aload_n 0, 1, 0, 0, 0, 0), (.getfield 63, 3, 3, 0, 0, 0), (.iload_n 1, 1, 1, 0, 0, 0), (.aaload, 1, 0, 0, 1, 0)] [(16, xc0 S), (21, xc5 S)] (by decide +kernel) rfl (xall_cons rfl (xall_cons rfl (xall_cons rfl (xall_cons rfl (xall_cons rfl (xall_cons rfl (xall_cons o2 xall_nil))))))) (xSee_cons rfl (xne_cons (by decide) (xne_nil _)) (xSee_cons rfl (xne_nil _) (xSee_nil _))) rfl rfl ?_
  refine xRn.ifnonnull (tgt := 50) (nx := 37) (off := 16) (by decide +kernel) (by decide) rfl (fun c3 => ?_) (fun c3 => ?_)
  · have h := h.1 c3
    refine xRn.forget (xle_eq (xle_eq xle_nil)) ?_
    exact t_T_out_50   (sF (sF S 4 ((gF S 4) + 1)) 11 (gF S 9)) r (if (20 : Int32) < (gF S 4) then (20 : Int32) else (gF S 4)) h
  · have h := h.2 c3
    refine xRn.blk (pc1 := 42) (ls1 := [.ref 16, .int (if (20 : Int32) < (gF S 4) then (20 : Int32) else (gF S 4))]) (st1 := [.int (if (20 : Int32) < (gF S 4) then (20 : Int32) else (gF S 4)), .ref 21]) (hp1 := (hL (sF (sF S 4 ((gF S 4) + 1)) 11 (gF S 9)) r)) (ob := [(16 : Nat) = 16]) [(.aload_n 0, 1, 0, 0, 0, 0), (.getfield 63, 3, 3, 0, 0, 0), (.iload_n 1, 1, 1, 0, 0, 0)] [(16, xc0 (sF (sF S 4 ((gF S 4) + 1)) 11 (gF S 9)))] (by decide +kernel) rfl (xall_cons rfl xall_nil) (xSee_cons rfl (xne_nil _) (xSee_nil _)) rfl rfl ?_
    obtain ⟨o4, h⟩ := h
    refine xRn.new (idx := 40) (ci := 1) (n := (40 + (r).length)) (fs := [.ref 0, .int 0, .int 0]) (nx := 45) (hp1 := hL (sF (sF S 4 ((gF S 4) + 1)) 11 (gF S 9)) (r ++ [xO 1 [.ref 0, .int 0, .int 0]])) (by decide +kernel) (by decide +kernel) (by decide) rfl (by rw [hL_len]; omega) rfl (bud_1 o4) (bud_2 o4 (by decide)) rfl ?_
    have hd5 := rl_new r (xO 1 [.ref 0, .int 0, .int 0])
    refine xRn.blk (pc1 := 46) (ls1 := [.ref 16, .int (if (20 : Int32) < (gF S 4) then (20 : Int32) else (gF S 4))]) (st1 := [.ref (40 + (r).length), .ref (40 + (r).length), .int (if (20 : Int32) < (gF S 4) then (20 : Int32) else (gF S 4)), .ref 21]) (hp1 := (hL (sF (sF S 4 ((gF S 4) + 1)) 11 (gF S 9)) (r ++ [xO 1 [.ref 0, .int 0, .int 0]]))) (ob := []) [(.dup, 1, 0, 0, 0, 0)] [] (by decide +kernel) rfl xall_nil (xSee_nil _) rfl rfl ?_
    refine xRn.callIN (al := []) (st := [.ref (40 + (r).length), .int (if (20 : Int32) < (gF S 4) then (20 : Int32) else (gF S 4)), .ref 21]) (nx := 49) (by decide +kernel) lk_IN_T_out_42_F_init_0 (by omega) rfl (c_F_init (d := d + 0) _ (rl_at (rl_new _ _)) (bud_F o4)) rfl (Nat.le_of_ble_eq_true rfl) rfl rfl ?_ ?_
    · rintro _ _ ⟨e9, e8⟩
      cases e9
      rw [e8, hL_newF]
      have hd6 := rl_newF r
      show xRn G l _ _ _ 49 [.ref 16, .int (if (20 : Int32) < (gF S 4) then (20 : Int32) else (gF S 4))] [.ref (40 + (r).length), .int (if (20 : Int32) < (gF S 4) then (20 : Int32) else (gF S 4)), .ref 21] (hL (sF (sF S 4 ((gF S 4) + 1)) 11 (gF S 9)) (r ++ [xO 1 [.ref (41 + (r).length), .int 0, .int 0], xI 1 120 (fun _ => 0)]))
      obtain ⟨o7, h⟩ := h
      refine xRn.blk (pc1 := 50) (ls1 := [.ref 16, .int (if (20 : Int32) < (gF S 4) then (20 : Int32) else (gF S 4))]) (st1 := []) (hp1 := (hL (sB (sF (sF S 4 ((gF S 4) + 1)) 11 (gF S 9)) 5 (va_up (gB S 5) (if (20 : Int32) < (gF S 4) then (20 : Int32) else (gF S 4)).toNatClampNeg (40 + (r).length))) (r ++ [xO 1 [.ref (41 + (r).length), .int 0, .int 0], xI 1 120 (fun _ => 0)]))) (ob := [(21 : Nat) = 21, ((40 + (r).length) : Nat) = (40 + (r).length), vp_in (if (20 : Int32) < (gF S 4) then (20 : Int32) else (gF S 4)) 21]) [(.aastore, 1, 0, 1, 0, 0)] [(21, xc5 (sF (sF S 4 ((gF S 4) + 1)) 11 (gF S 9))), ((40 + (r).length), xO 1 [.ref (41 + (r).length), .int 0, .int 0])] (by decide +kernel) rfl (xall_cons rfl (xall_cons rfl (xall_cons o7 xall_nil))) (xSee_cons rfl (xne_cons (by have h40 := (rl_ge hd6).1; omega) (xne_nil _)) (xSee_cons (rl_at hd6) (xne_nil _) (xSee_nil _))) rfl rfl ?_
      refine xRn.forget (xle_eq (xle_eq xle_nil)) ?_
      exact t_T_out_50   (sB (sF (sF S 4 ((gF S 4) + 1)) 11 (gF S 9)) 5 (va_up (gB S 5) (if (20 : Int32) < (gF S 4) then (20 : Int32) else (gF S 4)).toNatClampNeg (40 + (r).length))) (r ++ [xO 1 [.ref (41 + (r).length), .int 0, .int 0], xI 1 120 (fun _ => 0)]) (if (20 : Int32) < (gF S 4) then (20 : Int32) else (gF S 4)) h
    · rintro _ _ ⟨e9, _⟩
      cases e9
/-! T_send -/
def w_T_send_75   (K : XS → List AE → Prop) (S : XS) (r : List AE) (v4 : Nat) : Prop :=
  (∃ (g1 : Nat) (L2 B3 : Int32) (f4 : Nat → Int32), (rl r v4 = some (xO 1 [.ref g1, .int L2, .int B3]) ∧ rl r g1 = some (xI 1 120 f4)) ∧ (w_F_end L2 B3 f4  (fun L9 B10 f11 => (K (sF S 7 ((gF S 7) + 1)) (rF r v4 g1 L9 B10 f11)))))
set_option maxRecDepth 100000 in
theorem t_T_send_75 {G : XG} {l : Launch} {d : Nat} {K : XS → List AE → Prop} (S : XS) (r : List AE) (v4 : Nat) (h : w_T_send_75 K S r v4) : xRn G l (d + 4) xm_T_send (pV K) 75 [.ref 16, .null, .null, .null, .ref v4] [] (hL S r) := by
  refine xRn.blk (pc1 := 77) (ls1 := [.ref 16, .null, .null, .null, .ref v4]) (st1 := [.ref v4]) (hp1 := (hL S r)) (ob := []) [(.aload 4, 2, 4, 0, 0, 0)] [] (by decide +kernel) rfl xall_nil (xSee_nil _) rfl rfl ?_
  obtain ⟨g1, L2, B3, f4, hd5, h⟩ := h
  have hv6 := Rv_of hd5.1 hd5.2
  have he7 := rF_self hd5.1 hd5.2
  refine xRn.heq (hp1 := hL S (rF r v4 g1 L2 B3 f4)) (congrArg (hL _) he7.symm) ?_
  refine xRn.callV (al := []) (st := []) (nx := 80) (by decide +kernel) lk_V_T_send_122_F_end_1_0 (rl_at (rl_rF hv6)) rfl (xCt_eq (hF_rF hv6) (c_F_end (d := d + 0) (xFv_of hv6) L2 B3 f4  h)) rfl (Nat.le_of_ble_eq_true rfl) rfl rfl ?_ ?_
  · rintro _ _ ⟨L9, B10, f11, e9, rfl, h⟩
    cases e9
    rw [hF_rF hv6]
    show xRn G l _ _ _ 80 [.ref 16, .null, .null, .null, .ref v4] [] (hL S (rF r v4 g1 L9 B10 f11))
    refine xRn.blk (pc1 := 90) (ls1 := [.ref 16, .null, .null, .null, .ref v4]) (st1 := []) (hp1 := (hL (sF S 7 ((gF S 7) + 1)) (rF r v4 g1 L9 B10 f11))) (ob := [(16 : Nat) = 16, (16 : Nat) = 16]) [(.aload_n 0, 1, 0, 0, 0, 0), (.dup, 1, 0, 0, 0, 0), (.getfield 71, 3, 7, 0, 0, 0), (.iconst 1, 1, 0, 0, 0, 1), (.iadd, 1, 0, 0, 0, 0), (.putfield 71, 3, 7, 0, 0, 0)] [(16, xc0 S)] (by decide +kernel) rfl (xall_cons rfl (xall_cons rfl xall_nil)) (xSee_cons rfl (xne_nil _) (xSee_nil _)) rfl rfl ?_
    exact xRn.vret (by decide +kernel) rfl ⟨_, _, rfl, rfl, h⟩
  · rintro _ _ ⟨_, _, _, e9, _⟩
    cases e9
def w_T_send  (S : XS) (r : List AE) (p1 : Nat) (p2 : Int32) (p3 : Int32) (K : XS → List AE → Prop) : Prop :=
  ((¬ (gF S 5) = 0 → (w_T_out S r  (fun x13 S14 r15 => ((1 ≤ (p1 : Nat)) ∧ p1 ≤ 10) ∧ (∃ (g17 : Nat) (L18 B19 : Int32) (f20 : Nat → Int32), (rl r15 x13 = some (xO 1 [.ref g17, .int L18, .int B19]) ∧ rl r15 g17 = some (xI 1 120 f20)) ∧ (w_F_begin L18 B19 f20 (xcf 0 p1) (gF S14 7) 0 (fun L25 B26 f27 => (p1 ≤ 10) ∧ ((¬ p1 = 3 → (p1 ≤ 10) ∧ ((p1 = 5 → (w_T_send_75 K S14 (rF r15 x13 g17 L25 B26 f27) x13)) ∧ (¬ p1 = 5 → ((p2 < 0 → (w_T_send_75 K S14 (rF r15 x13 g17 L25 B26 f27) x13)) ∧ (¬ p2 < 0 → ((1 ≤ (p1 : Nat)) ∧ p1 ≤ 10) ∧ (w_F_field L25 B26 f27 (xcf 1 p1) p2 (fun L35 B36 f37 => (w_T_send_75 K S14 (rF r15 x13 g17 L35 B36 f37) x13)))))))) ∧ (p1 = 3 → (w_F_field L25 B26 f27 7 p2 (fun L39 B40 f41 => (w_F_field L39 B40 f41 16 p3 (fun L43 B44 f45 => (w_T_send_75 K S14 (rF r15 x13 g17 L43 B44 f45) x13))))))))))))) ∧ ((gF S 5) = 0 → (K S r)))
set_option maxRecDepth 100000 in
theorem c_T_send {G : XG} {l : Launch} {d : Nat} (S : XS) (r : List AE) (p1 : Nat) (p2 : Int32) (p3 : Int32) {K : XS → List AE → Prop} (h : w_T_send  S r p1 p2 p3 K) : xCt G l (d + 4) xm_T_send [.ref 16, .ref p1, .int p2, .int p3] (hL S r) (pV K) := by
  refine xCt.intro (by decide) (by decide) (List.forall_mem_cons.mpr ⟨rfl, (List.forall_mem_cons.mpr ⟨rfl, (List.forall_mem_cons.mpr ⟨rfl, (List.forall_mem_cons.mpr ⟨rfl, (fun _ h => by cases h)⟩)⟩)⟩)⟩) (Nat.le_of_ble_eq_true rfl) rfl ?_
  show xRn G l _ xm_T_send _ 0 [.ref 16, .ref p1, .int p2, .int p3, .null] [] (hL S r)
  refine xRn.blk (pc1 := 4) (ls1 := [.ref 16, .ref p1, .int p2, .int p3, .null]) (st1 := [.int (gF S 5)]) (hp1 := (hL S r)) (ob := [(16 : Nat) = 16]) [(.aload_n 0, 1, 0, 0, 0, 0), (.getfield 99, 3, 5, 0, 0, 0)] [(16, xc0 S)] (by decide +kernel) rfl (xall_cons rfl xall_nil) (xSee_cons rfl (xne_nil _) (xSee_nil _)) rfl rfl ?_
  refine xRn.if_ne (tgt := 8) (nx := 7) (off := 4) (by decide +kernel) (by decide) rfl (fun c12 => ?_) (fun c12 => ?_)
  · have h := h.1 c12
    refine xRn.blk (pc1 := 9) (ls1 := [.ref 16, .ref p1, .int p2, .int p3, .null]) (st1 := [.ref 16]) (hp1 := (hL S r)) (ob := []) [(.aload_n 0, 1, 0, 0, 0, 0)] [] (by decide +kernel) rfl xall_nil (xSee_nil _) rfl rfl ?_
    refine xRn.callV (al := []) (st := []) (nx := 12) (by decide +kernel) lk_V_T_send_103_T_out_0_0 rfl rfl (c_T_out (d := d + 1) S r  h) rfl (Nat.le_of_ble_eq_true rfl) rfl rfl ?_ ?_
    · rintro _ _ ⟨x13, S14, r15, e9, rfl, h⟩
      cases e9
      show xRn G l _ _ _ 12 [.ref 16, .ref p1, .int p2, .int p3, .null] [.ref x13] (hL S14 r15)
      obtain ⟨o16, h⟩ := h
      refine xRn.blk (pc1 := 25) (ls1 := [.ref 16, .ref p1, .int p2, .int p3, .ref x13]) (st1 := [.int 0, .int (gF S14 7), .int (xcf 0 p1), .ref x13]) (hp1 := (hL S14 r15)) (ob := [(1 ≤ (p1 : Nat)) ∧ p1 ≤ 10, (16 : Nat) = 16]) [(.astore 4, 2, 4, 0, 0, 0), (.aload 4, 2, 4, 0, 0, 0), (.aload_n 1, 1, 1, 0, 0, 0), (.getfield 107, 3, 0, 12, 0, 0), (.aload_n 0, 1, 0, 0, 0, 0), (.getfield 71, 3, 7, 0, 0, 0), (.iconst 0, 1, 0, 0, 0, 0)] [(16, xc0 S14)] (by decide +kernel) rfl (xall_cons o16 (xall_cons rfl xall_nil)) (xSee_cons rfl (xne_nil _) (xSee_nil _)) rfl rfl ?_
      obtain ⟨g17, L18, B19, f20, hd21, h⟩ := h
      have hv22 := Rv_of hd21.1 hd21.2
      have he23 := rF_self hd21.1 hd21.2
      refine xRn.heq (hp1 := hL S14 (rF r15 x13 g17 L18 B19 f20)) (congrArg (hL _) he23.symm) ?_
      refine xRn.callV (al := [.int (xcf 0 p1), .int (gF S14 7), .int 0]) (st := []) (nx := 28) (by decide +kernel) lk_V_T_send_111_F_begin_1_3 (rl_at (rl_rF hv22)) rfl (xCt_eq (hF_rF hv22) (c_F_begin (d := d + 0) (xFv_of hv22) L18 B19 f20 (xcf 0 p1) (gF S14 7) 0 h)) rfl (Nat.le_of_ble_eq_true rfl) rfl rfl ?_ ?_
      · rintro _ _ ⟨L25, B26, f27, e9, rfl, h⟩
        cases e9
        rw [hF_rF hv22]
        show xRn G l _ _ _ 28 [.ref 16, .ref p1, .int p2, .int p3, .ref x13] [] (hL S14 (rF r15 x13 g17 L25 B26 f27))
        refine xRn.blk (pc1 := 32) (ls1 := [.ref 16, .ref p1, .int p2, .int p3, .ref x13]) (st1 := [.ref 3, .ref p1]) (hp1 := (hL S14 (rF r15 x13 g17 L25 B26 f27))) (ob := []) [(.aload_n 1, 1, 1, 0, 0, 0), (.getstatic 10, 3, 2, 0, 0, 0)] [] (by decide +kernel) rfl xall_nil (xSee_nil _) rfl rfl ?_
        obtain ⟨o28, h⟩ := h
        refine xRn.ac_ne (tgt := 54) (nx := 35) (off := 22) (by decide +kernel) (by decide) rfl o28 (by decide) (fun c29 => ?_) (fun c29 => ?_)
        · have h := h.1 c29
          refine xRn.blk (pc1 := 58) (ls1 := [.ref 16, .ref p1, .int p2, .int p3, .ref x13]) (st1 := [.ref 5, .ref p1]) (hp1 := (hL S14 (rF r15 x13 g17 L25 B26 f27))) (ob := []) [(.aload_n 1, 1, 1, 0, 0, 0), (.getstatic 16, 3, 4, 0, 0, 0)] [] (by decide +kernel) rfl xall_nil (xSee_nil _) rfl rfl ?_
          obtain ⟨o30, h⟩ := h
          refine xRn.ac_eq (tgt := 75) (nx := 61) (off := 17) (by decide +kernel) (by decide) rfl o30 (by decide) (fun c31 => ?_) (fun c31 => ?_)
          · have h := h.1 c31
            refine xRn.forget (xle_eq (xle_no (xle_no (xle_no (xle_eq xle_nil))))) ?_
            exact t_T_send_75   S14 (rF r15 x13 g17 L25 B26 f27) x13 h
          · have h := h.2 c31
            refine xRn.blk (pc1 := 62) (ls1 := [.ref 16, .ref p1, .int p2, .int p3, .ref x13]) (st1 := [.int p2]) (hp1 := (hL S14 (rF r15 x13 g17 L25 B26 f27))) (ob := []) [(.iload_n 2, 1, 2, 0, 0, 0)] [] (by decide +kernel) rfl xall_nil (xSee_nil _) rfl rfl ?_
            refine xRn.if_lt (tgt := 75) (nx := 65) (off := 13) (by decide +kernel) (by decide) rfl (fun c32 => ?_) (fun c32 => ?_)
            · have h := h.1 c32
              refine xRn.forget (xle_eq (xle_no (xle_no (xle_no (xle_eq xle_nil))))) ?_
              exact t_T_send_75   S14 (rF r15 x13 g17 L25 B26 f27) x13 h
            · have h := h.2 c32
              obtain ⟨o33, h⟩ := h
              refine xRn.blk (pc1 := 72) (ls1 := [.ref 16, .ref p1, .int p2, .int p3, .ref x13]) (st1 := [.int p2, .int (xcf 1 p1), .ref x13]) (hp1 := (hL S14 (rF r15 x13 g17 L25 B26 f27))) (ob := [(1 ≤ (p1 : Nat)) ∧ p1 ≤ 10]) [(.aload 4, 2, 4, 0, 0, 0), (.aload_n 1, 1, 1, 0, 0, 0), (.getfield 119, 3, 1, 12, 0, 0), (.iload_n 2, 1, 2, 0, 0, 0)] [] (by decide +kernel) rfl (xall_cons o33 xall_nil) (xSee_nil _) rfl rfl ?_
              refine xRn.callV (al := [.int (xcf 1 p1), .int p2]) (st := []) (nx := 75) (by decide +kernel) lk_V_T_send_115_F_field_1_2 (rl_at (rl_rF hv22)) rfl (xCt_eq (hF_rF hv22) (c_F_field (d := d + 1) (xFv_of hv22) L25 B26 f27 (xcf 1 p1) p2 h)) rfl (Nat.le_of_ble_eq_true rfl) rfl rfl ?_ ?_
              · rintro _ _ ⟨L35, B36, f37, e9, rfl, h⟩
                cases e9
                rw [hF_rF hv22]
                show xRn G l _ _ _ 75 [.ref 16, .ref p1, .int p2, .int p3, .ref x13] [] (hL S14 (rF r15 x13 g17 L35 B36 f37))
                refine xRn.forget (xle_eq (xle_no (xle_no (xle_no (xle_eq xle_nil))))) ?_
                exact t_T_send_75   S14 (rF r15 x13 g17 L35 B36 f37) x13 h
              · rintro _ _ ⟨_, _, _, e9, _⟩
                cases e9
        · have h := h.2 c29
          refine xRn.blk (pc1 := 40) (ls1 := [.ref 16, .ref p1, .int p2, .int p3, .ref x13]) (st1 := [.int p2, .int 7, .ref x13]) (hp1 := (hL S14 (rF r15 x13 g17 L25 B26 f27))) (ob := []) [(.aload 4, 2, 4, 0, 0, 0), (.bipush 7, 2, 0, 0, 0, 7), (.iload_n 2, 1, 2, 0, 0, 0)] [] (by decide +kernel) rfl xall_nil (xSee_nil _) rfl rfl ?_
          refine xRn.callV (al := [.int 7, .int p2]) (st := []) (nx := 43) (by decide +kernel) lk_V_T_send_115_F_field_1_2 (rl_at (rl_rF hv22)) rfl (xCt_eq (hF_rF hv22) (c_F_field (d := d + 1) (xFv_of hv22) L25 B26 f27 7 p2 h)) rfl (Nat.le_of_ble_eq_true rfl) rfl rfl ?_ ?_
          · rintro _ _ ⟨L39, B40, f41, e9, rfl, h⟩
            cases e9
            rw [hF_rF hv22]
            show xRn G l _ _ _ 43 [.ref 16, .ref p1, .int p2, .int p3, .ref x13] [] (hL S14 (rF r15 x13 g17 L39 B40 f41))
            refine xRn.blk (pc1 := 48) (ls1 := [.ref 16, .ref p1, .int p2, .int p3, .ref x13]) (st1 := [.int p3, .int 16, .ref x13]) (hp1 := (hL S14 (rF r15 x13 g17 L39 B40 f41))) (ob := []) [(.aload 4, 2, 4, 0, 0, 0), (.bipush 16, 2, 0, 0, 0, 16), (.iload_n 3, 1, 3, 0, 0, 0)] [] (by decide +kernel) rfl xall_nil (xSee_nil _) rfl rfl ?_
            refine xRn.callV (al := [.int 16, .int p3]) (st := []) (nx := 51) (by decide +kernel) lk_V_T_send_115_F_field_1_2 (rl_at (rl_rF hv22)) rfl (xCt_eq (hF_rF hv22) (c_F_field (d := d + 1) (xFv_of hv22) L39 B40 f41 16 p3 h)) rfl (Nat.le_of_ble_eq_true rfl) rfl rfl ?_ ?_
            · rintro _ _ ⟨L43, B44, f45, e9, rfl, h⟩
              cases e9
              rw [hF_rF hv22]
              show xRn G l _ _ _ 51 [.ref 16, .ref p1, .int p2, .int p3, .ref x13] [] (hL S14 (rF r15 x13 g17 L43 B44 f45))
              refine xRn.goto (tgt := 75) (off := 24) (by decide +kernel) (by decide) ?_
              refine xRn.forget (xle_eq (xle_no (xle_no (xle_no (xle_eq xle_nil))))) ?_
              exact t_T_send_75   S14 (rF r15 x13 g17 L43 B44 f45) x13 h
            · rintro _ _ ⟨_, _, _, e9, _⟩
              cases e9
          · rintro _ _ ⟨_, _, _, e9, _⟩
            cases e9
      · rintro _ _ ⟨_, _, _, e9, _⟩
        cases e9
    · rintro _ _ ⟨_, _, _, e9, _⟩
      cases e9
  · have h := h.2 c12
    exact xRn.vret (by decide +kernel) rfl ⟨_, _, rfl, rfl, h⟩
/-! T_put -/
def w_T_put  (S : XS) (r : List AE) (p1 : Nat) (p2 : Int32) (K : XS → List AE → Prop) : Prop :=
  (w_T_out S r  (fun x1 S2 r3 => (∃ (n5 : Int32) (i6 : Int32) (s7 : Int32) (f8 : Int32) (l9 : Int32) (x10 : Nat), rl r3 p1 = some (xO 5 [.int n5, .int i6, .int s7, .int f8, .int l9, .ref x10]) ∧ (∃ (g11 : Nat) (L12 B13 : Int32) (f14 : Nat → Int32), (rl r3 x1 = some (xO 1 [.ref g11, .int L12, .int B13]) ∧ rl r3 g11 = some (xI 1 120 f14)) ∧ (w_F_begin L12 B13 f14 (xcf 0 10) n5 p2 (fun L19 B20 f21 => (∃ (n23 : Int32) (i24 : Int32) (s25 : Int32) (f26 : Int32) (l27 : Int32) (x28 : Nat), rl (rF r3 x1 g11 L19 B20 f21) p1 = some (xO 5 [.int n23, .int i24, .int s25, .int f26, .int l27, .ref x28]) ∧ (w_F_field L19 B20 f21 11 i24 (fun L30 B31 f32 => (∃ (n34 : Int32) (i35 : Int32) (s36 : Int32) (f37 : Int32) (l38 : Int32) (x39 : Nat), rl (rF r3 x1 g11 L30 B31 f32) p1 = some (xO 5 [.int n34, .int i35, .int s36, .int f37, .int l38, .ref x39]) ∧ (w_F_letter L30 B31 f32 39 s36 (fun L41 B42 f43 => (∃ (n45 : Int32) (i46 : Int32) (s47 : Int32) (f48 : Int32) (l49 : Int32) (x50 : Nat), rl (rF r3 x1 g11 L41 B42 f43) p1 = some (xO 5 [.int n45, .int i46, .int s47, .int f48, .int l49, .ref x50]) ∧ (w_F_field L41 B42 f43 14 f48 (fun L52 B53 f54 => (∃ (n56 : Int32) (i57 : Int32) (s58 : Int32) (f59 : Int32) (l60 : Int32) (x61 : Nat), rl (rF r3 x1 g11 L52 B53 f54) p1 = some (xO 5 [.int n56, .int i57, .int s58, .int f59, .int l60, .ref x61]) ∧ (w_F_field L52 B53 f54 151 l60 (fun L63 B64 f65 => (w_F_end L63 B64 f65  (fun L67 B68 f69 => (K S2 (rF r3 x1 g11 L67 B68 f69))))))))))))))))))))))
set_option maxRecDepth 100000 in
theorem c_T_put {G : XG} {l : Launch} {d : Nat} (S : XS) (r : List AE) (p1 : Nat) (p2 : Int32) {K : XS → List AE → Prop} (h : w_T_put  S r p1 p2 K) : xCt G l (d + 4) xm_T_put [.ref 16, .ref p1, .int p2] (hL S r) (pV K) := by
  refine xCt.intro (by decide) (by decide) (List.forall_mem_cons.mpr ⟨rfl, (List.forall_mem_cons.mpr ⟨rfl, (List.forall_mem_cons.mpr ⟨rfl, (fun _ h => by cases h)⟩)⟩)⟩) (Nat.le_of_ble_eq_true rfl) rfl ?_
  show xRn G l _ xm_T_put _ 0 [.ref 16, .ref p1, .int p2, .null] [] (hL S r)
  refine xRn.blk (pc1 := 1) (ls1 := [.ref 16, .ref p1, .int p2, .null]) (st1 := [.ref 16]) (hp1 := (hL S r)) (ob := []) [(.aload_n 0, 1, 0, 0, 0, 0)] [] (by decide +kernel) rfl xall_nil (xSee_nil _) rfl rfl ?_
  refine xRn.callV (al := []) (st := []) (nx := 4) (by decide +kernel) lk_V_T_put_103_T_out_0_0 rfl rfl (c_T_out (d := d + 1) S r  h) rfl (Nat.le_of_ble_eq_true rfl) rfl rfl ?_ ?_
  · rintro _ _ ⟨x1, S2, r3, e9, rfl, h⟩
    cases e9
    show xRn G l _ _ _ 4 [.ref 16, .ref p1, .int p2, .null] [.ref x1] (hL S2 r3)
    refine xRn.blk (pc1 := 13) (ls1 := [.ref 16, .ref p1, .int p2, .ref x1]) (st1 := [.ref p1, .int (xcf 0 10), .ref x1]) (hp1 := (hL S2 r3)) (ob := [(1 ≤ (10 : Nat)) ∧ 10 ≤ 10]) [(.astore_n 3, 1, 3, 0, 0, 0), (.aload_n 3, 1, 3, 0, 0, 0), (.getstatic 31, 3, 9, 0, 0, 0), (.getfield 107, 3, 0, 12, 0, 0), (.aload_n 1, 1, 1, 0, 0, 0)] [] (by decide +kernel) rfl (xall_cons (by decide) xall_nil) (xSee_nil _) rfl rfl ?_
    obtain ⟨n5, i6, s7, f8, l9, x10, hd4, h⟩ := h
    refine xRn.blk (pc1 := 17) (ls1 := [.ref 16, .ref p1, .int p2, .ref x1]) (st1 := [.int p2, .int n5, .int (xcf 0 10), .ref x1]) (hp1 := (hL S2 r3)) (ob := [(p1 : Nat) = p1]) [(.getfield 125, 3, 0, 5, 0, 0), (.iload_n 2, 1, 2, 0, 0, 0)] [(p1, xO 5 [.int n5, .int i6, .int s7, .int f8, .int l9, .ref x10])] (by decide +kernel) rfl (xall_cons rfl xall_nil) (xSee_cons (rl_at hd4) (xne_nil _) (xSee_nil _)) rfl rfl ?_
    obtain ⟨g11, L12, B13, f14, hd15, h⟩ := h
    have hv16 := Rv_of hd15.1 hd15.2
    have he17 := rF_self hd15.1 hd15.2
    refine xRn.heq (hp1 := hL S2 (rF r3 x1 g11 L12 B13 f14)) (congrArg (hL _) he17.symm) ?_
    refine xRn.callV (al := [.int (xcf 0 10), .int n5, .int p2]) (st := []) (nx := 20) (by decide +kernel) lk_V_T_put_111_F_begin_1_3 (rl_at (rl_rF hv16)) rfl (xCt_eq (hF_rF hv16) (c_F_begin (d := d + 0) (xFv_of hv16) L12 B13 f14 (xcf 0 10) n5 p2 h)) rfl (Nat.le_of_ble_eq_true rfl) rfl rfl ?_ ?_
    · rintro _ _ ⟨L19, B20, f21, e9, rfl, h⟩
      cases e9
      rw [hF_rF hv16]
      show xRn G l _ _ _ 20 [.ref 16, .ref p1, .int p2, .ref x1] [] (hL S2 (rF r3 x1 g11 L19 B20 f21))
      refine xRn.blk (pc1 := 24) (ls1 := [.ref 16, .ref p1, .int p2, .ref x1]) (st1 := [.ref p1, .int 11, .ref x1]) (hp1 := (hL S2 (rF r3 x1 g11 L19 B20 f21))) (ob := []) [(.aload_n 3, 1, 3, 0, 0, 0), (.bipush 11, 2, 0, 0, 0, 11), (.aload_n 1, 1, 1, 0, 0, 0)] [] (by decide +kernel) rfl xall_nil (xSee_nil _) rfl rfl ?_
      obtain ⟨n23, i24, s25, f26, l27, x28, hd22, h⟩ := h
      refine xRn.blk (pc1 := 27) (ls1 := [.ref 16, .ref p1, .int p2, .ref x1]) (st1 := [.int i24, .int 11, .ref x1]) (hp1 := (hL S2 (rF r3 x1 g11 L19 B20 f21))) (ob := [(p1 : Nat) = p1]) [(.getfield 130, 3, 1, 5, 0, 0)] [(p1, xO 5 [.int n23, .int i24, .int s25, .int f26, .int l27, .ref x28])] (by decide +kernel) rfl (xall_cons rfl xall_nil) (xSee_cons (rl_at hd22) (xne_nil _) (xSee_nil _)) rfl rfl ?_
      refine xRn.callV (al := [.int 11, .int i24]) (st := []) (nx := 30) (by decide +kernel) lk_V_T_put_115_F_field_1_2 (rl_at (rl_rF hv16)) rfl (xCt_eq (hF_rF hv16) (c_F_field (d := d + 1) (xFv_of hv16) L19 B20 f21 11 i24 h)) rfl (Nat.le_of_ble_eq_true rfl) rfl rfl ?_ ?_
      · rintro _ _ ⟨L30, B31, f32, e9, rfl, h⟩
        cases e9
        rw [hF_rF hv16]
        show xRn G l _ _ _ 30 [.ref 16, .ref p1, .int p2, .ref x1] [] (hL S2 (rF r3 x1 g11 L30 B31 f32))
        refine xRn.blk (pc1 := 34) (ls1 := [.ref 16, .ref p1, .int p2, .ref x1]) (st1 := [.ref p1, .int 39, .ref x1]) (hp1 := (hL S2 (rF r3 x1 g11 L30 B31 f32))) (ob := []) [(.aload_n 3, 1, 3, 0, 0, 0), (.bipush 39, 2, 0, 0, 0, 39), (.aload_n 1, 1, 1, 0, 0, 0)] [] (by decide +kernel) rfl xall_nil (xSee_nil _) rfl rfl ?_
        obtain ⟨n34, i35, s36, f37, l38, x39, hd33, h⟩ := h
        refine xRn.blk (pc1 := 37) (ls1 := [.ref 16, .ref p1, .int p2, .ref x1]) (st1 := [.int s36, .int 39, .ref x1]) (hp1 := (hL S2 (rF r3 x1 g11 L30 B31 f32))) (ob := [(p1 : Nat) = p1]) [(.getfield 133, 3, 2, 5, 0, 0)] [(p1, xO 5 [.int n34, .int i35, .int s36, .int f37, .int l38, .ref x39])] (by decide +kernel) rfl (xall_cons rfl xall_nil) (xSee_cons (rl_at hd33) (xne_nil _) (xSee_nil _)) rfl rfl ?_
        refine xRn.callV (al := [.int 39, .int s36]) (st := []) (nx := 40) (by decide +kernel) lk_V_T_put_136_F_letter_1_2 (rl_at (rl_rF hv16)) rfl (xCt_eq (hF_rF hv16) (c_F_letter (d := d + 1) (xFv_of hv16) L30 B31 f32 39 s36 h)) rfl (Nat.le_of_ble_eq_true rfl) rfl rfl ?_ ?_
        · rintro _ _ ⟨L41, B42, f43, e9, rfl, h⟩
          cases e9
          rw [hF_rF hv16]
          show xRn G l _ _ _ 40 [.ref 16, .ref p1, .int p2, .ref x1] [] (hL S2 (rF r3 x1 g11 L41 B42 f43))
          refine xRn.blk (pc1 := 44) (ls1 := [.ref 16, .ref p1, .int p2, .ref x1]) (st1 := [.ref p1, .int 14, .ref x1]) (hp1 := (hL S2 (rF r3 x1 g11 L41 B42 f43))) (ob := []) [(.aload_n 3, 1, 3, 0, 0, 0), (.bipush 14, 2, 0, 0, 0, 14), (.aload_n 1, 1, 1, 0, 0, 0)] [] (by decide +kernel) rfl xall_nil (xSee_nil _) rfl rfl ?_
          obtain ⟨n45, i46, s47, f48, l49, x50, hd44, h⟩ := h
          refine xRn.blk (pc1 := 47) (ls1 := [.ref 16, .ref p1, .int p2, .ref x1]) (st1 := [.int f48, .int 14, .ref x1]) (hp1 := (hL S2 (rF r3 x1 g11 L41 B42 f43))) (ob := [(p1 : Nat) = p1]) [(.getfield 140, 3, 3, 5, 0, 0)] [(p1, xO 5 [.int n45, .int i46, .int s47, .int f48, .int l49, .ref x50])] (by decide +kernel) rfl (xall_cons rfl xall_nil) (xSee_cons (rl_at hd44) (xne_nil _) (xSee_nil _)) rfl rfl ?_
          refine xRn.callV (al := [.int 14, .int f48]) (st := []) (nx := 50) (by decide +kernel) lk_V_T_put_115_F_field_1_2 (rl_at (rl_rF hv16)) rfl (xCt_eq (hF_rF hv16) (c_F_field (d := d + 1) (xFv_of hv16) L41 B42 f43 14 f48 h)) rfl (Nat.le_of_ble_eq_true rfl) rfl rfl ?_ ?_
          · rintro _ _ ⟨L52, B53, f54, e9, rfl, h⟩
            cases e9
            rw [hF_rF hv16]
            show xRn G l _ _ _ 50 [.ref 16, .ref p1, .int p2, .ref x1] [] (hL S2 (rF r3 x1 g11 L52 B53 f54))
            refine xRn.blk (pc1 := 55) (ls1 := [.ref 16, .ref p1, .int p2, .ref x1]) (st1 := [.ref p1, .int 151, .ref x1]) (hp1 := (hL S2 (rF r3 x1 g11 L52 B53 f54))) (ob := []) [(.aload_n 3, 1, 3, 0, 0, 0), (.sipush 151, 3, 0, 0, 0, 151), (.aload_n 1, 1, 1, 0, 0, 0)] [] (by decide +kernel) rfl xall_nil (xSee_nil _) rfl rfl ?_
            obtain ⟨n56, i57, s58, f59, l60, x61, hd55, h⟩ := h
            refine xRn.blk (pc1 := 58) (ls1 := [.ref 16, .ref p1, .int p2, .ref x1]) (st1 := [.int l60, .int 151, .ref x1]) (hp1 := (hL S2 (rF r3 x1 g11 L52 B53 f54))) (ob := [(p1 : Nat) = p1]) [(.getfield 143, 3, 4, 5, 0, 0)] [(p1, xO 5 [.int n56, .int i57, .int s58, .int f59, .int l60, .ref x61])] (by decide +kernel) rfl (xall_cons rfl xall_nil) (xSee_cons (rl_at hd55) (xne_nil _) (xSee_nil _)) rfl rfl ?_
            refine xRn.callV (al := [.int 151, .int l60]) (st := []) (nx := 61) (by decide +kernel) lk_V_T_put_115_F_field_1_2 (rl_at (rl_rF hv16)) rfl (xCt_eq (hF_rF hv16) (c_F_field (d := d + 1) (xFv_of hv16) L52 B53 f54 151 l60 h)) rfl (Nat.le_of_ble_eq_true rfl) rfl rfl ?_ ?_
            · rintro _ _ ⟨L63, B64, f65, e9, rfl, h⟩
              cases e9
              rw [hF_rF hv16]
              show xRn G l _ _ _ 61 [.ref 16, .ref p1, .int p2, .ref x1] [] (hL S2 (rF r3 x1 g11 L63 B64 f65))
              refine xRn.blk (pc1 := 62) (ls1 := [.ref 16, .ref p1, .int p2, .ref x1]) (st1 := [.ref x1]) (hp1 := (hL S2 (rF r3 x1 g11 L63 B64 f65))) (ob := []) [(.aload_n 3, 1, 3, 0, 0, 0)] [] (by decide +kernel) rfl xall_nil (xSee_nil _) rfl rfl ?_
              refine xRn.callV (al := []) (st := []) (nx := 65) (by decide +kernel) lk_V_T_put_122_F_end_1_0 (rl_at (rl_rF hv16)) rfl (xCt_eq (hF_rF hv16) (c_F_end (d := d + 0) (xFv_of hv16) L63 B64 f65  h)) rfl (Nat.le_of_ble_eq_true rfl) rfl rfl ?_ ?_
              · rintro _ _ ⟨L67, B68, f69, e9, rfl, h⟩
                cases e9
                rw [hF_rF hv16]
                show xRn G l _ _ _ 65 [.ref 16, .ref p1, .int p2, .ref x1] [] (hL S2 (rF r3 x1 g11 L67 B68 f69))
                exact xRn.vret (by decide +kernel) rfl ⟨_, _, rfl, rfl, h⟩
              · rintro _ _ ⟨_, _, _, e9, _⟩
                cases e9
            · rintro _ _ ⟨_, _, _, e9, _⟩
              cases e9
          · rintro _ _ ⟨_, _, _, e9, _⟩
            cases e9
        · rintro _ _ ⟨_, _, _, e9, _⟩
          cases e9
      · rintro _ _ ⟨_, _, _, e9, _⟩
        cases e9
    · rintro _ _ ⟨_, _, _, e9, _⟩
      cases e9
  · rintro _ _ ⟨_, _, _, e9, _⟩
    cases e9
/-! T_report -/
def w_T_report_68   (K : XS → List AE → Prop) (S : XS) (r : List AE) (v5 : Nat) : Prop :=
  (((gF S 5) = 0 → (K (sF (sR S 14 v5) 7 ((gF S 7) + 1)) r)) ∧ (¬ (gF S 5) = 0 → (w_T_put (sF (sR S 14 v5) 7 ((gF S 7) + 1)) r v5 0 (fun S3 r4 => (K S3 r4)))))
set_option maxRecDepth 100000 in
theorem t_T_report_68 {G : XG} {l : Launch} {d : Nat} {K : XS → List AE → Prop} (S : XS) (r : List AE) (v5 : Nat) (h : w_T_report_68 K S r v5) : xRn G l (d + 5) xm_T_report (pV K) 68 [.ref 16, .null, .null, .null, .null, .ref v5] [] (hL S r) := by
  refine xRn.blk (pc1 := 88) (ls1 := [.ref 16, .null, .null, .null, .null, .ref v5]) (st1 := [.int (gF S 5)]) (hp1 := (hL (sF (sR S 14 v5) 7 ((gF S 7) + 1)) r)) (ob := [(16 : Nat) = 16, (16 : Nat) = 16, (16 : Nat) = 16, (16 : Nat) = 16]) [(.aload_n 0, 1, 0, 0, 0, 0), (.aload 5, 2, 5, 0, 0, 0), (.putfield 147, 3, 14, 0, 0, 0), (.aload_n 0, 1, 0, 0, 0, 0), (.dup, 1, 0, 0, 0, 0), (.getfield 71, 3, 7, 0, 0, 0), (.iconst 1, 1, 0, 0, 0, 1), (.iadd, 1, 0, 0, 0, 0), (.putfield 71, 3, 7, 0, 0, 0), (.aload_n 0, 1, 0, 0, 0, 0), (.getfield 99, 3, 5, 0, 0, 0)] [(16, xc0 S)] (by decide +kernel) rfl (xall_cons rfl (xall_cons rfl (xall_cons rfl (xall_cons rfl xall_nil)))) (xSee_cons rfl (xne_nil _) (xSee_nil _)) rfl rfl ?_
  refine xRn.if_eq (tgt := 98) (nx := 91) (off := 10) (by decide +kernel) (by decide) rfl (fun c1 => ?_) (fun c1 => ?_)
  · have h := h.1 c1
    exact xRn.vret (by decide +kernel) rfl ⟨_, _, rfl, rfl, h⟩
  · have h := h.2 c1
    refine xRn.blk (pc1 := 95) (ls1 := [.ref 16, .null, .null, .null, .null, .ref v5]) (st1 := [.int 0, .ref v5, .ref 16]) (hp1 := (hL (sF (sR S 14 v5) 7 ((gF S 7) + 1)) r)) (ob := []) [(.aload_n 0, 1, 0, 0, 0, 0), (.aload 5, 2, 5, 0, 0, 0), (.iconst 0, 1, 0, 0, 0, 0)] [] (by decide +kernel) rfl xall_nil (xSee_nil _) rfl rfl ?_
    refine xRn.callV (al := [.ref v5, .int 0]) (st := []) (nx := 98) (by decide +kernel) lk_V_T_report_156_T_put_0_2 rfl rfl (c_T_put (d := d + 0) (sF (sR S 14 v5) 7 ((gF S 7) + 1)) r v5 0 h) rfl (Nat.le_of_ble_eq_true rfl) rfl rfl ?_ ?_
    · rintro _ _ ⟨S3, r4, e9, rfl, h⟩
      cases e9
      show xRn G l _ _ _ 98 [.ref 16, .null, .null, .null, .null, .ref v5] [] (hL S3 r4)
      exact xRn.vret (by decide +kernel) rfl ⟨_, _, rfl, rfl, h⟩
    · rintro _ _ ⟨_, _, e9, _⟩
      cases e9
def w_T_report  (S : XS) (r : List AE) (p1 : Int32) (p2 : Int32) (p3 : Int32) (p4 : Int32) (K : XS → List AE → Prop) : Prop :=
  (bud r ∧ (narrow .char (.int p2) = .int p2 ∧ fits .char (.int p2) = true) ∧ ((¬ (gR S 14) = 0 → (∃ (n11 : Int32) (i12 : Int32) (s13 : Int32) (f14 : Int32) (l15 : Int32) (x16 : Nat), rl (rset (r ++ [xO 5 [.int 0, .int 0, .int 0, .int 0, .int 0, .ref 0]]) (40 + (r).length) (xO 5 [.int (gF S 7), .int p1, .int p2, .int p3, .int p4, .ref 0])) (gR S 14) = some (xO 5 [.int n11, .int i12, .int s13, .int f14, .int l15, .ref x16]) ∧ (w_T_report_68 K S (rset (rset (r ++ [xO 5 [.int 0, .int 0, .int 0, .int 0, .int 0, .ref 0]]) (40 + (r).length) (xO 5 [.int (gF S 7), .int p1, .int p2, .int p3, .int p4, .ref 0])) (gR S 14) (xO 5 [.int n11, .int i12, .int s13, .int f14, .int l15, .ref (40 + (r).length)])) (40 + (r).length)))) ∧ ((gR S 14) = 0 → (w_T_report_68 K (sR S 13 (40 + (r).length)) (rset (r ++ [xO 5 [.int 0, .int 0, .int 0, .int 0, .int 0, .ref 0]]) (40 + (r).length) (xO 5 [.int (gF S 7), .int p1, .int p2, .int p3, .int p4, .ref 0])) (40 + (r).length)))))
set_option maxRecDepth 100000 in
theorem c_T_report {G : XG} {l : Launch} {d : Nat} (S : XS) (r : List AE) (p1 : Int32) (p2 : Int32) (p3 : Int32) (p4 : Int32) {K : XS → List AE → Prop} (h : w_T_report  S r p1 p2 p3 p4 K) : xCt G l (d + 5) xm_T_report [.ref 16, .int p1, .int p2, .int p3, .int p4] (hL S r) (pV K) := by
  refine xCt.intro (by decide) (by decide) (List.forall_mem_cons.mpr ⟨rfl, (List.forall_mem_cons.mpr ⟨rfl, (List.forall_mem_cons.mpr ⟨rfl, (List.forall_mem_cons.mpr ⟨rfl, (List.forall_mem_cons.mpr ⟨rfl, (fun _ h => by cases h)⟩)⟩)⟩)⟩)⟩) (Nat.le_of_ble_eq_true rfl) rfl ?_
  show xRn G l _ xm_T_report _ 0 [.ref 16, .int p1, .int p2, .int p3, .int p4, .null] [] (hL S r)
  obtain ⟨o5, h⟩ := h
  refine xRn.new (idx := 126) (ci := 5) (n := (40 + (r).length)) (fs := [.int 0, .int 0, .int 0, .int 0, .int 0, .ref 0]) (nx := 3) (hp1 := hL S (r ++ [xO 5 [.int 0, .int 0, .int 0, .int 0, .int 0, .ref 0]])) (by decide +kernel) (by decide +kernel) (by decide) rfl (by rw [hL_len]; omega) rfl (bud_1 o5) (bud_2 o5 (by decide)) rfl ?_
  have hd6 := rl_new r (xO 5 [.int 0, .int 0, .int 0, .int 0, .int 0, .ref 0])
  refine xRn.blk (pc1 := 4) (ls1 := [.ref 16, .int p1, .int p2, .int p3, .int p4, .null]) (st1 := [.ref (40 + (r).length), .ref (40 + (r).length)]) (hp1 := (hL S (r ++ [xO 5 [.int 0, .int 0, .int 0, .int 0, .int 0, .ref 0]]))) (ob := []) [(.dup, 1, 0, 0, 0, 0)] [] (by decide +kernel) rfl xall_nil (xSee_nil _) rfl rfl ?_
  refine xRn.callIN (al := []) (st := [.ref (40 + (r).length)]) (nx := 7) (by decide +kernel) lk_IN_T_report_146_R_init_0 (by omega) rfl (c_R_init (d := d + 3) (by omega) _) rfl (Nat.le_of_ble_eq_true rfl) rfl rfl ?_ ?_
  · rintro _ _ ⟨e9, e8⟩
    cases e9
    rw [e8]
    show xRn G l _ _ _ 7 [.ref 16, .int p1, .int p2, .int p3, .int p4, .null] [.ref (40 + (r).length)] (hL S (r ++ [xO 5 [.int 0, .int 0, .int 0, .int 0, .int 0, .ref 0]]))
    obtain ⟨o7, h⟩ := h
    refine xRn.blk (pc1 := 47) (ls1 := [.ref 16, .int p1, .int p2, .int p3, .int p4, .ref (40 + (r).length)]) (st1 := [.ref (gR S 14)]) (hp1 := (hL S (rset (r ++ [xO 5 [.int 0, .int 0, .int 0, .int 0, .int 0, .ref 0]]) (40 + (r).length) (xO 5 [.int (gF S 7), .int p1, .int p2, .int p3, .int p4, .ref 0])))) (ob := [(16 : Nat) = 16, ((40 + (r).length) : Nat) = (40 + (r).length), ((40 + (r).length) : Nat) = (40 + (r).length), ((40 + (r).length) : Nat) = (40 + (r).length), narrow .char (.int p2) = .int p2 ∧ fits .char (.int p2) = true, ((40 + (r).length) : Nat) = (40 + (r).length), ((40 + (r).length) : Nat) = (40 + (r).length), (16 : Nat) = 16]) [(.astore 5, 2, 5, 0, 0, 0), (.aload 5, 2, 5, 0, 0, 0), (.aload_n 0, 1, 0, 0, 0, 0), (.getfield 71, 3, 7, 0, 0, 0), (.putfield 125, 3, 0, 5, 1, 0), (.aload 5, 2, 5, 0, 0, 0), (.iload_n 1, 1, 1, 0, 0, 0), (.putfield 130, 3, 1, 5, 1, 0), (.aload 5, 2, 5, 0, 0, 0), (.iload_n 2, 1, 2, 0, 0, 0), (.putfield 133, 3, 2, 5, 1, 0), (.aload 5, 2, 5, 0, 0, 0), (.iload_n 3, 1, 3, 0, 0, 0), (.putfield 140, 3, 3, 5, 1, 0), (.aload 5, 2, 5, 0, 0, 0), (.iload 4, 2, 4, 0, 0, 0), (.putfield 143, 3, 4, 5, 1, 0), (.aload_n 0, 1, 0, 0, 0, 0), (.getfield 147, 3, 14, 0, 0, 0)] [(16, xc0 S), ((40 + (r).length), xO 5 [.int 0, .int 0, .int 0, .int 0, .int 0, .ref 0])] (by decide +kernel) rfl (xall_cons rfl (xall_cons rfl (xall_cons rfl (xall_cons rfl (xall_cons o7 (xall_cons rfl (xall_cons rfl (xall_cons rfl xall_nil)))))))) (xSee_cons rfl (xne_cons (by have h40 := (rl_ge hd6).1; omega) (xne_nil _)) (xSee_cons (rl_at hd6) (xne_nil _) (xSee_nil _))) rfl (by simp only [xputs, List.nil_append, List.cons_append, List.append_nil, List.foldl_cons, List.foldl_nil, List.set_cons_zero, List.set_cons_succ, hL_put _ (rl_ge hd6).1, rset_rset]) ?_
    have hd8 : rl (rset (r ++ [xO 5 [.int 0, .int 0, .int 0, .int 0, .int 0, .ref 0]]) (40 + (r).length) (xO 5 [.int (gF S 7), .int p1, .int p2, .int p3, .int p4, .ref 0])) (40 + (r).length) = some (xO 5 [.int (gF S 7), .int p1, .int p2, .int p3, .int p4, .ref 0]) := rl_rset hd6 _
    refine xRn.ifnonnull (tgt := 59) (nx := 50) (off := 12) (by decide +kernel) (by decide) rfl (fun c9 => ?_) (fun c9 => ?_)
    · have h := h.1 c9
      refine xRn.blk (pc1 := 65) (ls1 := [.ref 16, .int p1, .int p2, .int p3, .int p4, .ref (40 + (r).length)]) (st1 := [.ref (40 + (r).length), .ref (gR S 14)]) (hp1 := (hL S (rset (r ++ [xO 5 [.int 0, .int 0, .int 0, .int 0, .int 0, .ref 0]]) (40 + (r).length) (xO 5 [.int (gF S 7), .int p1, .int p2, .int p3, .int p4, .ref 0])))) (ob := [(16 : Nat) = 16]) [(.aload_n 0, 1, 0, 0, 0, 0), (.getfield 147, 3, 14, 0, 0, 0), (.aload 5, 2, 5, 0, 0, 0)] [(16, xc0 S)] (by decide +kernel) rfl (xall_cons rfl xall_nil) (xSee_cons rfl (xne_nil _) (xSee_nil _)) rfl rfl ?_
      obtain ⟨n11, i12, s13, f14, l15, x16, hd10, h⟩ := h
      refine xRn.blk (pc1 := 68) (ls1 := [.ref 16, .int p1, .int p2, .int p3, .int p4, .ref (40 + (r).length)]) (st1 := []) (hp1 := (hL S (rset (rset (r ++ [xO 5 [.int 0, .int 0, .int 0, .int 0, .int 0, .ref 0]]) (40 + (r).length) (xO 5 [.int (gF S 7), .int p1, .int p2, .int p3, .int p4, .ref 0])) (gR S 14) (xO 5 [.int n11, .int i12, .int s13, .int f14, .int l15, .ref (40 + (r).length)])))) (ob := [((gR S 14) : Nat) = (gR S 14)]) [(.putfield 154, 3, 5, 5, 0, 0)] [((gR S 14), xO 5 [.int n11, .int i12, .int s13, .int f14, .int l15, .ref x16])] (by decide +kernel) rfl (xall_cons rfl xall_nil) (xSee_cons (rl_at hd10) (xne_nil _) (xSee_nil _)) rfl (by simp only [xputs, List.nil_append, List.cons_append, List.append_nil, List.foldl_cons, List.foldl_nil, List.set_cons_zero, List.set_cons_succ, hL_put _ (rl_ge hd10).1, rset_rset]) ?_
      have hd17 : rl (rset (rset (r ++ [xO 5 [.int 0, .int 0, .int 0, .int 0, .int 0, .ref 0]]) (40 + (r).length) (xO 5 [.int (gF S 7), .int p1, .int p2, .int p3, .int p4, .ref 0])) (gR S 14) (xO 5 [.int n11, .int i12, .int s13, .int f14, .int l15, .ref (40 + (r).length)])) (gR S 14) = some (xO 5 [.int n11, .int i12, .int s13, .int f14, .int l15, .ref (40 + (r).length)]) := rl_rset hd10 _
      refine xRn.forget (xle_eq (xle_no (xle_no (xle_no (xle_no (xle_eq xle_nil)))))) ?_
      exact t_T_report_68   S (rset (rset (r ++ [xO 5 [.int 0, .int 0, .int 0, .int 0, .int 0, .ref 0]]) (40 + (r).length) (xO 5 [.int (gF S 7), .int p1, .int p2, .int p3, .int p4, .ref 0])) (gR S 14) (xO 5 [.int n11, .int i12, .int s13, .int f14, .int l15, .ref (40 + (r).length)])) (40 + (r).length) h
    · have h := h.2 c9
      refine xRn.blk (pc1 := 56) (ls1 := [.ref 16, .int p1, .int p2, .int p3, .int p4, .ref (40 + (r).length)]) (st1 := []) (hp1 := (hL (sR S 13 (40 + (r).length)) (rset (r ++ [xO 5 [.int 0, .int 0, .int 0, .int 0, .int 0, .ref 0]]) (40 + (r).length) (xO 5 [.int (gF S 7), .int p1, .int p2, .int p3, .int p4, .ref 0])))) (ob := [(16 : Nat) = 16]) [(.aload_n 0, 1, 0, 0, 0, 0), (.aload 5, 2, 5, 0, 0, 0), (.putfield 151, 3, 13, 0, 0, 0)] [(16, xc0 S)] (by decide +kernel) rfl (xall_cons rfl xall_nil) (xSee_cons rfl (xne_nil _) (xSee_nil _)) rfl rfl ?_
      refine xRn.goto (tgt := 68) (off := 12) (by decide +kernel) (by decide) ?_
      refine xRn.forget (xle_eq (xle_no (xle_no (xle_no (xle_no (xle_eq xle_nil)))))) ?_
      exact t_T_report_68   (sR S 13 (40 + (r).length)) (rset (r ++ [xO 5 [.int 0, .int 0, .int 0, .int 0, .int 0, .ref 0]]) (40 + (r).length) (xO 5 [.int (gF S 7), .int p1, .int p2, .int p3, .int p4, .ref 0])) (40 + (r).length) h
  · rintro _ _ ⟨e9, _⟩
    cases e9
/-! T_fillUp -/
def w_T_fillUp  (S : XS) (r : List AE) (p1 : Int32) (p2 : Int32) (K : XS → List AE → Prop) : Prop :=
  ((p2 ≤ p1 → (K S r)) ∧ (¬ p2 ≤ p1 → (w_T_out S r  (fun x2 S3 r4 => (∃ (g5 : Nat) (L6 B7 : Int32) (f8 : Nat → Int32), (rl r4 x2 = some (xO 1 [.ref g5, .int L6, .int B7]) ∧ rl r4 g5 = some (xI 1 120 f8)) ∧ (w_F_begin L6 B7 f8 (xcf 0 4) p1 1 (fun L13 B14 f15 => (w_F_field L13 B14 f15 36 p2 (fun L17 B18 f19 => (w_F_letter L17 B18 f19 123 89 (fun L21 B22 f23 => (w_F_end L21 B22 f23  (fun L25 B26 f27 => (K S3 (rF r4 x2 g5 L25 B26 f27)))))))))))))))
set_option maxRecDepth 100000 in
theorem c_T_fillUp {G : XG} {l : Launch} {d : Nat} (S : XS) (r : List AE) (p1 : Int32) (p2 : Int32) {K : XS → List AE → Prop} (h : w_T_fillUp  S r p1 p2 K) : xCt G l (d + 4) xm_T_fillUp [.ref 16, .int p1, .int p2] (hL S r) (pV K) := by
  refine xCt.intro (by decide) (by decide) (List.forall_mem_cons.mpr ⟨rfl, (List.forall_mem_cons.mpr ⟨rfl, (List.forall_mem_cons.mpr ⟨rfl, (fun _ h => by cases h)⟩)⟩)⟩) (Nat.le_of_ble_eq_true rfl) rfl ?_
  show xRn G l _ xm_T_fillUp _ 0 [.ref 16, .int p1, .int p2, .null] [] (hL S r)
  refine xRn.blk (pc1 := 2) (ls1 := [.ref 16, .int p1, .int p2, .null]) (st1 := [.int p2, .int p1]) (hp1 := (hL S r)) (ob := []) [(.iload_n 1, 1, 1, 0, 0, 0), (.iload_n 2, 1, 2, 0, 0, 0)] [] (by decide +kernel) rfl xall_nil (xSee_nil _) rfl rfl ?_
  refine xRn.ic_ge (tgt := 41) (nx := 5) (off := 39) (by decide +kernel) (by decide) rfl (fun c1 => ?_) (fun c1 => ?_)
  · have h := h.1 c1
    exact xRn.vret (by decide +kernel) rfl ⟨_, _, rfl, rfl, h⟩
  · have h := h.2 c1
    refine xRn.blk (pc1 := 6) (ls1 := [.ref 16, .int p1, .int p2, .null]) (st1 := [.ref 16]) (hp1 := (hL S r)) (ob := []) [(.aload_n 0, 1, 0, 0, 0, 0)] [] (by decide +kernel) rfl xall_nil (xSee_nil _) rfl rfl ?_
    refine xRn.callV (al := []) (st := []) (nx := 9) (by decide +kernel) lk_V_T_fillUp_103_T_out_0_0 rfl rfl (c_T_out (d := d + 1) S r  h) rfl (Nat.le_of_ble_eq_true rfl) rfl rfl ?_ ?_
    · rintro _ _ ⟨x2, S3, r4, e9, rfl, h⟩
      cases e9
      show xRn G l _ _ _ 9 [.ref 16, .int p1, .int p2, .null] [.ref x2] (hL S3 r4)
      refine xRn.blk (pc1 := 19) (ls1 := [.ref 16, .int p1, .int p2, .ref x2]) (st1 := [.int 1, .int p1, .int (xcf 0 4), .ref x2]) (hp1 := (hL S3 r4)) (ob := [(1 ≤ (4 : Nat)) ∧ 4 ≤ 10]) [(.astore_n 3, 1, 3, 0, 0, 0), (.aload_n 3, 1, 3, 0, 0, 0), (.getstatic 13, 3, 3, 0, 0, 0), (.getfield 107, 3, 0, 12, 0, 0), (.iload_n 1, 1, 1, 0, 0, 0), (.iconst 1, 1, 0, 0, 0, 1)] [] (by decide +kernel) rfl (xall_cons (by decide) xall_nil) (xSee_nil _) rfl rfl ?_
      obtain ⟨g5, L6, B7, f8, hd9, h⟩ := h
      have hv10 := Rv_of hd9.1 hd9.2
      have he11 := rF_self hd9.1 hd9.2
      refine xRn.heq (hp1 := hL S3 (rF r4 x2 g5 L6 B7 f8)) (congrArg (hL _) he11.symm) ?_
      refine xRn.callV (al := [.int (xcf 0 4), .int p1, .int 1]) (st := []) (nx := 22) (by decide +kernel) lk_V_T_fillUp_111_F_begin_1_3 (rl_at (rl_rF hv10)) rfl (xCt_eq (hF_rF hv10) (c_F_begin (d := d + 0) (xFv_of hv10) L6 B7 f8 (xcf 0 4) p1 1 h)) rfl (Nat.le_of_ble_eq_true rfl) rfl rfl ?_ ?_
      · rintro _ _ ⟨L13, B14, f15, e9, rfl, h⟩
        cases e9
        rw [hF_rF hv10]
        show xRn G l _ _ _ 22 [.ref 16, .int p1, .int p2, .ref x2] [] (hL S3 (rF r4 x2 g5 L13 B14 f15))
        refine xRn.blk (pc1 := 26) (ls1 := [.ref 16, .int p1, .int p2, .ref x2]) (st1 := [.int p2, .int 36, .ref x2]) (hp1 := (hL S3 (rF r4 x2 g5 L13 B14 f15))) (ob := []) [(.aload_n 3, 1, 3, 0, 0, 0), (.bipush 36, 2, 0, 0, 0, 36), (.iload_n 2, 1, 2, 0, 0, 0)] [] (by decide +kernel) rfl xall_nil (xSee_nil _) rfl rfl ?_
        refine xRn.callV (al := [.int 36, .int p2]) (st := []) (nx := 29) (by decide +kernel) lk_V_T_fillUp_115_F_field_1_2 (rl_at (rl_rF hv10)) rfl (xCt_eq (hF_rF hv10) (c_F_field (d := d + 1) (xFv_of hv10) L13 B14 f15 36 p2 h)) rfl (Nat.le_of_ble_eq_true rfl) rfl rfl ?_ ?_
        · rintro _ _ ⟨L17, B18, f19, e9, rfl, h⟩
          cases e9
          rw [hF_rF hv10]
          show xRn G l _ _ _ 29 [.ref 16, .int p1, .int p2, .ref x2] [] (hL S3 (rF r4 x2 g5 L17 B18 f19))
          refine xRn.blk (pc1 := 34) (ls1 := [.ref 16, .int p1, .int p2, .ref x2]) (st1 := [.int 89, .int 123, .ref x2]) (hp1 := (hL S3 (rF r4 x2 g5 L17 B18 f19))) (ob := []) [(.aload_n 3, 1, 3, 0, 0, 0), (.bipush 123, 2, 0, 0, 0, 123), (.bipush 89, 2, 0, 0, 0, 89)] [] (by decide +kernel) rfl xall_nil (xSee_nil _) rfl rfl ?_
          refine xRn.callV (al := [.int 123, .int 89]) (st := []) (nx := 37) (by decide +kernel) lk_V_T_fillUp_136_F_letter_1_2 (rl_at (rl_rF hv10)) rfl (xCt_eq (hF_rF hv10) (c_F_letter (d := d + 1) (xFv_of hv10) L17 B18 f19 123 89 h)) rfl (Nat.le_of_ble_eq_true rfl) rfl rfl ?_ ?_
          · rintro _ _ ⟨L21, B22, f23, e9, rfl, h⟩
            cases e9
            rw [hF_rF hv10]
            show xRn G l _ _ _ 37 [.ref 16, .int p1, .int p2, .ref x2] [] (hL S3 (rF r4 x2 g5 L21 B22 f23))
            refine xRn.blk (pc1 := 38) (ls1 := [.ref 16, .int p1, .int p2, .ref x2]) (st1 := [.ref x2]) (hp1 := (hL S3 (rF r4 x2 g5 L21 B22 f23))) (ob := []) [(.aload_n 3, 1, 3, 0, 0, 0)] [] (by decide +kernel) rfl xall_nil (xSee_nil _) rfl rfl ?_
            refine xRn.callV (al := []) (st := []) (nx := 41) (by decide +kernel) lk_V_T_fillUp_122_F_end_1_0 (rl_at (rl_rF hv10)) rfl (xCt_eq (hF_rF hv10) (c_F_end (d := d + 0) (xFv_of hv10) L21 B22 f23  h)) rfl (Nat.le_of_ble_eq_true rfl) rfl rfl ?_ ?_
            · rintro _ _ ⟨L25, B26, f27, e9, rfl, h⟩
              cases e9
              rw [hF_rF hv10]
              show xRn G l _ _ _ 41 [.ref 16, .int p1, .int p2, .ref x2] [] (hL S3 (rF r4 x2 g5 L25 B26 f27))
              exact xRn.vret (by decide +kernel) rfl ⟨_, _, rfl, rfl, h⟩
            · rintro _ _ ⟨_, _, _, e9, _⟩
              cases e9
          · rintro _ _ ⟨_, _, _, e9, _⟩
            cases e9
        · rintro _ _ ⟨_, _, _, e9, _⟩
          cases e9
      · rintro _ _ ⟨_, _, _, e9, _⟩
        cases e9
    · rintro _ _ ⟨_, _, _, e9, _⟩
      cases e9
/-! T_answer -/
def w_T_answer_95   (K : XS → List AE → Prop) (S : XS) (r : List AE) (v3 : Int32) (v4 : Int32) : Prop :=
  (w_T_fillUp S r v3 (v4 + 1) (fun S2 r3 => (K S2 r3)))
set_option maxRecDepth 100000 in
theorem t_T_answer_95 {G : XG} {l : Launch} {d : Nat} {K : XS → List AE → Prop} (S : XS) (r : List AE) (v3 : Int32) (v4 : Int32) (h : w_T_answer_95 K S r v3 v4) : xRn G l (d + 5) xm_T_answer (pV K) 95 [.ref 16, .null, .null, .int v3, .int v4, .null] [] (hL S r) := by
  refine xRn.blk (pc1 := 101) (ls1 := [.ref 16, .null, .null, .int v3, .int v4, .null]) (st1 := [.int (v4 + 1), .int v3, .ref 16]) (hp1 := (hL S r)) (ob := []) [(.aload_n 0, 1, 0, 0, 0, 0), (.iload_n 3, 1, 3, 0, 0, 0), (.iload 4, 2, 4, 0, 0, 0), (.iconst 1, 1, 0, 0, 0, 1), (.iadd, 1, 0, 0, 0, 0)] [] (by decide +kernel) rfl xall_nil (xSee_nil _) rfl rfl ?_
  refine xRn.callV (al := [.int v3, .int (v4 + 1)]) (st := []) (nx := 104) (by decide +kernel) lk_V_T_answer_163_T_fillUp_0_2 rfl rfl (c_T_fillUp (d := d + 0) S r v3 (v4 + 1) h) rfl (Nat.le_of_ble_eq_true rfl) rfl rfl ?_ ?_
  · rintro _ _ ⟨S2, r3, e9, rfl, h⟩
    cases e9
    show xRn G l _ _ _ 104 [.ref 16, .null, .null, .int v3, .int v4, .null] [] (hL S2 r3)
    exact xRn.vret (by decide +kernel) rfl ⟨_, _, rfl, rfl, h⟩
  · rintro _ _ ⟨_, _, e9, _⟩
    cases e9
def w_T_answer_85 (k36 : XS → List AE → Int32 → Int32 → Nat → Prop)  (K : XS → List AE → Prop) (S : XS) (r : List AE) (v3 : Int32) (v4 : Int32) (v5 : Nat) : Prop :=
  (∃ (n5 : Int32) (i6 : Int32) (s7 : Int32) (f8 : Int32) (l9 : Int32) (x10 : Nat), rl r v5 = some (xO 5 [.int n5, .int i6, .int s7, .int f8, .int l9, .ref x10]) ∧ (k36 S r v3 v4 x10))
set_option maxRecDepth 100000 in
theorem t_T_answer_85 {G : XG} {l : Launch} {d : Nat} {k36 : XS → List AE → Int32 → Int32 → Nat → Prop} {K : XS → List AE → Prop} (hk36 : ∀ (S : XS) (r : List AE) (v3 : Int32) (v4 : Int32) (v5 : Nat), k36 S r v3 v4 v5 → xRn G l (d + 5) xm_T_answer (pV K) 36 [.ref 16, .null, .null, .int v3, .int v4, .ref v5] [] (hL S r)) (S : XS) (r : List AE) (v3 : Int32) (v4 : Int32) (v5 : Nat) (h : w_T_answer_85 k36 K S r v3 v4 v5) : xRn G l (d + 5) xm_T_answer (pV K) 85 [.ref 16, .null, .null, .int v3, .int v4, .ref v5] [] (hL S r) := by
  refine xRn.blk (pc1 := 87) (ls1 := [.ref 16, .null, .null, .int v3, .int v4, .ref v5]) (st1 := [.ref v5]) (hp1 := (hL S r)) (ob := []) [(.aload 5, 2, 5, 0, 0, 0)] [] (by decide +kernel) rfl xall_nil (xSee_nil _) rfl rfl ?_
  obtain ⟨n5, i6, s7, f8, l9, x10, hd4, h⟩ := h
  refine xRn.blk (pc1 := 92) (ls1 := [.ref 16, .null, .null, .int v3, .int v4, .ref x10]) (st1 := []) (hp1 := (hL S r)) (ob := [(v5 : Nat) = v5]) [(.getfield 154, 3, 5, 5, 0, 0), (.astore 5, 2, 5, 0, 0, 0)] [(v5, xO 5 [.int n5, .int i6, .int s7, .int f8, .int l9, .ref x10])] (by decide +kernel) rfl (xall_cons rfl xall_nil) (xSee_cons (rl_at hd4) (xne_nil _) (xSee_nil _)) rfl rfl ?_
  refine xRn.goto (tgt := 36) (off := (-56)) (by decide +kernel) (by decide) ?_
  refine xRn.forget (xle_eq (xle_eq (xle_eq (xle_eq (xle_eq (xle_eq xle_nil)))))) ?_
  exact hk36 S r v3 v4 x10 h
def w_T_answer_36   (K : XS → List AE → Prop) : Nat → XS → List AE → Int32 → Int32 → Nat → Prop
  | 0, _, _, _, _, _ => False
  | n + 1, S, r, v3, v4, v5 => ((v5 = 0 → (w_T_answer_95 K S r v3 v4)) ∧ (¬ v5 = 0 → (∃ (n13 : Int32) (i14 : Int32) (s15 : Int32) (f16 : Int32) (l17 : Int32) (x18 : Nat), rl r v5 = some (xO 5 [.int n13, .int i14, .int s15, .int f16, .int l17, .ref x18]) ∧ ((v4 < n13 → (w_T_answer_95 K S r v3 v4)) ∧ (¬ v4 < n13 → ((n13 < v3 → (w_T_answer_85 (fun S r v3 v4 v5 => w_T_answer_36 K n S r v3 v4 v5) K S r v3 v4 v5)) ∧ (¬ n13 < v3 → (w_T_fillUp S r v3 n13 (fun S22 r23 => (w_T_put S22 r23 v5 1 (fun S25 r26 => (∃ (n28 : Int32) (i29 : Int32) (s30 : Int32) (f31 : Int32) (l32 : Int32) (x33 : Nat), rl r26 v5 = some (xO 5 [.int n28, .int i29, .int s30, .int f31, .int l32, .ref x33]) ∧ (w_T_answer_85 (fun S r v3 v4 v5 => w_T_answer_36 K n S r v3 v4 v5) K S25 r26 (n28 + 1) v4 v5)))))))))))))
set_option maxRecDepth 100000 in
theorem t_T_answer_36 {G : XG} {l : Launch} {d : Nat} {K : XS → List AE → Prop} : ∀ (n : Nat) (S : XS) (r : List AE) (v3 : Int32) (v4 : Int32) (v5 : Nat), w_T_answer_36 K n S r v3 v4 v5 → xRn G l (d + 5) xm_T_answer (pV K) 36 [.ref 16, .null, .null, .int v3, .int v4, .ref v5] [] (hL S r) := by
  intro n
  induction n with
  | zero => intro S r v3 v4 v5 h; exact h.elim
  | succ n ih =>
    intro S r v3 v4 v5 h
    refine xRn.blk (pc1 := 38) (ls1 := [.ref 16, .null, .null, .int v3, .int v4, .ref v5]) (st1 := [.ref v5]) (hp1 := (hL S r)) (ob := []) [(.aload 5, 2, 5, 0, 0, 0)] [] (by decide +kernel) rfl xall_nil (xSee_nil _) rfl rfl ?_
    refine xRn.ifnull (tgt := 95) (nx := 41) (off := 57) (by decide +kernel) (by decide) rfl (fun c11 => ?_) (fun c11 => ?_)
    · have h := h.1 c11
      refine xRn.forget (xle_eq (xle_eq (xle_eq (xle_eq (xle_eq (xle_no xle_nil)))))) ?_
      exact t_T_answer_95   S r v3 v4 h
    · have h := h.2 c11
      refine xRn.blk (pc1 := 43) (ls1 := [.ref 16, .null, .null, .int v3, .int v4, .ref v5]) (st1 := [.ref v5]) (hp1 := (hL S r)) (ob := []) [(.aload 5, 2, 5, 0, 0, 0)] [] (by decide +kernel) rfl xall_nil (xSee_nil _) rfl rfl ?_
      obtain ⟨n13, i14, s15, f16, l17, x18, hd12, h⟩ := h
      refine xRn.blk (pc1 := 48) (ls1 := [.ref 16, .null, .null, .int v3, .int v4, .ref v5]) (st1 := [.int v4, .int n13]) (hp1 := (hL S r)) (ob := [(v5 : Nat) = v5]) [(.getfield 125, 3, 0, 5, 0, 0), (.iload 4, 2, 4, 0, 0, 0)] [(v5, xO 5 [.int n13, .int i14, .int s15, .int f16, .int l17, .ref x18])] (by decide +kernel) rfl (xall_cons rfl xall_nil) (xSee_cons (rl_at hd12) (xne_nil _) (xSee_nil _)) rfl rfl ?_
      refine xRn.ic_gt (tgt := 95) (nx := 51) (off := 47) (by decide +kernel) (by decide) rfl (fun c19 => ?_) (fun c19 => ?_)
      · have h := h.1 c19
        refine xRn.forget (xle_eq (xle_eq (xle_eq (xle_eq (xle_eq (xle_no xle_nil)))))) ?_
        exact t_T_answer_95   S r v3 v4 h
      · have h := h.2 c19
        refine xRn.blk (pc1 := 57) (ls1 := [.ref 16, .null, .null, .int v3, .int v4, .ref v5]) (st1 := [.int v3, .int n13]) (hp1 := (hL S r)) (ob := [(v5 : Nat) = v5]) [(.aload 5, 2, 5, 0, 0, 0), (.getfield 125, 3, 0, 5, 0, 0), (.iload_n 3, 1, 3, 0, 0, 0)] [(v5, xO 5 [.int n13, .int i14, .int s15, .int f16, .int l17, .ref x18])] (by decide +kernel) rfl (xall_cons rfl xall_nil) (xSee_cons (rl_at hd12) (xne_nil _) (xSee_nil _)) rfl rfl ?_
        refine xRn.ic_lt (tgt := 85) (nx := 60) (off := 28) (by decide +kernel) (by decide) rfl (fun c20 => ?_) (fun c20 => ?_)
        · have h := h.1 c20
          refine xRn.forget (xle_eq (xle_eq (xle_eq (xle_eq (xle_eq (xle_eq xle_nil)))))) ?_
          exact t_T_answer_85  ih S r v3 v4 v5 h
        · have h := h.2 c20
          refine xRn.blk (pc1 := 67) (ls1 := [.ref 16, .null, .null, .int v3, .int v4, .ref v5]) (st1 := [.int n13, .int v3, .ref 16]) (hp1 := (hL S r)) (ob := [(v5 : Nat) = v5]) [(.aload_n 0, 1, 0, 0, 0, 0), (.iload_n 3, 1, 3, 0, 0, 0), (.aload 5, 2, 5, 0, 0, 0), (.getfield 125, 3, 0, 5, 0, 0)] [(v5, xO 5 [.int n13, .int i14, .int s15, .int f16, .int l17, .ref x18])] (by decide +kernel) rfl (xall_cons rfl xall_nil) (xSee_cons (rl_at hd12) (xne_nil _) (xSee_nil _)) rfl rfl ?_
          refine xRn.callV (al := [.int v3, .int n13]) (st := []) (nx := 70) (by decide +kernel) lk_V_T_answer_163_T_fillUp_0_2 rfl rfl (c_T_fillUp (d := d + 0) S r v3 n13 h) rfl (Nat.le_of_ble_eq_true rfl) rfl rfl ?_ ?_
          · rintro _ _ ⟨S22, r23, e9, rfl, h⟩
            cases e9
            show xRn G l _ _ _ 70 [.ref 16, .null, .null, .int v3, .int v4, .ref v5] [] (hL S22 r23)
            refine xRn.blk (pc1 := 74) (ls1 := [.ref 16, .null, .null, .int v3, .int v4, .ref v5]) (st1 := [.int 1, .ref v5, .ref 16]) (hp1 := (hL S22 r23)) (ob := []) [(.aload_n 0, 1, 0, 0, 0, 0), (.aload 5, 2, 5, 0, 0, 0), (.iconst 1, 1, 0, 0, 0, 1)] [] (by decide +kernel) rfl xall_nil (xSee_nil _) rfl rfl ?_
            refine xRn.callV (al := [.ref v5, .int 1]) (st := []) (nx := 77) (by decide +kernel) lk_V_T_answer_156_T_put_0_2 rfl rfl (c_T_put (d := d + 0) S22 r23 v5 1 h) rfl (Nat.le_of_ble_eq_true rfl) rfl rfl ?_ ?_
            · rintro _ _ ⟨S25, r26, e9, rfl, h⟩
              cases e9
              show xRn G l _ _ _ 77 [.ref 16, .null, .null, .int v3, .int v4, .ref v5] [] (hL S25 r26)
              refine xRn.blk (pc1 := 79) (ls1 := [.ref 16, .null, .null, .int v3, .int v4, .ref v5]) (st1 := [.ref v5]) (hp1 := (hL S25 r26)) (ob := []) [(.aload 5, 2, 5, 0, 0, 0)] [] (by decide +kernel) rfl xall_nil (xSee_nil _) rfl rfl ?_
              obtain ⟨n28, i29, s30, f31, l32, x33, hd27, h⟩ := h
              refine xRn.blk (pc1 := 85) (ls1 := [.ref 16, .null, .null, .int (n28 + 1), .int v4, .ref v5]) (st1 := []) (hp1 := (hL S25 r26)) (ob := [(v5 : Nat) = v5]) [(.getfield 125, 3, 0, 5, 0, 0), (.iconst 1, 1, 0, 0, 0, 1), (.iadd, 1, 0, 0, 0, 0), (.istore_n 3, 1, 3, 0, 0, 0)] [(v5, xO 5 [.int n28, .int i29, .int s30, .int f31, .int l32, .ref x33])] (by decide +kernel) rfl (xall_cons rfl xall_nil) (xSee_cons (rl_at hd27) (xne_nil _) (xSee_nil _)) rfl rfl ?_
              refine xRn.forget (xle_eq (xle_eq (xle_eq (xle_eq (xle_eq (xle_eq xle_nil)))))) ?_
              exact t_T_answer_85  ih S25 r26 (n28 + 1) v4 v5 h
            · rintro _ _ ⟨_, _, e9, _⟩
              cases e9
          · rintro _ _ ⟨_, _, e9, _⟩
            cases e9
def w_T_answer_30   (K : XS → List AE → Prop) (S : XS) (r : List AE) (v3 : Int32) (v4 : Int32) : Prop :=
  (∃ j, w_T_answer_36 K j S r v3 v4 (gR S 13))
set_option maxRecDepth 100000 in
theorem t_T_answer_30 {G : XG} {l : Launch} {d : Nat} {K : XS → List AE → Prop} (S : XS) (r : List AE) (v3 : Int32) (v4 : Int32) (h : w_T_answer_30 K S r v3 v4) : xRn G l (d + 5) xm_T_answer (pV K) 30 [.ref 16, .null, .null, .int v3, .int v4, .null] [] (hL S r) := by
  refine xRn.blk (pc1 := 36) (ls1 := [.ref 16, .null, .null, .int v3, .int v4, .ref (gR S 13)]) (st1 := []) (hp1 := (hL S r)) (ob := [(16 : Nat) = 16]) [(.aload_n 0, 1, 0, 0, 0, 0), (.getfield 151, 3, 13, 0, 0, 0), (.astore 5, 2, 5, 0, 0, 0)] [(16, xc0 S)] (by decide +kernel) rfl (xall_cons rfl xall_nil) (xSee_cons rfl (xne_nil _) (xSee_nil _)) rfl rfl ?_
  refine xRn.forget (xle_eq (xle_eq (xle_eq (xle_eq (xle_eq (xle_eq xle_nil)))))) ?_
  obtain ⟨n34, h⟩ := h
  exact t_T_answer_36   n34 S r v3 v4 (gR S 13) h
def w_T_answer_18   (K : XS → List AE → Prop) (S : XS) (r : List AE) (v3 : Int32) : Prop :=
  (w_T_answer_30 K S r v3 ((gF S 7) - 1))
set_option maxRecDepth 100000 in
theorem t_T_answer_18 {G : XG} {l : Launch} {d : Nat} {K : XS → List AE → Prop} (S : XS) (r : List AE) (v3 : Int32) (h : w_T_answer_18 K S r v3) : xRn G l (d + 5) xm_T_answer (pV K) 18 [.ref 16, .null, .null, .int v3, .null, .null] [] (hL S r) := by
  refine xRn.blk (pc1 := 24) (ls1 := [.ref 16, .null, .null, .int v3, .null, .null]) (st1 := [.int ((gF S 7) - 1)]) (hp1 := (hL S r)) (ob := [(16 : Nat) = 16]) [(.aload_n 0, 1, 0, 0, 0, 0), (.getfield 71, 3, 7, 0, 0, 0), (.iconst 1, 1, 0, 0, 0, 1), (.isub, 1, 0, 0, 0, 0)] [(16, xc0 S)] (by decide +kernel) rfl (xall_cons rfl xall_nil) (xSee_cons rfl (xne_nil _) (xSee_nil _)) rfl rfl ?_
  refine xRn.goto (tgt := 28) (off := 4) (by decide +kernel) (by decide) ?_
  refine xRn.blk (pc1 := 30) (ls1 := [.ref 16, .null, .null, .int v3, .int ((gF S 7) - 1), .null]) (st1 := []) (hp1 := (hL S r)) (ob := []) [(.istore 4, 2, 4, 0, 0, 0)] [] (by decide +kernel) rfl xall_nil (xSee_nil _) rfl rfl ?_
  refine xRn.forget (xle_eq (xle_eq (xle_eq (xle_eq (xle_eq (xle_eq xle_nil)))))) ?_
  exact t_T_answer_30   S r v3 ((gF S 7) - 1) h
def w_T_answer  (S : XS) (r : List AE) (p1 : Int32) (p2 : Int32) (K : XS → List AE → Prop) : Prop :=
  ((p2 = 0 → (w_T_answer_18 K S r (if p1 < (1 : Int32) then (1 : Int32) else p1))) ∧ (¬ p2 = 0 → ((p2 < (gF S 7) → (w_T_answer_30 K S r (if p1 < (1 : Int32) then (1 : Int32) else p1) p2)) ∧ (¬ p2 < (gF S 7) → (w_T_answer_18 K S r (if p1 < (1 : Int32) then (1 : Int32) else p1))))))
set_option maxRecDepth 100000 in
theorem c_T_answer {G : XG} {l : Launch} {d : Nat} (S : XS) (r : List AE) (p1 : Int32) (p2 : Int32) {K : XS → List AE → Prop} (h : w_T_answer  S r p1 p2 K) : xCt G l (d + 5) xm_T_answer [.ref 16, .int p1, .int p2] (hL S r) (pV K) := by
  refine xCt.intro (by decide) (by decide) (List.forall_mem_cons.mpr ⟨rfl, (List.forall_mem_cons.mpr ⟨rfl, (List.forall_mem_cons.mpr ⟨rfl, (fun _ h => by cases h)⟩)⟩)⟩) (Nat.le_of_ble_eq_true rfl) rfl ?_
  show xRn G l _ xm_T_answer _ 0 [.ref 16, .int p1, .int p2, .null, .null, .null] [] (hL S r)
  refine xRn.blk (pc1 := 2) (ls1 := [.ref 16, .int p1, .int p2, .null, .null, .null]) (st1 := [.int 1, .int p1]) (hp1 := (hL S r)) (ob := []) [(.iload_n 1, 1, 1, 0, 0, 0), (.iconst 1, 1, 0, 0, 0, 1)] [] (by decide +kernel) rfl xall_nil (xSee_nil _) rfl rfl ?_
  refine xRn.mmax (nx := 5) (by decide +kernel) lk_Math_T_answer_160_Lib_Math_max_name_Lib_Math_max_code (Nat.le_of_ble_eq_true rfl) rfl rfl ?_
  refine xRn.blk (pc1 := 7) (ls1 := [.ref 16, .int p1, .int p2, .int (if p1 < (1 : Int32) then (1 : Int32) else p1), .null, .null]) (st1 := [.int p2]) (hp1 := (hL S r)) (ob := []) [(.istore_n 3, 1, 3, 0, 0, 0), (.iload_n 2, 1, 2, 0, 0, 0)] [] (by decide +kernel) rfl xall_nil (xSee_nil _) rfl rfl ?_
  refine xRn.if_eq (tgt := 18) (nx := 10) (off := 11) (by decide +kernel) (by decide) rfl (fun c35 => ?_) (fun c35 => ?_)
  · have h := h.1 c35
    refine xRn.forget (xle_eq (xle_no (xle_no (xle_eq (xle_eq (xle_eq xle_nil)))))) ?_
    exact t_T_answer_18   S r (if p1 < (1 : Int32) then (1 : Int32) else p1) h
  · have h := h.2 c35
    refine xRn.blk (pc1 := 15) (ls1 := [.ref 16, .int p1, .int p2, .int (if p1 < (1 : Int32) then (1 : Int32) else p1), .null, .null]) (st1 := [.int (gF S 7), .int p2]) (hp1 := (hL S r)) (ob := [(16 : Nat) = 16]) [(.iload_n 2, 1, 2, 0, 0, 0), (.aload_n 0, 1, 0, 0, 0, 0), (.getfield 71, 3, 7, 0, 0, 0)] [(16, xc0 S)] (by decide +kernel) rfl (xall_cons rfl xall_nil) (xSee_cons rfl (xne_nil _) (xSee_nil _)) rfl rfl ?_
    refine xRn.ic_lt (tgt := 27) (nx := 18) (off := 12) (by decide +kernel) (by decide) rfl (fun c36 => ?_) (fun c36 => ?_)
    · have h := h.1 c36
      refine xRn.blk (pc1 := 30) (ls1 := [.ref 16, .int p1, .int p2, .int (if p1 < (1 : Int32) then (1 : Int32) else p1), .int p2, .null]) (st1 := []) (hp1 := (hL S r)) (ob := []) [(.iload_n 2, 1, 2, 0, 0, 0), (.istore 4, 2, 4, 0, 0, 0)] [] (by decide +kernel) rfl xall_nil (xSee_nil _) rfl rfl ?_
      refine xRn.forget (xle_eq (xle_no (xle_no (xle_eq (xle_eq (xle_eq xle_nil)))))) ?_
      exact t_T_answer_30   S r (if p1 < (1 : Int32) then (1 : Int32) else p1) p2 h
    · have h := h.2 c36
      refine xRn.forget (xle_eq (xle_no (xle_no (xle_eq (xle_eq (xle_eq xle_nil)))))) ?_
      exact t_T_answer_18   S r (if p1 < (1 : Int32) then (1 : Int32) else p1) h
/-! T_ask -/
def w_T_ask  (S : XS) (r : List AE) (K : XS → List AE → Prop) : Prop :=
  (w_T_send S r 3 (gF S 6) 0 (fun S2 r3 => (K (sF S2 12 (gF S2 9)) r3)))
set_option maxRecDepth 100000 in
theorem c_T_ask {G : XG} {l : Launch} {d : Nat} (S : XS) (r : List AE) {K : XS → List AE → Prop} (h : w_T_ask  S r K) : xCt G l (d + 5) xm_T_ask [.ref 16] (hL S r) (pV K) := by
  refine xCt.intro (by decide) (by decide) (List.forall_mem_cons.mpr ⟨rfl, (fun _ h => by cases h)⟩) (Nat.le_of_ble_eq_true rfl) rfl ?_
  show xRn G l _ xm_T_ask _ 0 [.ref 16] [] (hL S r)
  refine xRn.blk (pc1 := 9) (ls1 := [.ref 16]) (st1 := [.int 0, .int (gF S 6), .ref 3, .ref 16]) (hp1 := (hL S r)) (ob := [(16 : Nat) = 16]) [(.aload_n 0, 1, 0, 0, 0, 0), (.getstatic 10, 3, 2, 0, 0, 0), (.aload_n 0, 1, 0, 0, 0, 0), (.getfield 67, 3, 6, 0, 0, 0), (.iconst 0, 1, 0, 0, 0, 0)] [(16, xc0 S)] (by decide +kernel) rfl (xall_cons rfl xall_nil) (xSee_cons rfl (xne_nil _) (xSee_nil _)) rfl rfl ?_
  refine xRn.callV (al := [.ref 3, .int (gF S 6), .int 0]) (st := []) (nx := 12) (by decide +kernel) lk_V_T_ask_166_T_send_0_3 rfl rfl (c_T_send (d := d + 0) S r 3 (gF S 6) 0 h) rfl (Nat.le_of_ble_eq_true rfl) rfl rfl ?_ ?_
  · rintro _ _ ⟨S2, r3, e9, rfl, h⟩
    cases e9
    show xRn G l _ _ _ 12 [.ref 16] [] (hL S2 r3)
    refine xRn.blk (pc1 := 20) (ls1 := [.ref 16]) (st1 := []) (hp1 := (hL (sF S2 12 (gF S2 9)) r3)) (ob := [(16 : Nat) = 16, (16 : Nat) = 16]) [(.aload_n 0, 1, 0, 0, 0, 0), (.aload_n 0, 1, 0, 0, 0, 0), (.getfield 93, 3, 9, 0, 0, 0), (.putfield 170, 3, 12, 0, 0, 0)] [(16, xc0 S2)] (by decide +kernel) rfl (xall_cons rfl (xall_cons rfl xall_nil)) (xSee_cons rfl (xne_nil _) (xSee_nil _)) rfl rfl ?_
    exact xRn.vret (by decide +kernel) rfl ⟨_, _, rfl, rfl, h⟩
  · rintro _ _ ⟨_, _, e9, _⟩
    cases e9
/-! T_goOut -/
def w_T_goOut  (S : XS) (r : List AE) (K : XS → List AE → Prop) : Prop :=
  (K (sF (sF S 5 0) 8 0) r)
set_option maxRecDepth 100000 in
theorem c_T_goOut {G : XG} {l : Launch} {d : Nat} (S : XS) (r : List AE) {K : XS → List AE → Prop} (h : w_T_goOut  S r K) : xCt G l (d + 0) xm_T_goOut [.ref 16] (hL S r) (pV K) := by
  refine xCt.intro (by decide) (by decide) (List.forall_mem_cons.mpr ⟨rfl, (fun _ h => by cases h)⟩) (Nat.le_of_ble_eq_true rfl) rfl ?_
  show xRn G l _ xm_T_goOut _ 0 [.ref 16] [] (hL S r)
  refine xRn.blk (pc1 := 10) (ls1 := [.ref 16]) (st1 := []) (hp1 := (hL (sF (sF S 5 0) 8 0) r)) (ob := [(16 : Nat) = 16, narrow .boolean (.int 0) = .int 0 ∧ fits .boolean (.int 0) = true, (16 : Nat) = 16]) [(.aload_n 0, 1, 0, 0, 0, 0), (.iconst 0, 1, 0, 0, 0, 0), (.putfield 99, 3, 5, 0, 0, 0), (.aload_n 0, 1, 0, 0, 0, 0), (.iconst 0, 1, 0, 0, 0, 0), (.putfield 173, 3, 8, 0, 0, 0)] [(16, xc0 S)] (by decide +kernel) rfl (xall_cons rfl (xall_cons (⟨rfl, rfl⟩) (xall_cons rfl xall_nil))) (xSee_cons rfl (xne_nil _) (xSee_nil _)) rfl rfl ?_
  exact xRn.vret (by decide +kernel) rfl ⟨_, _, rfl, rfl, h⟩
/-! T_moveTo -/
def w_T_moveTo  (S : XS) (r : List AE) (p1 : Int32) (K : XS → List AE → Prop) : Prop :=
  (((if (gF S 6) < p1 then p1 else (gF S 6)) ≤ (gF S 8) → (K (sF (sF S 6 (if (gF S 6) < p1 then p1 else (gF S 6))) 8 (gF S 8)) r)) ∧ (¬ (if (gF S 6) < p1 then p1 else (gF S 6)) ≤ (gF S 8) → (K (sF (sF S 6 (if (gF S 6) < p1 then p1 else (gF S 6))) 8 0) r)))
set_option maxRecDepth 100000 in
theorem c_T_moveTo {G : XG} {l : Launch} {d : Nat} (S : XS) (r : List AE) (p1 : Int32) {K : XS → List AE → Prop} (h : w_T_moveTo  S r p1 K) : xCt G l (d + 1) xm_T_moveTo [.ref 16, .int p1] (hL S r) (pV K) := by
  refine xCt.intro (by decide) (by decide) (List.forall_mem_cons.mpr ⟨rfl, (List.forall_mem_cons.mpr ⟨rfl, (fun _ h => by cases h)⟩)⟩) (Nat.le_of_ble_eq_true rfl) rfl ?_
  show xRn G l _ xm_T_moveTo _ 0 [.ref 16, .int p1] [] (hL S r)
  refine xRn.blk (pc1 := 6) (ls1 := [.ref 16, .int p1]) (st1 := [.int p1, .int (gF S 6), .ref 16]) (hp1 := (hL S r)) (ob := [(16 : Nat) = 16]) [(.aload_n 0, 1, 0, 0, 0, 0), (.aload_n 0, 1, 0, 0, 0, 0), (.getfield 67, 3, 6, 0, 0, 0), (.iload_n 1, 1, 1, 0, 0, 0)] [(16, xc0 S)] (by decide +kernel) rfl (xall_cons rfl xall_nil) (xSee_cons rfl (xne_nil _) (xSee_nil _)) rfl rfl ?_
  refine xRn.mmax (nx := 9) (by decide +kernel) lk_Math_T_moveTo_160_Lib_Math_max_name_Lib_Math_max_code (Nat.le_of_ble_eq_true rfl) rfl rfl ?_
  refine xRn.blk (pc1 := 21) (ls1 := [.ref 16, .int p1]) (st1 := [.int (gF S 8), .int (if (gF S 6) < p1 then p1 else (gF S 6)), .ref 16]) (hp1 := (hL (sF S 6 (if (gF S 6) < p1 then p1 else (gF S 6))) r)) (ob := [(16 : Nat) = 16, (16 : Nat) = 16, (16 : Nat) = 16]) [(.putfield 67, 3, 6, 0, 0, 0), (.aload_n 0, 1, 0, 0, 0, 0), (.aload_n 0, 1, 0, 0, 0, 0), (.getfield 67, 3, 6, 0, 0, 0), (.aload_n 0, 1, 0, 0, 0, 0), (.getfield 173, 3, 8, 0, 0, 0)] [(16, xc0 S)] (by decide +kernel) rfl (xall_cons rfl (xall_cons rfl (xall_cons rfl xall_nil))) (xSee_cons rfl (xne_nil _) (xSee_nil _)) rfl rfl ?_
  refine xRn.ic_le (tgt := 28) (nx := 24) (off := 7) (by decide +kernel) (by decide) rfl (fun c1 => ?_) (fun c1 => ?_)
  · have h := h.1 c1
    refine xRn.blk (pc1 := 35) (ls1 := [.ref 16, .int p1]) (st1 := []) (hp1 := (hL (sF (sF S 6 (if (gF S 6) < p1 then p1 else (gF S 6))) 8 (gF S 8)) r)) (ob := [(16 : Nat) = 16, (16 : Nat) = 16]) [(.aload_n 0, 1, 0, 0, 0, 0), (.getfield 173, 3, 8, 0, 0, 0), (.putfield 173, 3, 8, 0, 0, 0)] [(16, xc0 (sF S 6 (if (gF S 6) < p1 then p1 else (gF S 6))))] (by decide +kernel) rfl (xall_cons rfl (xall_cons rfl xall_nil)) (xSee_cons rfl (xne_nil _) (xSee_nil _)) rfl rfl ?_
    exact xRn.vret (by decide +kernel) rfl ⟨_, _, rfl, rfl, h⟩
  · have h := h.2 c1
    refine xRn.blk (pc1 := 25) (ls1 := [.ref 16, .int p1]) (st1 := [.int 0, .ref 16]) (hp1 := (hL (sF S 6 (if (gF S 6) < p1 then p1 else (gF S 6))) r)) (ob := []) [(.iconst 0, 1, 0, 0, 0, 0)] [] (by decide +kernel) rfl xall_nil (xSee_nil _) rfl rfl ?_
    refine xRn.goto (tgt := 32) (off := 7) (by decide +kernel) (by decide) ?_
    refine xRn.blk (pc1 := 35) (ls1 := [.ref 16, .int p1]) (st1 := []) (hp1 := (hL (sF (sF S 6 (if (gF S 6) < p1 then p1 else (gF S 6))) 8 0) r)) (ob := [(16 : Nat) = 16]) [(.putfield 173, 3, 8, 0, 0, 0)] [(16, xc0 (sF S 6 (if (gF S 6) < p1 then p1 else (gF S 6))))] (by decide +kernel) rfl (xall_cons rfl xall_nil) (xSee_cons rfl (xne_nil _) (xSee_nil _)) rfl rfl ?_
    exact xRn.vret (by decide +kernel) rfl ⟨_, _, rfl, rfl, h⟩
/-! T_give -/
def w_T_give_203   (K : Int32 → XS → List AE → Prop) (KT : Nat → XS → List AE → Prop) (S : XS) (r : List AE) : Prop :=
  (w_F_end (gF S 101) (gF S 102) (gA S 2)  (fun L2 B3 f4 => (K L2 (sF (sA (sF (sF S 101 L2) 102 B3) 2 f4) 4 0) r)))
set_option maxRecDepth 100000 in
theorem t_T_give_203 {G : XG} {l : Launch} {d : Nat} {K : Int32 → XS → List AE → Prop} {KT : Nat → XS → List AE → Prop} (S : XS) (r : List AE) (h : w_T_give_203 K KT S r) : xRn G l (d + 6) xm_T_give (qI K KT) 203 [.ref 16, .null, .null, .null, .null, .null, .null, .null] [] (hL S r) := by
  refine xRn.blk (pc1 := 207) (ls1 := [.ref 16, .null, .null, .null, .null, .null, .null, .null]) (st1 := [.ref 17]) (hp1 := (hL S r)) (ob := [(16 : Nat) = 16]) [(.aload_n 0, 1, 0, 0, 0, 0), (.getfield 43, 3, 0, 0, 0, 0)] [(16, xc0 S)] (by decide +kernel) rfl (xall_cons rfl xall_nil) (xSee_cons rfl (xne_nil _) (xSee_nil _)) rfl rfl ?_
  refine xRn.callV (al := []) (st := []) (nx := 210) (by decide +kernel) lk_V_T_give_122_F_end_1_0 rfl rfl (xCt_eq rfl (c_F_end (d := d + 2) (xFv_17 S r) (gF S 101) (gF S 102) (gA S 2)  h)) rfl (Nat.le_of_ble_eq_true rfl) rfl rfl ?_ ?_
  · rintro _ _ ⟨L2, B3, f4, e9, rfl, h⟩
    cases e9
    show xRn G l _ _ _ 210 [.ref 16, .null, .null, .null, .null, .null, .null, .null] [] (hL (sA (sF (sF S 101 L2) 102 B3) 2 f4) r)
    refine xRn.blk (pc1 := 222) (ls1 := [.ref 16, .null, .null, .null, .null, .null, .null, .null]) (st1 := [.int L2]) (hp1 := (hL (sF (sA (sF (sF S 101 L2) 102 B3) 2 f4) 4 0) r)) (ob := [(16 : Nat) = 16, (16 : Nat) = 16, (17 : Nat) = 17]) [(.aload_n 0, 1, 0, 0, 0, 0), (.iconst 0, 1, 0, 0, 0, 0), (.putfield 84, 3, 4, 0, 0, 0), (.aload_n 0, 1, 0, 0, 0, 0), (.getfield 43, 3, 0, 0, 0, 0), (.getfield 193, 3, 1, 1, 1, 0)] [(16, xc0 (sA (sF (sF S 101 L2) 102 B3) 2 f4)), (17, xc1 (sA (sF (sF S 101 L2) 102 B3) 2 f4))] (by decide +kernel) rfl (xall_cons rfl (xall_cons rfl (xall_cons rfl xall_nil))) (xSee_cons rfl (xne_cons (by decide) (xne_nil _)) (xSee_cons rfl (xne_nil _) (xSee_nil _))) rfl rfl ?_
    exact xRn.iret (by decide +kernel) rfl rfl (Or.inl ⟨_, _, _, rfl, rfl, h⟩)
  · rintro _ _ ⟨_, _, _, e9, _⟩
    cases e9
def w_T_give_181   (K : Int32 → XS → List AE → Prop) (KT : Nat → XS → List AE → Prop) (S : XS) (r : List AE) (v6 : Int32) (v7 : Nat) : Prop :=
  ((1 ≤ (v7 : Nat)) ∧ v7 ≤ 10) ∧ (((xcf 3 v7) ≤ 0 → (w_T_give_203 K KT S r)) ∧ (¬ (xcf 3 v7) ≤ 0 → ((1 ≤ (v7 : Nat)) ∧ v7 ≤ 10) ∧ (w_F_field (gF S 101) (gF S 102) (gA S 2) (xcf 3 v7) v6 (fun L9 B10 f11 => (w_T_give_203 K KT (sA (sF (sF S 101 L9) 102 B10) 2 f11) r)))))
set_option maxRecDepth 100000 in
theorem t_T_give_181 {G : XG} {l : Launch} {d : Nat} {K : Int32 → XS → List AE → Prop} {KT : Nat → XS → List AE → Prop} (S : XS) (r : List AE) (v6 : Int32) (v7 : Nat) (h : w_T_give_181 K KT S r v6 v7) : xRn G l (d + 6) xm_T_give (qI K KT) 181 [.ref 16, .null, .null, .null, .null, .null, .int v6, .ref v7] [] (hL S r) := by
  obtain ⟨o5, h⟩ := h
  refine xRn.blk (pc1 := 186) (ls1 := [.ref 16, .null, .null, .null, .null, .null, .int v6, .ref v7]) (st1 := [.int (xcf 3 v7)]) (hp1 := (hL S r)) (ob := [(1 ≤ (v7 : Nat)) ∧ v7 ≤ 10]) [(.aload 7, 2, 7, 0, 0, 0), (.getfield 190, 3, 3, 12, 0, 0)] [] (by decide +kernel) rfl (xall_cons o5 xall_nil) (xSee_nil _) rfl rfl ?_
  refine xRn.if_le (tgt := 203) (nx := 189) (off := 17) (by decide +kernel) (by decide) rfl (fun c6 => ?_) (fun c6 => ?_)
  · have h := h.1 c6
    refine xRn.forget (xle_eq (xle_eq (xle_eq (xle_eq (xle_eq (xle_eq (xle_no (xle_no xle_nil)))))))) ?_
    exact t_T_give_203   S r h
  · have h := h.2 c6
    obtain ⟨o7, h⟩ := h
    refine xRn.blk (pc1 := 200) (ls1 := [.ref 16, .null, .null, .null, .null, .null, .int v6, .ref v7]) (st1 := [.int v6, .int (xcf 3 v7), .ref 17]) (hp1 := (hL S r)) (ob := [(16 : Nat) = 16, (1 ≤ (v7 : Nat)) ∧ v7 ≤ 10]) [(.aload_n 0, 1, 0, 0, 0, 0), (.getfield 43, 3, 0, 0, 0, 0), (.aload 7, 2, 7, 0, 0, 0), (.getfield 190, 3, 3, 12, 0, 0), (.iload 6, 2, 6, 0, 0, 0)] [(16, xc0 S)] (by decide +kernel) rfl (xall_cons rfl (xall_cons o7 xall_nil)) (xSee_cons rfl (xne_nil _) (xSee_nil _)) rfl rfl ?_
    refine xRn.callV (al := [.int (xcf 3 v7), .int v6]) (st := []) (nx := 203) (by decide +kernel) lk_V_T_give_115_F_field_1_2 rfl rfl (xCt_eq rfl (c_F_field (d := d + 3) (xFv_17 S r) (gF S 101) (gF S 102) (gA S 2) (xcf 3 v7) v6 h)) rfl (Nat.le_of_ble_eq_true rfl) rfl rfl ?_ ?_
    · rintro _ _ ⟨L9, B10, f11, e9, rfl, h⟩
      cases e9
      show xRn G l _ _ _ 203 [.ref 16, .null, .null, .null, .null, .null, .int v6, .ref v7] [] (hL (sA (sF (sF S 101 L9) 102 B10) 2 f11) r)
      refine xRn.forget (xle_eq (xle_eq (xle_eq (xle_eq (xle_eq (xle_eq (xle_no (xle_no xle_nil)))))))) ?_
      exact t_T_give_203   (sA (sF (sF S 101 L9) 102 B10) 2 f11) r h
    · rintro _ _ ⟨_, _, _, e9, _⟩
      cases e9
def w_T_give_156   (K : Int32 → XS → List AE → Prop) (KT : Nat → XS → List AE → Prop) (S : XS) (r : List AE) (v6 : Int32) (v7 : Nat) : Prop :=
  (w_T_give_181 K KT S r v6 v7)
set_option maxRecDepth 100000 in
theorem t_T_give_156 {G : XG} {l : Launch} {d : Nat} {K : Int32 → XS → List AE → Prop} {KT : Nat → XS → List AE → Prop} (S : XS) (r : List AE) (v6 : Int32) (v7 : Nat) (h : w_T_give_156 K KT S r v6 v7) : xRn G l (d + 6) xm_T_give (qI K KT) 156 [.ref 16, .null, .null, .null, .null, .null, .int v6, .ref v7] [] (hL S r) := by
  refine xRn.goto (tgt := 181) (off := 25) (by decide +kernel) (by decide) ?_
  refine xRn.forget (xle_eq (xle_eq (xle_eq (xle_eq (xle_eq (xle_eq (xle_eq (xle_eq xle_nil)))))))) ?_
  exact t_T_give_181   S r v6 v7 h
def w_T_give_124   (K : Int32 → XS → List AE → Prop) (KT : Nat → XS → List AE → Prop) (S : XS) (r : List AE) (v5 : Int32) (v6 : Int32) (v7 : Nat) : Prop :=
  (v7 ≤ 10) ∧ ((¬ v7 = 4 → ((1 ≤ (v7 : Nat)) ∧ v7 ≤ 10) ∧ (((xcf 2 v7) ≤ 0 → (w_T_give_181 K KT S r v6 v7)) ∧ (¬ (xcf 2 v7) ≤ 0 → ((1 ≤ (v7 : Nat)) ∧ v7 ≤ 10) ∧ (w_F_field (gF S 101) (gF S 102) (gA S 2) (xcf 2 v7) v5 (fun L18 B19 f20 => (w_T_give_181 K KT (sA (sF (sF S 101 L18) 102 B19) 2 f20) r v6 v7)))))) ∧ (v7 = 4 → ((1 ≤ (v7 : Nat)) ∧ v7 ≤ 10) ∧ ((v5 ≤ 0 → (w_F_letter (gF S 101) (gF S 102) (gA S 2) (xcf 2 v7) 78 (fun L24 B25 f26 => (w_T_give_156 K KT (sA (sF (sF S 101 L24) 102 B25) 2 f26) r v6 v7)))) ∧ (¬ v5 ≤ 0 → (w_F_letter (gF S 101) (gF S 102) (gA S 2) (xcf 2 v7) 89 (fun L28 B29 f30 => (w_T_give_156 K KT (sA (sF (sF S 101 L28) 102 B29) 2 f30) r v6 v7)))))))
set_option maxRecDepth 100000 in
theorem t_T_give_124 {G : XG} {l : Launch} {d : Nat} {K : Int32 → XS → List AE → Prop} {KT : Nat → XS → List AE → Prop} (S : XS) (r : List AE) (v5 : Int32) (v6 : Int32) (v7 : Nat) (h : w_T_give_124 K KT S r v5 v6 v7) : xRn G l (d + 6) xm_T_give (qI K KT) 124 [.ref 16, .null, .null, .null, .null, .int v5, .int v6, .ref v7] [] (hL S r) := by
  refine xRn.blk (pc1 := 129) (ls1 := [.ref 16, .null, .null, .null, .null, .int v5, .int v6, .ref v7]) (st1 := [.ref 4, .ref v7]) (hp1 := (hL S r)) (ob := []) [(.aload 7, 2, 7, 0, 0, 0), (.getstatic 13, 3, 3, 0, 0, 0)] [] (by decide +kernel) rfl xall_nil (xSee_nil _) rfl rfl ?_
  obtain ⟨o12, h⟩ := h
  refine xRn.ac_ne (tgt := 159) (nx := 132) (off := 30) (by decide +kernel) (by decide) rfl o12 (by decide) (fun c13 => ?_) (fun c13 => ?_)
  · have h := h.1 c13
    obtain ⟨o14, h⟩ := h
    refine xRn.blk (pc1 := 164) (ls1 := [.ref 16, .null, .null, .null, .null, .int v5, .int v6, .ref v7]) (st1 := [.int (xcf 2 v7)]) (hp1 := (hL S r)) (ob := [(1 ≤ (v7 : Nat)) ∧ v7 ≤ 10]) [(.aload 7, 2, 7, 0, 0, 0), (.getfield 187, 3, 2, 12, 0, 0)] [] (by decide +kernel) rfl (xall_cons o14 xall_nil) (xSee_nil _) rfl rfl ?_
    refine xRn.if_le (tgt := 181) (nx := 167) (off := 17) (by decide +kernel) (by decide) rfl (fun c15 => ?_) (fun c15 => ?_)
    · have h := h.1 c15
      refine xRn.forget (xle_eq (xle_eq (xle_eq (xle_eq (xle_eq (xle_no (xle_eq (xle_eq xle_nil)))))))) ?_
      exact t_T_give_181   S r v6 v7 h
    · have h := h.2 c15
      obtain ⟨o16, h⟩ := h
      refine xRn.blk (pc1 := 178) (ls1 := [.ref 16, .null, .null, .null, .null, .int v5, .int v6, .ref v7]) (st1 := [.int v5, .int (xcf 2 v7), .ref 17]) (hp1 := (hL S r)) (ob := [(16 : Nat) = 16, (1 ≤ (v7 : Nat)) ∧ v7 ≤ 10]) [(.aload_n 0, 1, 0, 0, 0, 0), (.getfield 43, 3, 0, 0, 0, 0), (.aload 7, 2, 7, 0, 0, 0), (.getfield 187, 3, 2, 12, 0, 0), (.iload 5, 2, 5, 0, 0, 0)] [(16, xc0 S)] (by decide +kernel) rfl (xall_cons rfl (xall_cons o16 xall_nil)) (xSee_cons rfl (xne_nil _) (xSee_nil _)) rfl rfl ?_
      refine xRn.callV (al := [.int (xcf 2 v7), .int v5]) (st := []) (nx := 181) (by decide +kernel) lk_V_T_give_115_F_field_1_2 rfl rfl (xCt_eq rfl (c_F_field (d := d + 3) (xFv_17 S r) (gF S 101) (gF S 102) (gA S 2) (xcf 2 v7) v5 h)) rfl (Nat.le_of_ble_eq_true rfl) rfl rfl ?_ ?_
      · rintro _ _ ⟨L18, B19, f20, e9, rfl, h⟩
        cases e9
        show xRn G l _ _ _ 181 [.ref 16, .null, .null, .null, .null, .int v5, .int v6, .ref v7] [] (hL (sA (sF (sF S 101 L18) 102 B19) 2 f20) r)
        refine xRn.forget (xle_eq (xle_eq (xle_eq (xle_eq (xle_eq (xle_no (xle_eq (xle_eq xle_nil)))))))) ?_
        exact t_T_give_181   (sA (sF (sF S 101 L18) 102 B19) 2 f20) r v6 v7 h
      · rintro _ _ ⟨_, _, _, e9, _⟩
        cases e9
  · have h := h.2 c13
    obtain ⟨o21, h⟩ := h
    refine xRn.blk (pc1 := 143) (ls1 := [.ref 16, .null, .null, .null, .null, .int v5, .int v6, .ref v7]) (st1 := [.int v5, .int (xcf 2 v7), .ref 17]) (hp1 := (hL S r)) (ob := [(16 : Nat) = 16, (1 ≤ (v7 : Nat)) ∧ v7 ≤ 10]) [(.aload_n 0, 1, 0, 0, 0, 0), (.getfield 43, 3, 0, 0, 0, 0), (.aload 7, 2, 7, 0, 0, 0), (.getfield 187, 3, 2, 12, 0, 0), (.iload 5, 2, 5, 0, 0, 0)] [(16, xc0 S)] (by decide +kernel) rfl (xall_cons rfl (xall_cons o21 xall_nil)) (xSee_cons rfl (xne_nil _) (xSee_nil _)) rfl rfl ?_
    refine xRn.if_le (tgt := 151) (nx := 146) (off := 8) (by decide +kernel) (by decide) rfl (fun c22 => ?_) (fun c22 => ?_)
    · have h := h.1 c22
      refine xRn.blk (pc1 := 153) (ls1 := [.ref 16, .null, .null, .null, .null, .int v5, .int v6, .ref v7]) (st1 := [.int 78, .int (xcf 2 v7), .ref 17]) (hp1 := (hL S r)) (ob := []) [(.bipush 78, 2, 0, 0, 0, 78)] [] (by decide +kernel) rfl xall_nil (xSee_nil _) rfl rfl ?_
      refine xRn.callV (al := [.int (xcf 2 v7), .int 78]) (st := []) (nx := 156) (by decide +kernel) lk_V_T_give_136_F_letter_1_2 rfl rfl (xCt_eq rfl (c_F_letter (d := d + 3) (xFv_17 S r) (gF S 101) (gF S 102) (gA S 2) (xcf 2 v7) 78 h)) rfl (Nat.le_of_ble_eq_true rfl) rfl rfl ?_ ?_
      · rintro _ _ ⟨L24, B25, f26, e9, rfl, h⟩
        cases e9
        show xRn G l _ _ _ 156 [.ref 16, .null, .null, .null, .null, .int v5, .int v6, .ref v7] [] (hL (sA (sF (sF S 101 L24) 102 B25) 2 f26) r)
        refine xRn.forget (xle_eq (xle_eq (xle_eq (xle_eq (xle_eq (xle_no (xle_eq (xle_eq xle_nil)))))))) ?_
        exact t_T_give_156   (sA (sF (sF S 101 L24) 102 B25) 2 f26) r v6 v7 h
      · rintro _ _ ⟨_, _, _, e9, _⟩
        cases e9
    · have h := h.2 c22
      refine xRn.blk (pc1 := 148) (ls1 := [.ref 16, .null, .null, .null, .null, .int v5, .int v6, .ref v7]) (st1 := [.int 89, .int (xcf 2 v7), .ref 17]) (hp1 := (hL S r)) (ob := []) [(.bipush 89, 2, 0, 0, 0, 89)] [] (by decide +kernel) rfl xall_nil (xSee_nil _) rfl rfl ?_
      refine xRn.goto (tgt := 153) (off := 5) (by decide +kernel) (by decide) ?_
      refine xRn.callV (al := [.int (xcf 2 v7), .int 89]) (st := []) (nx := 156) (by decide +kernel) lk_V_T_give_136_F_letter_1_2 rfl rfl (xCt_eq rfl (c_F_letter (d := d + 3) (xFv_17 S r) (gF S 101) (gF S 102) (gA S 2) (xcf 2 v7) 89 h)) rfl (Nat.le_of_ble_eq_true rfl) rfl rfl ?_ ?_
      · rintro _ _ ⟨L28, B29, f30, e9, rfl, h⟩
        cases e9
        show xRn G l _ _ _ 156 [.ref 16, .null, .null, .null, .null, .int v5, .int v6, .ref v7] [] (hL (sA (sF (sF S 101 L28) 102 B29) 2 f30) r)
        refine xRn.forget (xle_eq (xle_eq (xle_eq (xle_eq (xle_eq (xle_no (xle_eq (xle_eq xle_nil)))))))) ?_
        exact t_T_give_156   (sA (sF (sF S 101 L28) 102 B29) 2 f30) r v6 v7 h
      · rintro _ _ ⟨_, _, _, e9, _⟩
        cases e9
def w_T_give_110   (K : Int32 → XS → List AE → Prop) (KT : Nat → XS → List AE → Prop) (S : XS) (r : List AE) (v4 : Int32) (v5 : Int32) (v6 : Int32) (v7 : Nat) : Prop :=
  ((1 ≤ (v7 : Nat)) ∧ v7 ≤ 10) ∧ (w_F_field (gF S 101) (gF S 102) (gA S 2) (xcf 1 v7) v4 (fun L33 B34 f35 => (w_T_give_124 K KT (sA (sF (sF S 101 L33) 102 B34) 2 f35) r v5 v6 v7)))
set_option maxRecDepth 100000 in
theorem t_T_give_110 {G : XG} {l : Launch} {d : Nat} {K : Int32 → XS → List AE → Prop} {KT : Nat → XS → List AE → Prop} (S : XS) (r : List AE) (v4 : Int32) (v5 : Int32) (v6 : Int32) (v7 : Nat) (h : w_T_give_110 K KT S r v4 v5 v6 v7) : xRn G l (d + 6) xm_T_give (qI K KT) 110 [.ref 16, .null, .null, .null, .int v4, .int v5, .int v6, .ref v7] [] (hL S r) := by
  obtain ⟨o31, h⟩ := h
  refine xRn.blk (pc1 := 121) (ls1 := [.ref 16, .null, .null, .null, .int v4, .int v5, .int v6, .ref v7]) (st1 := [.int v4, .int (xcf 1 v7), .ref 17]) (hp1 := (hL S r)) (ob := [(16 : Nat) = 16, (1 ≤ (v7 : Nat)) ∧ v7 ≤ 10]) [(.aload_n 0, 1, 0, 0, 0, 0), (.getfield 43, 3, 0, 0, 0, 0), (.aload 7, 2, 7, 0, 0, 0), (.getfield 119, 3, 1, 12, 0, 0), (.iload 4, 2, 4, 0, 0, 0)] [(16, xc0 S)] (by decide +kernel) rfl (xall_cons rfl (xall_cons o31 xall_nil)) (xSee_cons rfl (xne_nil _) (xSee_nil _)) rfl rfl ?_
  refine xRn.callV (al := [.int (xcf 1 v7), .int v4]) (st := []) (nx := 124) (by decide +kernel) lk_V_T_give_115_F_field_1_2 rfl rfl (xCt_eq rfl (c_F_field (d := d + 3) (xFv_17 S r) (gF S 101) (gF S 102) (gA S 2) (xcf 1 v7) v4 h)) rfl (Nat.le_of_ble_eq_true rfl) rfl rfl ?_ ?_
  · rintro _ _ ⟨L33, B34, f35, e9, rfl, h⟩
    cases e9
    show xRn G l _ _ _ 124 [.ref 16, .null, .null, .null, .int v4, .int v5, .int v6, .ref v7] [] (hL (sA (sF (sF S 101 L33) 102 B34) 2 f35) r)
    refine xRn.forget (xle_eq (xle_eq (xle_eq (xle_eq (xle_no (xle_eq (xle_eq (xle_eq xle_nil)))))))) ?_
    exact t_T_give_124   (sA (sF (sF S 101 L33) 102 B34) 2 f35) r v5 v6 v7 h
  · rintro _ _ ⟨_, _, _, e9, _⟩
    cases e9
def w_T_give_67   (K : Int32 → XS → List AE → Prop) (KT : Nat → XS → List AE → Prop) (S : XS) (r : List AE) : Prop :=
  (bud r ∧ KT 7 S (r ++ [xO 7 []]))
set_option maxRecDepth 100000 in
theorem t_T_give_67 {G : XG} {l : Launch} {d : Nat} {K : Int32 → XS → List AE → Prop} {KT : Nat → XS → List AE → Prop} (S : XS) (r : List AE) (h : w_T_give_67 K KT S r) : xRn G l (d + 6) xm_T_give (qI K KT) 67 [.null, .null, .null, .null, .null, .null, .null, .null] [] (hL S r) := by
  obtain ⟨o36, h⟩ := h
  exact xRn.throwL (K := KT) (idx := 184) (ic := 186) (ci := 7) (pc1 := 70) (pc2 := 71) (pc3 := 74) (by decide +kernel) (by decide +kernel) (by decide +kernel) (by decide +kernel) rfl rfl rfl (by decide +kernel) (by decide) ha_T_186_7 (by decide +kernel) (by decide) (by omega) rfl o36 (fun _ _ h => Or.inr h) h
def w_T_give_23   (K : Int32 → XS → List AE → Prop) (KT : Nat → XS → List AE → Prop) (S : XS) (r : List AE) (v2 : Int32) (v3 : Int32) (v4 : Int32) (v5 : Int32) (v6 : Int32) (v7 : Nat) : Prop :=
  ((v7 = 0 → (w_T_give_67 K KT S r)) ∧ (¬ v7 = 0 → (v7 ≤ 10) ∧ ((v7 = 10 → (w_T_give_67 K KT S r)) ∧ (¬ v7 = 10 → (w_T_off v2 (fun x40 => ((¬ x40 = 0 → (w_T_give_67 K KT S r)) ∧ (x40 = 0 → (w_T_off v4 (fun x42 => ((¬ x42 = 0 → (w_T_give_67 K KT S r)) ∧ (x42 = 0 → (w_T_off v5 (fun x44 => ((¬ x44 = 0 → (w_T_give_67 K KT S r)) ∧ (x44 = 0 → (w_T_off v6 (fun x46 => ((x46 = 0 → ((1 ≤ (v7 : Nat)) ∧ v7 ≤ 10) ∧ (w_F_begin (gF S 101) (gF S 102) (gA S 2) (xcf 0 v7) v2 v3 (fun L50 B51 f52 => ((1 ≤ (v7 : Nat)) ∧ v7 ≤ 10) ∧ (((xcf 1 v7) ≤ 0 → (w_T_give_124 K KT (sA (sF (sF S 101 L50) 102 B51) 2 f52) r v5 v6 v7)) ∧ (¬ (xcf 1 v7) ≤ 0 → (v7 ≤ 10) ∧ ((¬ v7 = 1 → (w_T_give_110 K KT (sA (sF (sF S 101 L50) 102 B51) 2 f52) r v4 v5 v6 v7)) ∧ (v7 = 1 → ((v4 ≤ 0 → (w_T_give_124 K KT (sA (sF (sF S 101 L50) 102 B51) 2 f52) r v5 v6 v7)) ∧ (¬ v4 ≤ 0 → (w_T_give_110 K KT (sA (sF (sF S 101 L50) 102 B51) 2 f52) r v4 v5 v6 v7)))))))))) ∧ (¬ x46 = 0 → (w_T_give_67 K KT S r)))))))))))))))))))))
set_option maxRecDepth 100000 in
theorem t_T_give_23 {G : XG} {l : Launch} {d : Nat} {K : Int32 → XS → List AE → Prop} {KT : Nat → XS → List AE → Prop} (S : XS) (r : List AE) (v2 : Int32) (v3 : Int32) (v4 : Int32) (v5 : Int32) (v6 : Int32) (v7 : Nat) (h : w_T_give_23 K KT S r v2 v3 v4 v5 v6 v7) : xRn G l (d + 6) xm_T_give (qI K KT) 23 [.ref 16, .null, .int v2, .int v3, .int v4, .int v5, .int v6, .ref v7] [] (hL S r) := by
  refine xRn.blk (pc1 := 25) (ls1 := [.ref 16, .null, .int v2, .int v3, .int v4, .int v5, .int v6, .ref v7]) (st1 := [.ref v7]) (hp1 := (hL S r)) (ob := []) [(.aload 7, 2, 7, 0, 0, 0)] [] (by decide +kernel) rfl xall_nil (xSee_nil _) rfl rfl ?_
  refine xRn.ifnull (tgt := 67) (nx := 28) (off := 42) (by decide +kernel) (by decide) rfl (fun c37 => ?_) (fun c37 => ?_)
  · have h := h.1 c37
    refine xRn.forget (xle_no (xle_eq (xle_no (xle_no (xle_no (xle_no (xle_no (xle_no xle_nil)))))))) ?_
    exact t_T_give_67   S r h
  · have h := h.2 c37
    refine xRn.blk (pc1 := 33) (ls1 := [.ref 16, .null, .int v2, .int v3, .int v4, .int v5, .int v6, .ref v7]) (st1 := [.ref 10, .ref v7]) (hp1 := (hL S r)) (ob := []) [(.aload 7, 2, 7, 0, 0, 0), (.getstatic 31, 3, 9, 0, 0, 0)] [] (by decide +kernel) rfl xall_nil (xSee_nil _) rfl rfl ?_
    obtain ⟨o38, h⟩ := h
    refine xRn.ac_eq (tgt := 67) (nx := 36) (off := 34) (by decide +kernel) (by decide) rfl o38 (by decide) (fun c39 => ?_) (fun c39 => ?_)
    · have h := h.1 c39
      refine xRn.forget (xle_no (xle_eq (xle_no (xle_no (xle_no (xle_no (xle_no (xle_no xle_nil)))))))) ?_
      exact t_T_give_67   S r h
    · have h := h.2 c39
      refine xRn.blk (pc1 := 37) (ls1 := [.ref 16, .null, .int v2, .int v3, .int v4, .int v5, .int v6, .ref v7]) (st1 := [.int v2]) (hp1 := (hL S r)) (ob := []) [(.iload_n 2, 1, 2, 0, 0, 0)] [] (by decide +kernel) rfl xall_nil (xSee_nil _) rfl rfl ?_
      refine xRn.callS (al := [.int v2]) (st := []) (nx := 40) (by decide +kernel) lk_S_T_give_180_T_off_1 rfl (c_T_off (d := d + 5) _ v2 h) rfl (Nat.le_of_ble_eq_true rfl) rfl rfl ?_ ?_
      · rintro _ _ ⟨x40, e9, e8, h⟩
        cases e9
        rw [e8]
        show xRn G l _ _ _ 40 [.ref 16, .null, .int v2, .int v3, .int v4, .int v5, .int v6, .ref v7] [.int x40] (hL S r)
        refine xRn.if_ne (tgt := 67) (nx := 43) (off := 27) (by decide +kernel) (by decide) rfl (fun c41 => ?_) (fun c41 => ?_)
        · have h := h.1 c41
          refine xRn.forget (xle_no (xle_eq (xle_no (xle_no (xle_no (xle_no (xle_no (xle_no xle_nil)))))))) ?_
          exact t_T_give_67   S r h
        · have h := h.2 c41
          refine xRn.blk (pc1 := 45) (ls1 := [.ref 16, .null, .int v2, .int v3, .int v4, .int v5, .int v6, .ref v7]) (st1 := [.int v4]) (hp1 := (hL S r)) (ob := []) [(.iload 4, 2, 4, 0, 0, 0)] [] (by decide +kernel) rfl xall_nil (xSee_nil _) rfl rfl ?_
          refine xRn.callS (al := [.int v4]) (st := []) (nx := 48) (by decide +kernel) lk_S_T_give_180_T_off_1 rfl (c_T_off (d := d + 5) _ v4 h) rfl (Nat.le_of_ble_eq_true rfl) rfl rfl ?_ ?_
          · rintro _ _ ⟨x42, e9, e8, h⟩
            cases e9
            rw [e8]
            show xRn G l _ _ _ 48 [.ref 16, .null, .int v2, .int v3, .int v4, .int v5, .int v6, .ref v7] [.int x42] (hL S r)
            refine xRn.if_ne (tgt := 67) (nx := 51) (off := 19) (by decide +kernel) (by decide) rfl (fun c43 => ?_) (fun c43 => ?_)
            · have h := h.1 c43
              refine xRn.forget (xle_no (xle_eq (xle_no (xle_no (xle_no (xle_no (xle_no (xle_no xle_nil)))))))) ?_
              exact t_T_give_67   S r h
            · have h := h.2 c43
              refine xRn.blk (pc1 := 53) (ls1 := [.ref 16, .null, .int v2, .int v3, .int v4, .int v5, .int v6, .ref v7]) (st1 := [.int v5]) (hp1 := (hL S r)) (ob := []) [(.iload 5, 2, 5, 0, 0, 0)] [] (by decide +kernel) rfl xall_nil (xSee_nil _) rfl rfl ?_
              refine xRn.callS (al := [.int v5]) (st := []) (nx := 56) (by decide +kernel) lk_S_T_give_180_T_off_1 rfl (c_T_off (d := d + 5) _ v5 h) rfl (Nat.le_of_ble_eq_true rfl) rfl rfl ?_ ?_
              · rintro _ _ ⟨x44, e9, e8, h⟩
                cases e9
                rw [e8]
                show xRn G l _ _ _ 56 [.ref 16, .null, .int v2, .int v3, .int v4, .int v5, .int v6, .ref v7] [.int x44] (hL S r)
                refine xRn.if_ne (tgt := 67) (nx := 59) (off := 11) (by decide +kernel) (by decide) rfl (fun c45 => ?_) (fun c45 => ?_)
                · have h := h.1 c45
                  refine xRn.forget (xle_no (xle_eq (xle_no (xle_no (xle_no (xle_no (xle_no (xle_no xle_nil)))))))) ?_
                  exact t_T_give_67   S r h
                · have h := h.2 c45
                  refine xRn.blk (pc1 := 61) (ls1 := [.ref 16, .null, .int v2, .int v3, .int v4, .int v5, .int v6, .ref v7]) (st1 := [.int v6]) (hp1 := (hL S r)) (ob := []) [(.iload 6, 2, 6, 0, 0, 0)] [] (by decide +kernel) rfl xall_nil (xSee_nil _) rfl rfl ?_
                  refine xRn.callS (al := [.int v6]) (st := []) (nx := 64) (by decide +kernel) lk_S_T_give_180_T_off_1 rfl (c_T_off (d := d + 5) _ v6 h) rfl (Nat.le_of_ble_eq_true rfl) rfl rfl ?_ ?_
                  · rintro _ _ ⟨x46, e9, e8, h⟩
                    cases e9
                    rw [e8]
                    show xRn G l _ _ _ 64 [.ref 16, .null, .int v2, .int v3, .int v4, .int v5, .int v6, .ref v7] [.int x46] (hL S r)
                    refine xRn.if_eq (tgt := 75) (nx := 67) (off := 11) (by decide +kernel) (by decide) rfl (fun c47 => ?_) (fun c47 => ?_)
                    · have h := h.1 c47
                      obtain ⟨o48, h⟩ := h
                      refine xRn.blk (pc1 := 86) (ls1 := [.ref 16, .null, .int v2, .int v3, .int v4, .int v5, .int v6, .ref v7]) (st1 := [.int v3, .int v2, .int (xcf 0 v7), .ref 17]) (hp1 := (hL S r)) (ob := [(16 : Nat) = 16, (1 ≤ (v7 : Nat)) ∧ v7 ≤ 10]) [(.aload_n 0, 1, 0, 0, 0, 0), (.getfield 43, 3, 0, 0, 0, 0), (.aload 7, 2, 7, 0, 0, 0), (.getfield 107, 3, 0, 12, 0, 0), (.iload_n 2, 1, 2, 0, 0, 0), (.iload_n 3, 1, 3, 0, 0, 0)] [(16, xc0 S)] (by decide +kernel) rfl (xall_cons rfl (xall_cons o48 xall_nil)) (xSee_cons rfl (xne_nil _) (xSee_nil _)) rfl rfl ?_
                      refine xRn.callV (al := [.int (xcf 0 v7), .int v2, .int v3]) (st := []) (nx := 89) (by decide +kernel) lk_V_T_give_111_F_begin_1_3 rfl rfl (xCt_eq rfl (c_F_begin (d := d + 2) (xFv_17 S r) (gF S 101) (gF S 102) (gA S 2) (xcf 0 v7) v2 v3 h)) rfl (Nat.le_of_ble_eq_true rfl) rfl rfl ?_ ?_
                      · rintro _ _ ⟨L50, B51, f52, e9, rfl, h⟩
                        cases e9
                        show xRn G l _ _ _ 89 [.ref 16, .null, .int v2, .int v3, .int v4, .int v5, .int v6, .ref v7] [] (hL (sA (sF (sF S 101 L50) 102 B51) 2 f52) r)
                        obtain ⟨o53, h⟩ := h
                        refine xRn.blk (pc1 := 94) (ls1 := [.ref 16, .null, .int v2, .int v3, .int v4, .int v5, .int v6, .ref v7]) (st1 := [.int (xcf 1 v7)]) (hp1 := (hL (sA (sF (sF S 101 L50) 102 B51) 2 f52) r)) (ob := [(1 ≤ (v7 : Nat)) ∧ v7 ≤ 10]) [(.aload 7, 2, 7, 0, 0, 0), (.getfield 119, 3, 1, 12, 0, 0)] [] (by decide +kernel) rfl (xall_cons o53 xall_nil) (xSee_nil _) rfl rfl ?_
                        refine xRn.if_le (tgt := 124) (nx := 97) (off := 30) (by decide +kernel) (by decide) rfl (fun c54 => ?_) (fun c54 => ?_)
                        · have h := h.1 c54
                          refine xRn.forget (xle_eq (xle_eq (xle_no (xle_no (xle_no (xle_eq (xle_eq (xle_eq xle_nil)))))))) ?_
                          exact t_T_give_124   (sA (sF (sF S 101 L50) 102 B51) 2 f52) r v5 v6 v7 h
                        · have h := h.2 c54
                          refine xRn.blk (pc1 := 102) (ls1 := [.ref 16, .null, .int v2, .int v3, .int v4, .int v5, .int v6, .ref v7]) (st1 := [.ref 1, .ref v7]) (hp1 := (hL (sA (sF (sF S 101 L50) 102 B51) 2 f52) r)) (ob := []) [(.aload 7, 2, 7, 0, 0, 0), (.getstatic 1, 3, 0, 0, 0, 0)] [] (by decide +kernel) rfl xall_nil (xSee_nil _) rfl rfl ?_
                          obtain ⟨o55, h⟩ := h
                          refine xRn.ac_ne (tgt := 110) (nx := 105) (off := 8) (by decide +kernel) (by decide) rfl o55 (by decide) (fun c56 => ?_) (fun c56 => ?_)
                          · have h := h.1 c56
                            refine xRn.forget (xle_eq (xle_eq (xle_no (xle_no (xle_eq (xle_eq (xle_eq (xle_eq xle_nil)))))))) ?_
                            exact t_T_give_110   (sA (sF (sF S 101 L50) 102 B51) 2 f52) r v4 v5 v6 v7 h
                          · have h := h.2 c56
                            refine xRn.blk (pc1 := 107) (ls1 := [.ref 16, .null, .int v2, .int v3, .int v4, .int v5, .int v6, .ref v7]) (st1 := [.int v4]) (hp1 := (hL (sA (sF (sF S 101 L50) 102 B51) 2 f52) r)) (ob := []) [(.iload 4, 2, 4, 0, 0, 0)] [] (by decide +kernel) rfl xall_nil (xSee_nil _) rfl rfl ?_
                            refine xRn.if_le (tgt := 124) (nx := 110) (off := 17) (by decide +kernel) (by decide) rfl (fun c57 => ?_) (fun c57 => ?_)
                            · have h := h.1 c57
                              refine xRn.forget (xle_eq (xle_eq (xle_no (xle_no (xle_no (xle_eq (xle_eq (xle_eq xle_nil)))))))) ?_
                              exact t_T_give_124   (sA (sF (sF S 101 L50) 102 B51) 2 f52) r v5 v6 v7 h
                            · have h := h.2 c57
                              refine xRn.forget (xle_eq (xle_eq (xle_no (xle_no (xle_eq (xle_eq (xle_eq (xle_eq xle_nil)))))))) ?_
                              exact t_T_give_110   (sA (sF (sF S 101 L50) 102 B51) 2 f52) r v4 v5 v6 v7 h
                      · rintro _ _ ⟨_, _, _, e9, _⟩
                        cases e9
                    · have h := h.2 c47
                      refine xRn.forget (xle_no (xle_eq (xle_no (xle_no (xle_no (xle_no (xle_no (xle_no xle_nil)))))))) ?_
                      exact t_T_give_67   S r h
                  · rintro _ _ ⟨_, e9, _⟩
                    cases e9
              · rintro _ _ ⟨_, e9, _⟩
                cases e9
          · rintro _ _ ⟨_, e9, _⟩
            cases e9
      · rintro _ _ ⟨_, e9, _⟩
        cases e9
def w_T_give_12   (K : Int32 → XS → List AE → Prop) (KT : Nat → XS → List AE → Prop) (S : XS) (r : List AE) (v2 : Int32) (v3 : Int32) (v4 : Int32) (v5 : Int32) (v6 : Int32) : Prop :=
  (w_T_give_23 K KT S r v2 v3 v4 v5 v6 0)
set_option maxRecDepth 100000 in
theorem t_T_give_12 {G : XG} {l : Launch} {d : Nat} {K : Int32 → XS → List AE → Prop} {KT : Nat → XS → List AE → Prop} (S : XS) (r : List AE) (v2 : Int32) (v3 : Int32) (v4 : Int32) (v5 : Int32) (v6 : Int32) (h : w_T_give_12 K KT S r v2 v3 v4 v5 v6) : xRn G l (d + 6) xm_T_give (qI K KT) 12 [.ref 16, .null, .int v2, .int v3, .int v4, .int v5, .int v6, .null] [] (hL S r) := by
  refine xRn.blk (pc1 := 13) (ls1 := [.ref 16, .null, .int v2, .int v3, .int v4, .int v5, .int v6, .null]) (st1 := [.ref 0]) (hp1 := (hL S r)) (ob := []) [(.aconst_null, 1, 0, 0, 0, 0)] [] (by decide +kernel) rfl xall_nil (xSee_nil _) rfl rfl ?_
  refine xRn.goto (tgt := 21) (off := 8) (by decide +kernel) (by decide) ?_
  refine xRn.blk (pc1 := 23) (ls1 := [.ref 16, .null, .int v2, .int v3, .int v4, .int v5, .int v6, .ref 0]) (st1 := []) (hp1 := (hL S r)) (ob := []) [(.astore 7, 2, 7, 0, 0, 0)] [] (by decide +kernel) rfl xall_nil (xSee_nil _) rfl rfl ?_
  refine xRn.forget (xle_eq (xle_eq (xle_eq (xle_eq (xle_eq (xle_eq (xle_eq (xle_eq xle_nil)))))))) ?_
  exact t_T_give_23   S r v2 v3 v4 v5 v6 0 h
def w_T_give  (S : XS) (r : List AE) (p1 : Int32) (p2 : Int32) (p3 : Int32) (p4 : Int32) (p5 : Int32) (p6 : Int32) (K : Int32 → XS → List AE → Prop) (KT : Nat → XS → List AE → Prop) : Prop :=
  ((p1 < (33 : Int32) → (w_T_give_12 K KT S r p2 p3 p4 p5 p6)) ∧ (¬ p1 < (33 : Int32) → ((p1 ≤ (126 : Int32) → (w_T_typeOf ((p1.toUInt32 % 65536).toInt32) (fun x60 => (w_T_give_23 K KT S r p2 p3 p4 p5 p6 x60)))) ∧ (¬ p1 ≤ (126 : Int32) → (w_T_give_12 K KT S r p2 p3 p4 p5 p6)))))
set_option maxRecDepth 100000 in
theorem c_T_give {G : XG} {l : Launch} {d : Nat} (S : XS) (r : List AE) (p1 : Int32) (p2 : Int32) (p3 : Int32) (p4 : Int32) (p5 : Int32) (p6 : Int32) {K : Int32 → XS → List AE → Prop} {KT : Nat → XS → List AE → Prop} (h : w_T_give  S r p1 p2 p3 p4 p5 p6 K KT) : xCt G l (d + 6) xm_T_give [.ref 16, .int p1, .int p2, .int p3, .int p4, .int p5, .int p6] (hL S r) (qI K KT) := by
  refine xCt.intro (by decide) (by decide) (List.forall_mem_cons.mpr ⟨rfl, (List.forall_mem_cons.mpr ⟨rfl, (List.forall_mem_cons.mpr ⟨rfl, (List.forall_mem_cons.mpr ⟨rfl, (List.forall_mem_cons.mpr ⟨rfl, (List.forall_mem_cons.mpr ⟨rfl, (List.forall_mem_cons.mpr ⟨rfl, (fun _ h => by cases h)⟩)⟩)⟩)⟩)⟩)⟩)⟩) (Nat.le_of_ble_eq_true rfl) rfl ?_
  show xRn G l _ xm_T_give _ 0 [.ref 16, .int p1, .int p2, .int p3, .int p4, .int p5, .int p6, .null] [] (hL S r)
  refine xRn.blk (pc1 := 3) (ls1 := [.ref 16, .int p1, .int p2, .int p3, .int p4, .int p5, .int p6, .null]) (st1 := [.int 33, .int p1]) (hp1 := (hL S r)) (ob := []) [(.iload_n 1, 1, 1, 0, 0, 0), (.bipush 33, 2, 0, 0, 0, 33)] [] (by decide +kernel) rfl xall_nil (xSee_nil _) rfl rfl ?_
  refine xRn.ic_lt (tgt := 12) (nx := 6) (off := 9) (by decide +kernel) (by decide) rfl (fun c58 => ?_) (fun c58 => ?_)
  · have h := h.1 c58
    refine xRn.forget (xle_eq (xle_no (xle_eq (xle_eq (xle_eq (xle_eq (xle_eq (xle_eq xle_nil)))))))) ?_
    exact t_T_give_12   S r p2 p3 p4 p5 p6 h
  · have h := h.2 c58
    refine xRn.blk (pc1 := 9) (ls1 := [.ref 16, .int p1, .int p2, .int p3, .int p4, .int p5, .int p6, .null]) (st1 := [.int 126, .int p1]) (hp1 := (hL S r)) (ob := []) [(.iload_n 1, 1, 1, 0, 0, 0), (.bipush 126, 2, 0, 0, 0, 126)] [] (by decide +kernel) rfl xall_nil (xSee_nil _) rfl rfl ?_
    refine xRn.ic_le (tgt := 16) (nx := 12) (off := 7) (by decide +kernel) (by decide) rfl (fun c59 => ?_) (fun c59 => ?_)
    · have h := h.1 c59
      refine xRn.blk (pc1 := 18) (ls1 := [.ref 16, .int p1, .int p2, .int p3, .int p4, .int p5, .int p6, .null]) (st1 := [.int ((p1.toUInt32 % 65536).toInt32)]) (hp1 := (hL S r)) (ob := []) [(.iload_n 1, 1, 1, 0, 0, 0), (.i2c, 1, 0, 0, 0, 0)] [] (by decide +kernel) rfl xall_nil (xSee_nil _) rfl rfl ?_
      refine xRn.callS (al := [.int ((p1.toUInt32 % 65536).toInt32)]) (st := []) (nx := 21) (by decide +kernel) lk_S_T_give_176_T_typeOf_1 rfl (c_T_typeOf (d := d + 5) _ ((p1.toUInt32 % 65536).toInt32) h) rfl (Nat.le_of_ble_eq_true rfl) rfl rfl ?_ ?_
      · rintro _ _ ⟨x60, e9, e8, h⟩
        cases e9
        rw [e8]
        show xRn G l _ _ _ 21 [.ref 16, .int p1, .int p2, .int p3, .int p4, .int p5, .int p6, .null] [.ref x60] (hL S r)
        refine xRn.blk (pc1 := 23) (ls1 := [.ref 16, .int p1, .int p2, .int p3, .int p4, .int p5, .int p6, .ref x60]) (st1 := []) (hp1 := (hL S r)) (ob := []) [(.astore 7, 2, 7, 0, 0, 0)] [] (by decide +kernel) rfl xall_nil (xSee_nil _) rfl rfl ?_
        refine xRn.forget (xle_eq (xle_no (xle_eq (xle_eq (xle_eq (xle_eq (xle_eq (xle_eq xle_nil)))))))) ?_
        exact t_T_give_23   S r p2 p3 p4 p5 p6 x60 h
      · rintro _ _ ⟨_, e9, _⟩
        cases e9
    · have h := h.2 c59
      refine xRn.forget (xle_eq (xle_no (xle_eq (xle_eq (xle_eq (xle_eq (xle_eq (xle_eq xle_nil)))))))) ?_
      exact t_T_give_12   S r p2 p3 p4 p5 p6 h
/-! T_spoil -/
def w_T_spoil_34   (K : Int32 → XS → List AE → Prop) (KT : Nat → XS → List AE → Prop) (S : XS) (r : List AE) : Prop :=
  (bud r ∧ KT 7 S (r ++ [xO 7 []]))
set_option maxRecDepth 100000 in
theorem t_T_spoil_34 {G : XG} {l : Launch} {d : Nat} {K : Int32 → XS → List AE → Prop} {KT : Nat → XS → List AE → Prop} (S : XS) (r : List AE) (h : w_T_spoil_34 K KT S r) : xRn G l (d + 6) xm_T_spoil (qI K KT) 34 [.null, .null, .null] [] (hL S r) := by
  obtain ⟨o1, h⟩ := h
  exact xRn.throwL (K := KT) (idx := 184) (ic := 186) (ci := 7) (pc1 := 37) (pc2 := 38) (pc3 := 41) (by decide +kernel) (by decide +kernel) (by decide +kernel) (by decide +kernel) rfl rfl rfl (by decide +kernel) (by decide) ha_T_186_7 (by decide +kernel) (by decide) (by omega) rfl o1 (fun _ _ h => Or.inr h) h
def w_T_spoil_15   (K : Int32 → XS → List AE → Prop) (KT : Nat → XS → List AE → Prop) (S : XS) (r : List AE) : Prop :=
  (bud r ∧ KT 9 S (r ++ [xO 9 []]))
set_option maxRecDepth 100000 in
theorem t_T_spoil_15 {G : XG} {l : Launch} {d : Nat} {K : Int32 → XS → List AE → Prop} {KT : Nat → XS → List AE → Prop} (S : XS) (r : List AE) (h : w_T_spoil_15 K KT S r) : xRn G l (d + 6) xm_T_spoil (qI K KT) 15 [.null, .null, .null] [] (hL S r) := by
  obtain ⟨o2, h⟩ := h
  exact xRn.throwL (K := KT) (idx := 197) (ic := 199) (ci := 9) (pc1 := 18) (pc2 := 19) (pc3 := 22) (by decide +kernel) (by decide +kernel) (by decide +kernel) (by decide +kernel) rfl rfl rfl (by decide +kernel) (by decide) ha_T_199_9 (by decide +kernel) (by decide) (by omega) rfl o2 (fun _ _ h => Or.inr h) h
def w_T_spoil  (S : XS) (r : List AE) (p1 : Int32) (p2 : Int32) (K : Int32 → XS → List AE → Prop) (KT : Nat → XS → List AE → Prop) : Prop :=
  ((p1 < 0 → (w_T_spoil_15 K KT S r)) ∧ (¬ p1 < 0 → ((p1 < (gF S 101) → ((p2 < (1 : Int32) → (w_T_spoil_34 K KT S r)) ∧ (¬ p2 < (1 : Int32) → ((p2 ≤ (127 : Int32) → (vp_in p1 120) ∧ (vp_in p1 120) ∧ (vp_in p1 120) ∧ (K ((upd (gA S 2) p1.toNatClampNeg (vp_nar .byte ((((gA S 2) p1.toNatClampNeg) ^^^ p2.toInt8.toInt32).toInt8.toInt32))) p1.toNatClampNeg) (sA (sF S 4 0) 2 (upd (gA S 2) p1.toNatClampNeg (vp_nar .byte ((((gA S 2) p1.toNatClampNeg) ^^^ p2.toInt8.toInt32).toInt8.toInt32)))) r)) ∧ (¬ p2 ≤ (127 : Int32) → (w_T_spoil_34 K KT S r)))))) ∧ (¬ p1 < (gF S 101) → (w_T_spoil_15 K KT S r)))))
set_option maxRecDepth 100000 in
theorem c_T_spoil {G : XG} {l : Launch} {d : Nat} (S : XS) (r : List AE) (p1 : Int32) (p2 : Int32) {K : Int32 → XS → List AE → Prop} {KT : Nat → XS → List AE → Prop} (h : w_T_spoil  S r p1 p2 K KT) : xCt G l (d + 6) xm_T_spoil [.ref 16, .int p1, .int p2] (hL S r) (qI K KT) := by
  refine xCt.intro (by decide) (by decide) (List.forall_mem_cons.mpr ⟨rfl, (List.forall_mem_cons.mpr ⟨rfl, (List.forall_mem_cons.mpr ⟨rfl, (fun _ h => by cases h)⟩)⟩)⟩) (Nat.le_of_ble_eq_true rfl) rfl ?_
  show xRn G l _ xm_T_spoil _ 0 [.ref 16, .int p1, .int p2] [] (hL S r)
  refine xRn.blk (pc1 := 1) (ls1 := [.ref 16, .int p1, .int p2]) (st1 := [.int p1]) (hp1 := (hL S r)) (ob := []) [(.iload_n 1, 1, 1, 0, 0, 0)] [] (by decide +kernel) rfl xall_nil (xSee_nil _) rfl rfl ?_
  refine xRn.if_lt (tgt := 15) (nx := 4) (off := 14) (by decide +kernel) (by decide) rfl (fun c3 => ?_) (fun c3 => ?_)
  · have h := h.1 c3
    refine xRn.forget (xle_no (xle_no (xle_no xle_nil))) ?_
    exact t_T_spoil_15   S r h
  · have h := h.2 c3
    refine xRn.blk (pc1 := 12) (ls1 := [.ref 16, .int p1, .int p2]) (st1 := [.int (gF S 101), .int p1]) (hp1 := (hL S r)) (ob := [(16 : Nat) = 16, (17 : Nat) = 17]) [(.iload_n 1, 1, 1, 0, 0, 0), (.aload_n 0, 1, 0, 0, 0, 0), (.getfield 43, 3, 0, 0, 0, 0), (.getfield 193, 3, 1, 1, 1, 0)] [(16, xc0 S), (17, xc1 S)] (by decide +kernel) rfl (xall_cons rfl (xall_cons rfl xall_nil)) (xSee_cons rfl (xne_cons (by decide) (xne_nil _)) (xSee_cons rfl (xne_nil _) (xSee_nil _))) rfl rfl ?_
    refine xRn.ic_lt (tgt := 23) (nx := 15) (off := 11) (by decide +kernel) (by decide) rfl (fun c4 => ?_) (fun c4 => ?_)
    · have h := h.1 c4
      refine xRn.blk (pc1 := 25) (ls1 := [.ref 16, .int p1, .int p2]) (st1 := [.int 1, .int p2]) (hp1 := (hL S r)) (ob := []) [(.iload_n 2, 1, 2, 0, 0, 0), (.iconst 1, 1, 0, 0, 0, 1)] [] (by decide +kernel) rfl xall_nil (xSee_nil _) rfl rfl ?_
      refine xRn.ic_lt (tgt := 34) (nx := 28) (off := 9) (by decide +kernel) (by decide) rfl (fun c5 => ?_) (fun c5 => ?_)
      · have h := h.1 c5
        refine xRn.forget (xle_no (xle_no (xle_no xle_nil))) ?_
        exact t_T_spoil_34   S r h
      · have h := h.2 c5
        refine xRn.blk (pc1 := 31) (ls1 := [.ref 16, .int p1, .int p2]) (st1 := [.int 127, .int p2]) (hp1 := (hL S r)) (ob := []) [(.iload_n 2, 1, 2, 0, 0, 0), (.bipush 127, 2, 0, 0, 0, 127)] [] (by decide +kernel) rfl xall_nil (xSee_nil _) rfl rfl ?_
        refine xRn.ic_le (tgt := 42) (nx := 34) (off := 11) (by decide +kernel) (by decide) rfl (fun c6 => ?_) (fun c6 => ?_)
        · have h := h.1 c6
          obtain ⟨o7, o8, o9, h⟩ := h
          refine xRn.blk (pc1 := 71) (ls1 := [.ref 16, .int p1, .int p2]) (st1 := [.int ((upd (gA S 2) p1.toNatClampNeg (vp_nar .byte ((((gA S 2) p1.toNatClampNeg) ^^^ p2.toInt8.toInt32).toInt8.toInt32))) p1.toNatClampNeg)]) (hp1 := (hL (sA (sF S 4 0) 2 (upd (gA S 2) p1.toNatClampNeg (vp_nar .byte ((((gA S 2) p1.toNatClampNeg) ^^^ p2.toInt8.toInt32).toInt8.toInt32)))) r)) (ob := [(16 : Nat) = 16, (16 : Nat) = 16, (17 : Nat) = 17, (18 : Nat) = 18, vp_in p1 120, (18 : Nat) = 18, vp_in p1 120, (16 : Nat) = 16, (17 : Nat) = 17, (18 : Nat) = 18, vp_in p1 120]) [(.aload_n 0, 1, 0, 0, 0, 0), (.iconst 0, 1, 0, 0, 0, 0), (.putfield 84, 3, 4, 0, 0, 0), (.aload_n 0, 1, 0, 0, 0, 0), (.getfield 43, 3, 0, 0, 0, 0), (.getfield 200, 3, 0, 1, 1, 0), (.iload_n 1, 1, 1, 0, 0, 0), (.dup2, 1, 0, 0, 0, 0), (.baload, 1, 0, 0, 2, 0), (.iload_n 2, 1, 2, 0, 0, 0), (.i2b, 1, 0, 0, 0, 0), (.ixor, 1, 0, 0, 0, 0), (.i2b, 1, 0, 0, 0, 0), (.bastore, 1, 0, 0, 2, 0), (.aload_n 0, 1, 0, 0, 0, 0), (.getfield 43, 3, 0, 0, 0, 0), (.getfield 200, 3, 0, 1, 1, 0), (.iload_n 1, 1, 1, 0, 0, 0), (.baload, 1, 0, 0, 2, 0)] [(16, xc0 S), (17, xc1 S), (18, xc2 S)] (by decide +kernel) rfl (xall_cons rfl (xall_cons rfl (xall_cons rfl (xall_cons rfl (xall_cons o7 (xall_cons rfl (xall_cons o8 (xall_cons rfl (xall_cons rfl (xall_cons rfl (xall_cons o9 xall_nil))))))))))) (xSee_cons rfl (xne_cons (by decide) (xne_cons (by decide) (xne_nil _))) (xSee_cons rfl (xne_cons (by decide) (xne_nil _)) (xSee_cons rfl (xne_nil _) (xSee_nil _)))) rfl rfl ?_
          exact xRn.iret (by decide +kernel) rfl rfl (Or.inl ⟨_, _, _, rfl, rfl, h⟩)
        · have h := h.2 c6
          refine xRn.forget (xle_no (xle_no (xle_no xle_nil))) ?_
          exact t_T_spoil_34   S r h
    · have h := h.2 c4
      refine xRn.forget (xle_no (xle_no (xle_no xle_nil))) ?_
      exact t_T_spoil_15   S r h
/-! T_add -/
def w_T_add_10   (K : Int32 → XS → List AE → Prop) (KT : Nat → XS → List AE → Prop) (S : XS) (r : List AE) : Prop :=
  (bud r ∧ KT 7 S (r ++ [xO 7 []]))
set_option maxRecDepth 100000 in
theorem t_T_add_10 {G : XG} {l : Launch} {d : Nat} {K : Int32 → XS → List AE → Prop} {KT : Nat → XS → List AE → Prop} (S : XS) (r : List AE) (h : w_T_add_10 K KT S r) : xRn G l (d + 6) xm_T_add (qI K KT) 10 [.null, .null] [] (hL S r) := by
  obtain ⟨o1, h⟩ := h
  exact xRn.throwL (K := KT) (idx := 184) (ic := 186) (ci := 7) (pc1 := 13) (pc2 := 14) (pc3 := 17) (by decide +kernel) (by decide +kernel) (by decide +kernel) (by decide +kernel) rfl rfl rfl (by decide +kernel) (by decide) ha_T_186_7 (by decide +kernel) (by decide) (by omega) rfl o1 (fun _ _ h => Or.inr h) h
def w_T_add  (S : XS) (r : List AE) (p1 : Int32) (K : Int32 → XS → List AE → Prop) (KT : Nat → XS → List AE → Prop) : Prop :=
  ((p1 < 0 → (w_T_add_10 K KT S r)) ∧ (¬ p1 < 0 → ((p1 ≤ (127 : Int32) → ((¬ (gF S 101) = (120 : Int32) → (w_F_put (gF S 101) (gF S 102) (gA S 2) p1 (fun L6 B7 f8 => (K L6 (sA (sF (sF (sF S 4 0) 101 L6) 102 B7) 2 f8) r)))) ∧ ((gF S 101) = (120 : Int32) → (bud r ∧ KT 8 S (r ++ [xO 8 []]))))) ∧ (¬ p1 ≤ (127 : Int32) → (w_T_add_10 K KT S r)))))
set_option maxRecDepth 100000 in
theorem c_T_add {G : XG} {l : Launch} {d : Nat} (S : XS) (r : List AE) (p1 : Int32) {K : Int32 → XS → List AE → Prop} {KT : Nat → XS → List AE → Prop} (h : w_T_add  S r p1 K KT) : xCt G l (d + 6) xm_T_add [.ref 16, .int p1] (hL S r) (qI K KT) := by
  refine xCt.intro (by decide) (by decide) (List.forall_mem_cons.mpr ⟨rfl, (List.forall_mem_cons.mpr ⟨rfl, (fun _ h => by cases h)⟩)⟩) (Nat.le_of_ble_eq_true rfl) rfl ?_
  show xRn G l _ xm_T_add _ 0 [.ref 16, .int p1] [] (hL S r)
  refine xRn.blk (pc1 := 1) (ls1 := [.ref 16, .int p1]) (st1 := [.int p1]) (hp1 := (hL S r)) (ob := []) [(.iload_n 1, 1, 1, 0, 0, 0)] [] (by decide +kernel) rfl xall_nil (xSee_nil _) rfl rfl ?_
  refine xRn.if_lt (tgt := 10) (nx := 4) (off := 9) (by decide +kernel) (by decide) rfl (fun c2 => ?_) (fun c2 => ?_)
  · have h := h.1 c2
    refine xRn.forget (xle_no (xle_no xle_nil)) ?_
    exact t_T_add_10   S r h
  · have h := h.2 c2
    refine xRn.blk (pc1 := 7) (ls1 := [.ref 16, .int p1]) (st1 := [.int 127, .int p1]) (hp1 := (hL S r)) (ob := []) [(.iload_n 1, 1, 1, 0, 0, 0), (.bipush 127, 2, 0, 0, 0, 127)] [] (by decide +kernel) rfl xall_nil (xSee_nil _) rfl rfl ?_
    refine xRn.ic_le (tgt := 18) (nx := 10) (off := 11) (by decide +kernel) (by decide) rfl (fun c3 => ?_) (fun c3 => ?_)
    · have h := h.1 c3
      refine xRn.blk (pc1 := 27) (ls1 := [.ref 16, .int p1]) (st1 := [.int 120, .int (gF S 101)]) (hp1 := (hL S r)) (ob := [(16 : Nat) = 16, (17 : Nat) = 17]) [(.aload_n 0, 1, 0, 0, 0, 0), (.getfield 43, 3, 0, 0, 0, 0), (.getfield 193, 3, 1, 1, 1, 0), (.bipush 120, 2, 0, 0, 0, 120)] [(16, xc0 S), (17, xc1 S)] (by decide +kernel) rfl (xall_cons rfl (xall_cons rfl xall_nil)) (xSee_cons rfl (xne_cons (by decide) (xne_nil _)) (xSee_cons rfl (xne_nil _) (xSee_nil _))) rfl rfl ?_
      refine xRn.ic_ne (tgt := 38) (nx := 30) (off := 11) (by decide +kernel) (by decide) rfl (fun c4 => ?_) (fun c4 => ?_)
      · have h := h.1 c4
        refine xRn.blk (pc1 := 48) (ls1 := [.ref 16, .int p1]) (st1 := [.int p1, .ref 17]) (hp1 := (hL (sF S 4 0) r)) (ob := [(16 : Nat) = 16, (16 : Nat) = 16]) [(.aload_n 0, 1, 0, 0, 0, 0), (.iconst 0, 1, 0, 0, 0, 0), (.putfield 84, 3, 4, 0, 0, 0), (.aload_n 0, 1, 0, 0, 0, 0), (.getfield 43, 3, 0, 0, 0, 0), (.iload_n 1, 1, 1, 0, 0, 0)] [(16, xc0 S)] (by decide +kernel) rfl (xall_cons rfl (xall_cons rfl xall_nil)) (xSee_cons rfl (xne_nil _) (xSee_nil _)) rfl rfl ?_
        refine xRn.callV (al := [.int p1]) (st := []) (nx := 51) (by decide +kernel) lk_V_T_add_207_F_put_1_1 rfl rfl (xCt_eq rfl (c_F_put (d := d + 5) (xFv_17 (sF S 4 0) r) (gF S 101) (gF S 102) (gA S 2) p1 h)) rfl (Nat.le_of_ble_eq_true rfl) rfl rfl ?_ ?_
        · rintro _ _ ⟨L6, B7, f8, e9, rfl, h⟩
          cases e9
          show xRn G l _ _ _ 51 [.ref 16, .int p1] [] (hL (sA (sF (sF (sF S 4 0) 101 L6) 102 B7) 2 f8) r)
          refine xRn.blk (pc1 := 58) (ls1 := [.ref 16, .int p1]) (st1 := [.int L6]) (hp1 := (hL (sA (sF (sF (sF S 4 0) 101 L6) 102 B7) 2 f8) r)) (ob := [(16 : Nat) = 16, (17 : Nat) = 17]) [(.aload_n 0, 1, 0, 0, 0, 0), (.getfield 43, 3, 0, 0, 0, 0), (.getfield 193, 3, 1, 1, 1, 0)] [(16, xc0 (sA (sF (sF (sF S 4 0) 101 L6) 102 B7) 2 f8)), (17, xc1 (sA (sF (sF (sF S 4 0) 101 L6) 102 B7) 2 f8))] (by decide +kernel) rfl (xall_cons rfl (xall_cons rfl xall_nil)) (xSee_cons rfl (xne_cons (by decide) (xne_nil _)) (xSee_cons rfl (xne_nil _) (xSee_nil _))) rfl rfl ?_
          exact xRn.iret (by decide +kernel) rfl rfl (Or.inl ⟨_, _, _, rfl, rfl, h⟩)
        · rintro _ _ ⟨_, _, _, e9, _⟩
          cases e9
      · have h := h.2 c4
        obtain ⟨o9, h⟩ := h
        exact xRn.throwL (K := KT) (idx := 204) (ic := 206) (ci := 8) (pc1 := 33) (pc2 := 34) (pc3 := 37) (by decide +kernel) (by decide +kernel) (by decide +kernel) (by decide +kernel) rfl rfl rfl (by decide +kernel) (by decide) ha_T_206_8 (by decide +kernel) (by decide) (by omega) rfl o9 (fun _ _ h => Or.inr h) h
    · have h := h.2 c3
      refine xRn.forget (xle_no (xle_no xle_nil)) ?_
      exact t_T_add_10   S r h
