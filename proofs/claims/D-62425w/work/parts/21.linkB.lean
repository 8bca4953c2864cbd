theorem lk_IN_T_place_305_O_init_0 : xlkIN xm_T_place 305 xm_O_init 0 := by unfold xlkIN; decide +kernel
theorem lk_Math_T_above_160_Lib_Math_max_name_Lib_Math_max_code : xlkMath xm_T_above 160 Lib.Math.max.name Lib.Math.max.code := by unfold xlkMath; decide +kernel
theorem lk_U_T_inTurn_266 : xlkU xm_T_inTurn 266 := by unfold xlkU; decide +kernel
theorem lk_V_T_above_166_T_send_0_3 : xlkV xm_T_above 166 xm_T_send 0 3 := by unfold xlkV; decide +kernel
theorem lk_V_T_above_251_T_goOut_0_0 : xlkV xm_T_above 251 xm_T_goOut 0 0 := by unfold xlkV; decide +kernel
theorem lk_V_T_above_254_T_answer_0_2 : xlkV xm_T_above 254 xm_T_answer 0 2 := by unfold xlkV; decide +kernel
theorem lk_V_T_above_257_T_ask_0_0 : xlkV xm_T_above 257 xm_T_ask 0 0 := by unfold xlkV; decide +kernel
theorem lk_V_T_alter_296_T_isUsed_0_1 : xlkV xm_T_alter 296 xm_T_isUsed 0 1 := by unfold xlkV; decide +kernel
theorem lk_V_T_alter_302_T_refuse_0_1 : xlkV xm_T_alter 302 xm_T_refuse 0 1 := by unfold xlkV; decide +kernel
theorem lk_V_T_alter_309_T_use_0_1 : xlkV xm_T_alter 309 xm_T_use 0 1 := by unfold xlkV; decide +kernel
theorem lk_V_T_alter_312_T_tell_0_1 : xlkV xm_T_alter 312 xm_T_tell 0 1 := by unfold xlkV; decide +kernel
theorem lk_V_T_alter_316_T_find_0_1 : xlkV xm_T_alter 316 xm_T_find 0 1 := by unfold xlkV; decide +kernel
theorem lk_V_T_alter_320_O_open_4_0 : xlkV xm_T_alter 320 xm_O_open 4 0 := by unfold xlkV; decide +kernel
theorem lk_V_T_below_166_T_send_0_3 : xlkV xm_T_below 166 xm_T_send 0 3 := by unfold xlkV; decide +kernel
theorem lk_V_T_below_251_T_goOut_0_0 : xlkV xm_T_below 251 xm_T_goOut 0 0 := by unfold xlkV; decide +kernel
theorem lk_V_T_fill_312_T_tell_0_1 : xlkV xm_T_fill 312 xm_T_tell 0 1 := by unfold xlkV; decide +kernel
theorem lk_V_T_fill_316_T_find_0_1 : xlkV xm_T_fill 316 xm_T_find 0 1 := by unfold xlkV; decide +kernel
theorem lk_V_T_fill_320_O_open_4_0 : xlkV xm_T_fill 320 xm_O_open 4 0 := by unfold xlkV; decide +kernel
theorem lk_V_T_inTurn_166_T_send_0_3 : xlkV xm_T_inTurn 166 xm_T_send 0 3 := by unfold xlkV; decide +kernel
theorem lk_V_T_inTurn_234_T_moveTo_0_1 : xlkV xm_T_inTurn 234 xm_T_moveTo 0 1 := by unfold xlkV; decide +kernel
theorem lk_V_T_inTurn_251_T_goOut_0_0 : xlkV xm_T_inTurn 251 xm_T_goOut 0 0 := by unfold xlkV; decide +kernel
theorem lk_V_T_inTurn_254_T_answer_0_2 : xlkV xm_T_inTurn 254 xm_T_answer 0 2 := by unfold xlkV; decide +kernel
theorem lk_V_T_inTurn_260_Y_order_12_0 : xlkV xm_T_inTurn 260 xm_Y_order 12 0 := by unfold xlkV; decide +kernel
theorem lk_V_T_inTurn_270_T_place_0_1 : xlkV xm_T_inTurn 270 xm_T_place 0 1 := by unfold xlkV; decide +kernel
theorem lk_V_T_inTurn_273_T_alter_0_1 : xlkV xm_T_inTurn 273 xm_T_alter 0 1 := by unfold xlkV; decide +kernel
theorem lk_V_T_length_326_T_kept_0_1 : xlkV xm_T_length 326 xm_T_kept 0 1 := by unfold xlkV; decide +kernel
theorem lk_V_T_octet_326_T_kept_0_1 : xlkV xm_T_octet 326 xm_T_kept 0 1 := by unfold xlkV; decide +kernel
theorem lk_V_T_order_283_O_state_4_0 : xlkV xm_T_order 283 xm_O_state 4 0 := by unfold xlkV; decide +kernel
theorem lk_V_T_order_316_T_find_0_1 : xlkV xm_T_order 316 xm_T_find 0 1 := by unfold xlkV; decide +kernel
theorem lk_V_T_place_296_T_isUsed_0_1 : xlkV xm_T_place 296 xm_T_isUsed 0 1 := by unfold xlkV; decide +kernel
theorem lk_V_T_place_302_T_refuse_0_1 : xlkV xm_T_place 302 xm_T_refuse 0 1 := by unfold xlkV; decide +kernel
theorem lk_V_T_place_309_T_use_0_1 : xlkV xm_T_place 309 xm_T_use 0 1 := by unfold xlkV; decide +kernel
theorem lk_V_T_place_312_T_tell_0_1 : xlkV xm_T_place 312 xm_T_tell 0 1 := by unfold xlkV; decide +kernel
theorem lk_V_T_refuse_292_T_report_0_4 : xlkV xm_T_refuse 292 xm_T_report 0 4 := by unfold xlkV; decide +kernel
theorem lk_V_T_restart_251_T_goOut_0_0 : xlkV xm_T_restart 251 xm_T_goOut 0 0 := by unfold xlkV; decide +kernel
theorem lk_V_T_take_214_T_garbled_0_0 : xlkV xm_T_take 214 xm_T_garbled 0 0 := by unfold xlkV; decide +kernel
theorem lk_V_T_take_218_T_taken_0_1 : xlkV xm_T_take 218 xm_T_taken 0 1 := by unfold xlkV; decide +kernel
theorem lk_V_T_taken_166_T_send_0_3 : xlkV xm_T_taken 166 xm_T_send 0 3 := by unfold xlkV; decide +kernel
theorem lk_V_T_taken_234_T_moveTo_0_1 : xlkV xm_T_taken 234 xm_T_moveTo 0 1 := by unfold xlkV; decide +kernel
theorem lk_V_T_taken_238_T_below_0_1 : xlkV xm_T_taken 238 xm_T_below 0 1 := by unfold xlkV; decide +kernel
theorem lk_V_T_taken_241_T_above_0_1 : xlkV xm_T_taken 241 xm_T_above 0 1 := by unfold xlkV; decide +kernel
theorem lk_V_T_taken_245_T_inTurn_0_1 : xlkV xm_T_taken 245 xm_T_inTurn 0 1 := by unfold xlkV; decide +kernel
theorem lk_V_T_tell_283_O_state_4_0 : xlkV xm_T_tell 283 xm_O_state 4 0 := by unfold xlkV; decide +kernel
theorem lk_V_T_tell_292_T_report_0_4 : xlkV xm_T_tell 292 xm_T_report 0 4 := by unfold xlkV; decide +kernel
theorem lk_V_T_tick_166_T_send_0_3 : xlkV xm_T_tick 166 xm_T_send 0 3 := by unfold xlkV; decide +kernel
theorem lk_V_T_tick_251_T_goOut_0_0 : xlkV xm_T_tick 251 xm_T_goOut 0 0 := by unfold xlkV; decide +kernel
theorem lk_V_T_tick_257_T_ask_0_0 : xlkV xm_T_tick 257 xm_T_ask 0 0 := by unfold xlkV; decide +kernel
theorem ha_T_325_10 : ∀ a ∈ Bundle.ownAtoms0 (xR 0) 325 (xR 10) xnames, (a ∈ lw_tbl ∧ xgw a = true) ∨ a ∈ xTw := by decide +kernel
/-! T_isUsed -/
def w_T_isUsed_2   (K : Int32 → XS → List AE → Prop) : Nat → XS → List AE → Int32 → Int32 → Prop
  | 0, _, _, _, _ => False
  | n + 1, S, r, v1, v2 => (((gF S 18) ≤ v2 → (K 0 S r)) ∧ (¬ (gF S 18) ≤ v2 → (vp_in v2 520) ∧ ((¬ ((gA S 7) v2.toNatClampNeg) = v1 → (w_T_isUsed_2 K n S r v1 (v2 + 1))) ∧ (((gA S 7) v2.toNatClampNeg) = v1 → (K 1 S r)))))
set_option maxRecDepth 100000 in
theorem t_T_isUsed_2 {G : XG} {l : Launch} {d : Nat} {K : Int32 → XS → List AE → Prop} : ∀ (n : Nat) (S : XS) (r : List AE) (v1 : Int32) (v2 : Int32), w_T_isUsed_2 K n S r v1 v2 → xRn G l (d + 0) xm_T_isUsed (pI K) 2 [.ref 16, .int v1, .int v2] [] (hL S r) := by
  intro n
  induction n with
  | zero => intro S r v1 v2 h; exact h.elim
  | succ n ih =>
    intro S r v1 v2 h
    refine xRn.blk (pc1 := 7) (ls1 := [.ref 16, .int v1, .int v2]) (st1 := [.int (gF S 18), .int v2]) (hp1 := (hL S r)) (ob := [(16 : Nat) = 16]) [(.iload_n 2, 1, 2, 0, 0, 0), (.aload_n 0, 1, 0, 0, 0, 0), (.getfield 276, 3, 18, 0, 0, 0)] [(16, xc0 S)] (by decide +kernel) rfl (xall_cons rfl xall_nil) (xSee_cons rfl (xne_nil _) (xSee_nil _)) rfl rfl ?_
    refine xRn.ic_ge (tgt := 28) (nx := 10) (off := 21) (by decide +kernel) (by decide) rfl (fun c1 => ?_) (fun c1 => ?_)
    · have h := h.1 c1
      refine xRn.blk (pc1 := 29) (ls1 := [.ref 16, .int v1, .int v2]) (st1 := [.int 0]) (hp1 := (hL S r)) (ob := []) [(.iconst 0, 1, 0, 0, 0, 0)] [] (by decide +kernel) rfl xall_nil (xSee_nil _) rfl rfl ?_
      exact xRn.iret (by decide +kernel) rfl rfl ⟨_, _, _, rfl, rfl, h⟩
    · have h := h.2 c1
      obtain ⟨o2, h⟩ := h
      refine xRn.blk (pc1 := 17) (ls1 := [.ref 16, .int v1, .int v2]) (st1 := [.int v1, .int ((gA S 7) v2.toNatClampNeg)]) (hp1 := (hL S r)) (ob := [(16 : Nat) = 16, (23 : Nat) = 23, vp_in v2 520]) [(.aload_n 0, 1, 0, 0, 0, 0), (.getfield 80, 3, 19, 0, 0, 0), (.iload_n 2, 1, 2, 0, 0, 0), (.iaload, 1, 0, 0, 1, 0), (.iload_n 1, 1, 1, 0, 0, 0)] [(16, xc0 S), (23, xc7 S)] (by decide +kernel) rfl (xall_cons rfl (xall_cons rfl (xall_cons o2 xall_nil))) (xSee_cons rfl (xne_cons (by decide) (xne_nil _)) (xSee_cons rfl (xne_nil _) (xSee_nil _))) rfl rfl ?_
      refine xRn.ic_ne (tgt := 22) (nx := 20) (off := 5) (by decide +kernel) (by decide) rfl (fun c3 => ?_) (fun c3 => ?_)
      · have h := h.1 c3
        refine xRn.blk (pc1 := 25) (ls1 := [.ref 16, .int v1, .int (v2 + 1)]) (st1 := []) (hp1 := (hL S r)) (ob := []) [(.iinc 2 1, 3, 2, 0, 0, 1)] [] (by decide +kernel) rfl xall_nil (xSee_nil _) rfl rfl ?_
        refine xRn.goto (tgt := 2) (off := (-23)) (by decide +kernel) (by decide) ?_
        refine xRn.forget (xle_eq (xle_eq (xle_eq xle_nil))) ?_
        exact ih S r v1 (v2 + 1) h
      · have h := h.2 c3
        refine xRn.blk (pc1 := 21) (ls1 := [.ref 16, .int v1, .int v2]) (st1 := [.int 1]) (hp1 := (hL S r)) (ob := []) [(.iconst 1, 1, 0, 0, 0, 1)] [] (by decide +kernel) rfl xall_nil (xSee_nil _) rfl rfl ?_
        exact xRn.iret (by decide +kernel) rfl rfl ⟨_, _, _, rfl, rfl, h⟩
def w_T_isUsed  (S : XS) (r : List AE) (p1 : Int32) (K : Int32 → XS → List AE → Prop) : Prop :=
  (∃ j, w_T_isUsed_2 K j S r p1 0)
set_option maxRecDepth 100000 in
theorem c_T_isUsed {G : XG} {l : Launch} {d : Nat} (S : XS) (r : List AE) (p1 : Int32) {K : Int32 → XS → List AE → Prop} (h : w_T_isUsed  S r p1 K) : xCt G l (d + 0) xm_T_isUsed [.ref 16, .int p1] (hL S r) (pI K) := by
  refine xCt.intro (by decide) (by decide) (List.forall_mem_cons.mpr ⟨rfl, (List.forall_mem_cons.mpr ⟨rfl, (fun _ h => by cases h)⟩)⟩) (Nat.le_of_ble_eq_true rfl) rfl ?_
  show xRn G l _ xm_T_isUsed _ 0 [.ref 16, .int p1, .null] [] (hL S r)
  refine xRn.blk (pc1 := 2) (ls1 := [.ref 16, .int p1, .int 0]) (st1 := []) (hp1 := (hL S r)) (ob := []) [(.iconst 0, 1, 0, 0, 0, 0), (.istore_n 2, 1, 2, 0, 0, 0)] [] (by decide +kernel) rfl xall_nil (xSee_nil _) rfl rfl ?_
  refine xRn.forget (xle_eq (xle_eq (xle_eq xle_nil))) ?_
  obtain ⟨n4, h⟩ := h
  exact t_T_isUsed_2   n4 S r p1 0 h
/-! T_use -/
def w_T_use  (S : XS) (r : List AE) (p1 : Int32) (K : XS → List AE → Prop) : Prop :=
  (vp_in (gF S 18) 520) ∧ (K (sF (sA S 7 (upd (gA S 7) (gF S 18).toNatClampNeg p1)) 18 ((gF S 18) + 1)) r)
set_option maxRecDepth 100000 in
theorem c_T_use {G : XG} {l : Launch} {d : Nat} (S : XS) (r : List AE) (p1 : Int32) {K : XS → List AE → Prop} (h : w_T_use  S r p1 K) : xCt G l (d + 0) xm_T_use [.ref 16, .int p1] (hL S r) (pV K) := by
  refine xCt.intro (by decide) (by decide) (List.forall_mem_cons.mpr ⟨rfl, (List.forall_mem_cons.mpr ⟨rfl, (fun _ h => by cases h)⟩)⟩) (Nat.le_of_ble_eq_true rfl) rfl ?_
  show xRn G l _ xm_T_use _ 0 [.ref 16, .int p1] [] (hL S r)
  obtain ⟨o1, h⟩ := h
  refine xRn.blk (pc1 := 20) (ls1 := [.ref 16, .int p1]) (st1 := []) (hp1 := (hL (sF (sA S 7 (upd (gA S 7) (gF S 18).toNatClampNeg p1)) 18 ((gF S 18) + 1)) r)) (ob := [(16 : Nat) = 16, (16 : Nat) = 16, (23 : Nat) = 23, vp_in (gF S 18) 520, (16 : Nat) = 16, (16 : Nat) = 16]) [(.aload_n 0, 1, 0, 0, 0, 0), (.getfield 80, 3, 19, 0, 0, 0), (.aload_n 0, 1, 0, 0, 0, 0), (.getfield 276, 3, 18, 0, 0, 0), (.iload_n 1, 1, 1, 0, 0, 0), (.iastore, 1, 0, 0, 1, 0), (.aload_n 0, 1, 0, 0, 0, 0), (.dup, 1, 0, 0, 0, 0), (.getfield 276, 3, 18, 0, 0, 0), (.iconst 1, 1, 0, 0, 0, 1), (.iadd, 1, 0, 0, 0, 0), (.putfield 276, 3, 18, 0, 0, 0)] [(16, xc0 S), (23, xc7 S)] (by decide +kernel) rfl (xall_cons rfl (xall_cons rfl (xall_cons rfl (xall_cons o1 (xall_cons rfl (xall_cons rfl xall_nil)))))) (xSee_cons rfl (xne_cons (by decide) (xne_nil _)) (xSee_cons rfl (xne_nil _) (xSee_nil _))) rfl rfl ?_
  exact xRn.vret (by decide +kernel) rfl ⟨_, _, rfl, rfl, h⟩
/-! T_find -/
def w_T_find_2   (K : Nat → XS → List AE → Prop) : Nat → XS → List AE → Int32 → Int32 → Prop
  | 0, _, _, _, _ => False
  | n + 1, S, r, v1, v2 => (((gF S 16) ≤ v2 → (K 0 S r)) ∧ (¬ (gF S 16) ≤ v2 → (vp_in v2 40) ∧ (∃ (i4 : Int32) (s5 : Int32) (q6 : Int32) (f7 : Int32) (c8 : Int32), rl r ((gB S 6) v2.toNatClampNeg) = some (xO 4 [.int i4, .int s5, .int q6, .int f7, .int c8]) ∧ ((¬ i4 = v1 → (w_T_find_2 K n S r v1 (v2 + 1))) ∧ (i4 = v1 → (vp_in v2 40) ∧ (K ((gB S 6) v2.toNatClampNeg) S r))))))
set_option maxRecDepth 100000 in
theorem t_T_find_2 {G : XG} {l : Launch} {d : Nat} {K : Nat → XS → List AE → Prop} : ∀ (n : Nat) (S : XS) (r : List AE) (v1 : Int32) (v2 : Int32), w_T_find_2 K n S r v1 v2 → xRn G l (d + 0) xm_T_find (pR K) 2 [.ref 16, .int v1, .int v2] [] (hL S r) := by
  intro n
  induction n with
  | zero => intro S r v1 v2 h; exact h.elim
  | succ n ih =>
    intro S r v1 v2 h
    refine xRn.blk (pc1 := 7) (ls1 := [.ref 16, .int v1, .int v2]) (st1 := [.int (gF S 16), .int v2]) (hp1 := (hL S r)) (ob := [(16 : Nat) = 16]) [(.iload_n 2, 1, 2, 0, 0, 0), (.aload_n 0, 1, 0, 0, 0, 0), (.getfield 279, 3, 16, 0, 0, 0)] [(16, xc0 S)] (by decide +kernel) rfl (xall_cons rfl xall_nil) (xSee_cons rfl (xne_nil _) (xSee_nil _)) rfl rfl ?_
    refine xRn.ic_ge (tgt := 36) (nx := 10) (off := 29) (by decide +kernel) (by decide) rfl (fun c1 => ?_) (fun c1 => ?_)
    · have h := h.1 c1
      refine xRn.blk (pc1 := 37) (ls1 := [.ref 16, .int v1, .int v2]) (st1 := [.ref 0]) (hp1 := (hL S r)) (ob := []) [(.aconst_null, 1, 0, 0, 0, 0)] [] (by decide +kernel) rfl xall_nil (xSee_nil _) rfl rfl ?_
      exact xRn.aret (by decide +kernel) rfl ⟨_, _, _, rfl, rfl, h⟩
    · have h := h.2 c1
      obtain ⟨o2, h⟩ := h
      refine xRn.blk (pc1 := 16) (ls1 := [.ref 16, .int v1, .int v2]) (st1 := [.ref ((gB S 6) v2.toNatClampNeg)]) (hp1 := (hL S r)) (ob := [(16 : Nat) = 16, (22 : Nat) = 22, vp_in v2 40]) [(.aload_n 0, 1, 0, 0, 0, 0), (.getfield 76, 3, 15, 0, 0, 0), (.iload_n 2, 1, 2, 0, 0, 0), (.aaload, 1, 0, 0, 1, 0)] [(16, xc0 S), (22, xc6 S)] (by decide +kernel) rfl (xall_cons rfl (xall_cons rfl (xall_cons o2 xall_nil))) (xSee_cons rfl (xne_cons (by decide) (xne_nil _)) (xSee_cons rfl (xne_nil _) (xSee_nil _))) rfl rfl ?_
      obtain ⟨i4, s5, q6, f7, c8, hd3, h⟩ := h
      refine xRn.blk (pc1 := 20) (ls1 := [.ref 16, .int v1, .int v2]) (st1 := [.int v1, .int i4]) (hp1 := (hL S r)) (ob := [(((gB S 6) v2.toNatClampNeg) : Nat) = ((gB S 6) v2.toNatClampNeg)]) [(.getfield 282, 3, 0, 4, 0, 0), (.iload_n 1, 1, 1, 0, 0, 0)] [(((gB S 6) v2.toNatClampNeg), xO 4 [.int i4, .int s5, .int q6, .int f7, .int c8])] (by decide +kernel) rfl (xall_cons rfl xall_nil) (xSee_cons (rl_at hd3) (xne_nil _) (xSee_nil _)) rfl rfl ?_
      refine xRn.ic_ne (tgt := 30) (nx := 23) (off := 10) (by decide +kernel) (by decide) rfl (fun c9 => ?_) (fun c9 => ?_)
      · have h := h.1 c9
        refine xRn.blk (pc1 := 33) (ls1 := [.ref 16, .int v1, .int (v2 + 1)]) (st1 := []) (hp1 := (hL S r)) (ob := []) [(.iinc 2 1, 3, 2, 0, 0, 1)] [] (by decide +kernel) rfl xall_nil (xSee_nil _) rfl rfl ?_
        refine xRn.goto (tgt := 2) (off := (-31)) (by decide +kernel) (by decide) ?_
        refine xRn.forget (xle_eq (xle_eq (xle_eq xle_nil))) ?_
        exact ih S r v1 (v2 + 1) h
      · have h := h.2 c9
        obtain ⟨o10, h⟩ := h
        refine xRn.blk (pc1 := 29) (ls1 := [.ref 16, .int v1, .int v2]) (st1 := [.ref ((gB S 6) v2.toNatClampNeg)]) (hp1 := (hL S r)) (ob := [(16 : Nat) = 16, (22 : Nat) = 22, vp_in v2 40]) [(.aload_n 0, 1, 0, 0, 0, 0), (.getfield 76, 3, 15, 0, 0, 0), (.iload_n 2, 1, 2, 0, 0, 0), (.aaload, 1, 0, 0, 1, 0)] [(16, xc0 S), (22, xc6 S)] (by decide +kernel) rfl (xall_cons rfl (xall_cons rfl (xall_cons o10 xall_nil))) (xSee_cons rfl (xne_cons (by decide) (xne_nil _)) (xSee_cons rfl (xne_nil _) (xSee_nil _))) rfl rfl ?_
        exact xRn.aret (by decide +kernel) rfl ⟨_, _, _, rfl, rfl, h⟩
def w_T_find  (S : XS) (r : List AE) (p1 : Int32) (K : Nat → XS → List AE → Prop) : Prop :=
  (∃ j, w_T_find_2 K j S r p1 0)
set_option maxRecDepth 100000 in
theorem c_T_find {G : XG} {l : Launch} {d : Nat} (S : XS) (r : List AE) (p1 : Int32) {K : Nat → XS → List AE → Prop} (h : w_T_find  S r p1 K) : xCt G l (d + 0) xm_T_find [.ref 16, .int p1] (hL S r) (pR K) := by
  refine xCt.intro (by decide) (by decide) (List.forall_mem_cons.mpr ⟨rfl, (List.forall_mem_cons.mpr ⟨rfl, (fun _ h => by cases h)⟩)⟩) (Nat.le_of_ble_eq_true rfl) rfl ?_
  show xRn G l _ xm_T_find _ 0 [.ref 16, .int p1, .null] [] (hL S r)
  refine xRn.blk (pc1 := 2) (ls1 := [.ref 16, .int p1, .int 0]) (st1 := []) (hp1 := (hL S r)) (ob := []) [(.iconst 0, 1, 0, 0, 0, 0), (.istore_n 2, 1, 2, 0, 0, 0)] [] (by decide +kernel) rfl xall_nil (xSee_nil _) rfl rfl ?_
  refine xRn.forget (xle_eq (xle_eq (xle_eq xle_nil))) ?_
  obtain ⟨n11, h⟩ := h
  exact t_T_find_2   n11 S r p1 0 h
/-! T_tell -/
def w_T_tell  (S : XS) (r : List AE) (p1 : Nat) (K : XS → List AE → Prop) : Prop :=
  (∃ (i2 : Int32) (s3 : Int32) (q4 : Int32) (f5 : Int32) (c6 : Int32), rl r p1 = some (xO 4 [.int i2, .int s3, .int q4, .int f5, .int c6]) ∧ (w_O_state i2 s3 q4 f5 c6 (fun x7 => ((c6 = 0 → (w_T_report S r i2 (((48 + x7).toUInt32 % 65536).toInt32) f5 (q4 - f5) (fun S10 r11 => (K S10 r11)))) ∧ (¬ c6 = 0 → (w_T_report S r i2 (((48 + x7).toUInt32 % 65536).toInt32) f5 0 (fun S13 r14 => (K S13 r14))))))))
set_option maxRecDepth 100000 in
theorem c_T_tell {G : XG} {l : Launch} {d : Nat} (S : XS) (r : List AE) (p1 : Nat) {K : XS → List AE → Prop} (h : w_T_tell  S r p1 K) : xCt G l (d + 6) xm_T_tell [.ref 16, .ref p1] (hL S r) (pV K) := by
  refine xCt.intro (by decide) (by decide) (List.forall_mem_cons.mpr ⟨rfl, (List.forall_mem_cons.mpr ⟨rfl, (fun _ h => by cases h)⟩)⟩) (Nat.le_of_ble_eq_true rfl) rfl ?_
  show xRn G l _ xm_T_tell _ 0 [.ref 16, .ref p1] [] (hL S r)
  refine xRn.blk (pc1 := 2) (ls1 := [.ref 16, .ref p1]) (st1 := [.ref p1, .ref 16]) (hp1 := (hL S r)) (ob := []) [(.aload_n 0, 1, 0, 0, 0, 0), (.aload_n 1, 1, 1, 0, 0, 0)] [] (by decide +kernel) rfl xall_nil (xSee_nil _) rfl rfl ?_
  obtain ⟨i2, s3, q4, f5, c6, hd1, h⟩ := h
  refine xRn.blk (pc1 := 8) (ls1 := [.ref 16, .ref p1]) (st1 := [.ref p1, .int 48, .int i2, .ref 16]) (hp1 := (hL S r)) (ob := [(p1 : Nat) = p1]) [(.getfield 282, 3, 0, 4, 0, 0), (.bipush 48, 2, 0, 0, 0, 48), (.aload_n 1, 1, 1, 0, 0, 0)] [(p1, xO 4 [.int i2, .int s3, .int q4, .int f5, .int c6])] (by decide +kernel) rfl (xall_cons rfl xall_nil) (xSee_cons (rl_at hd1) (xne_nil _) (xSee_nil _)) rfl rfl ?_
  refine xRn.callV (al := []) (st := [.int 48, .int i2, .ref 16]) (nx := 11) (by decide +kernel) lk_V_T_tell_283_O_state_4_0 (rl_at hd1) rfl (c_O_state (d := d + 4) _ _ (rl_at hd1) h) rfl (Nat.le_of_ble_eq_true rfl) rfl rfl ?_ ?_
  · rintro _ _ ⟨x7, e9, e8, h⟩
    cases e9
    rw [e8]
    show xRn G l _ _ _ 11 [.ref 16, .ref p1] [.int x7, .int 48, .int i2, .ref 16] (hL S r)
    refine xRn.blk (pc1 := 21) (ls1 := [.ref 16, .ref p1]) (st1 := [.int c6, .int f5, .int (((48 + x7).toUInt32 % 65536).toInt32), .int i2, .ref 16]) (hp1 := (hL S r)) (ob := [(p1 : Nat) = p1, (p1 : Nat) = p1]) [(.iadd, 1, 0, 0, 0, 0), (.i2c, 1, 0, 0, 0, 0), (.aload_n 1, 1, 1, 0, 0, 0), (.getfield 285, 3, 3, 4, 0, 0), (.aload_n 1, 1, 1, 0, 0, 0), (.getfield 286, 3, 4, 4, 0, 0)] [(p1, xO 4 [.int i2, .int s3, .int q4, .int f5, .int c6])] (by decide +kernel) rfl (xall_cons rfl (xall_cons rfl xall_nil)) (xSee_cons (rl_at hd1) (xne_nil _) (xSee_nil _)) rfl rfl ?_
    refine xRn.if_eq (tgt := 28) (nx := 24) (off := 7) (by decide +kernel) (by decide) rfl (fun c8 => ?_) (fun c8 => ?_)
    · have h := h.1 c8
      refine xRn.blk (pc1 := 37) (ls1 := [.ref 16, .ref p1]) (st1 := [.int (q4 - f5), .int f5, .int (((48 + x7).toUInt32 % 65536).toInt32), .int i2, .ref 16]) (hp1 := (hL S r)) (ob := [(p1 : Nat) = p1, (p1 : Nat) = p1]) [(.aload_n 1, 1, 1, 0, 0, 0), (.getfield 289, 3, 2, 4, 0, 0), (.aload_n 1, 1, 1, 0, 0, 0), (.getfield 285, 3, 3, 4, 0, 0), (.isub, 1, 0, 0, 0, 0)] [(p1, xO 4 [.int i2, .int s3, .int q4, .int f5, .int c6])] (by decide +kernel) rfl (xall_cons rfl (xall_cons rfl xall_nil)) (xSee_cons (rl_at hd1) (xne_nil _) (xSee_nil _)) rfl rfl ?_
      refine xRn.callV (al := [.int i2, .int (((48 + x7).toUInt32 % 65536).toInt32), .int f5, .int (q4 - f5)]) (st := []) (nx := 40) (by decide +kernel) lk_V_T_tell_292_T_report_0_4 rfl rfl (c_T_report (d := d + 0) S r i2 (((48 + x7).toUInt32 % 65536).toInt32) f5 (q4 - f5) h) rfl (Nat.le_of_ble_eq_true rfl) rfl rfl ?_ ?_
      · rintro _ _ ⟨S10, r11, e9, rfl, h⟩
        cases e9
        show xRn G l _ _ _ 40 [.ref 16, .ref p1] [] (hL S10 r11)
        exact xRn.vret (by decide +kernel) rfl ⟨_, _, rfl, rfl, h⟩
      · rintro _ _ ⟨_, _, e9, _⟩
        cases e9
    · have h := h.2 c8
      refine xRn.blk (pc1 := 25) (ls1 := [.ref 16, .ref p1]) (st1 := [.int 0, .int f5, .int (((48 + x7).toUInt32 % 65536).toInt32), .int i2, .ref 16]) (hp1 := (hL S r)) (ob := []) [(.iconst 0, 1, 0, 0, 0, 0)] [] (by decide +kernel) rfl xall_nil (xSee_nil _) rfl rfl ?_
      refine xRn.goto (tgt := 37) (off := 12) (by decide +kernel) (by decide) ?_
      refine xRn.callV (al := [.int i2, .int (((48 + x7).toUInt32 % 65536).toInt32), .int f5, .int 0]) (st := []) (nx := 40) (by decide +kernel) lk_V_T_tell_292_T_report_0_4 rfl rfl (c_T_report (d := d + 0) S r i2 (((48 + x7).toUInt32 % 65536).toInt32) f5 0 h) rfl (Nat.le_of_ble_eq_true rfl) rfl rfl ?_ ?_
      · rintro _ _ ⟨S13, r14, e9, rfl, h⟩
        cases e9
        show xRn G l _ _ _ 40 [.ref 16, .ref p1] [] (hL S13 r14)
        exact xRn.vret (by decide +kernel) rfl ⟨_, _, rfl, rfl, h⟩
      · rintro _ _ ⟨_, _, e9, _⟩
        cases e9
  · rintro _ _ ⟨_, e9, _⟩
    cases e9
/-! T_refuse -/
def w_T_refuse  (S : XS) (r : List AE) (K : XS → List AE → Prop) : Prop :=
  (w_T_report S r (gF S 303) 56 0 0 (fun S2 r3 => (K S2 r3)))
set_option maxRecDepth 100000 in
theorem c_T_refuse {G : XG} {l : Launch} {d : Nat} (S : XS) (r : List AE) {K : XS → List AE → Prop} (h : w_T_refuse  S r K) : xCt G l (d + 6) xm_T_refuse [.ref 16, .ref 19] (hL S r) (pV K) := by
  refine xCt.intro (by decide) (by decide) (List.forall_mem_cons.mpr ⟨rfl, (List.forall_mem_cons.mpr ⟨rfl, (fun _ h => by cases h)⟩)⟩) (Nat.le_of_ble_eq_true rfl) rfl ?_
  show xRn G l _ xm_T_refuse _ 0 [.ref 16, .ref 19] [] (hL S r)
  refine xRn.blk (pc1 := 9) (ls1 := [.ref 16, .ref 19]) (st1 := [.int 0, .int 0, .int 56, .int (gF S 303), .ref 16]) (hp1 := (hL S r)) (ob := [(19 : Nat) = 19]) [(.aload_n 0, 1, 0, 0, 0, 0), (.aload_n 1, 1, 1, 0, 0, 0), (.getfield 231, 3, 3, 2, 0, 0), (.bipush 56, 2, 0, 0, 0, 56), (.iconst 0, 1, 0, 0, 0, 0), (.iconst 0, 1, 0, 0, 0, 0)] [(19, xc3 S)] (by decide +kernel) rfl (xall_cons rfl xall_nil) (xSee_cons rfl (xne_nil _) (xSee_nil _)) rfl rfl ?_
  refine xRn.callV (al := [.int (gF S 303), .int 56, .int 0, .int 0]) (st := []) (nx := 12) (by decide +kernel) lk_V_T_refuse_292_T_report_0_4 rfl rfl (c_T_report (d := d + 0) S r (gF S 303) 56 0 0 h) rfl (Nat.le_of_ble_eq_true rfl) rfl rfl ?_ ?_
  · rintro _ _ ⟨S2, r3, e9, rfl, h⟩
    cases e9
    show xRn G l _ _ _ 12 [.ref 16, .ref 19] [] (hL S2 r3)
    exact xRn.vret (by decide +kernel) rfl ⟨_, _, rfl, rfl, h⟩
  · rintro _ _ ⟨_, _, e9, _⟩
    cases e9
/-! T_place -/
def w_T_place_50   (K : XS → List AE → Prop) (S : XS) (r : List AE) : Prop :=
  (w_T_refuse S r  (fun S2 r3 => (K S2 r3)))
set_option maxRecDepth 100000 in
theorem t_T_place_50 {G : XG} {l : Launch} {d : Nat} {K : XS → List AE → Prop} (S : XS) (r : List AE) (h : w_T_place_50 K S r) : xRn G l (d + 7) xm_T_place (pV K) 50 [.ref 16, .ref 19, .null] [] (hL S r) := by
  refine xRn.blk (pc1 := 52) (ls1 := [.ref 16, .ref 19, .null]) (st1 := [.ref 19, .ref 16]) (hp1 := (hL S r)) (ob := []) [(.aload_n 0, 1, 0, 0, 0, 0), (.aload_n 1, 1, 1, 0, 0, 0)] [] (by decide +kernel) rfl xall_nil (xSee_nil _) rfl rfl ?_
  refine xRn.callV (al := [.ref 19]) (st := []) (nx := 55) (by decide +kernel) lk_V_T_place_302_T_refuse_0_1 rfl rfl (c_T_refuse (d := d + 0) S r  h) rfl (Nat.le_of_ble_eq_true rfl) rfl rfl ?_ ?_
  · rintro _ _ ⟨S2, r3, e9, rfl, h⟩
    cases e9
    show xRn G l _ _ _ 55 [.ref 16, .ref 19, .null] [] (hL S2 r3)
    exact xRn.vret (by decide +kernel) rfl ⟨_, _, rfl, rfl, h⟩
  · rintro _ _ ⟨_, _, e9, _⟩
    cases e9
def w_T_place  (S : XS) (r : List AE) (K : XS → List AE → Prop) : Prop :=
  (((gF S 303) = 0 → (w_T_place_50 K S r)) ∧ (¬ (gF S 303) = 0 → (w_T_isUsed S r (gF S 303) (fun x5 S6 r7 => ((¬ x5 = 0 → (w_T_place_50 K S6 r7)) ∧ (x5 = 0 → (((gF S6 304) < (1 : Int32) → (w_T_place_50 K S6 r7)) ∧ (¬ (gF S6 304) < (1 : Int32) → (((2 : Int32) < (gF S6 304) → (w_T_place_50 K S6 r7)) ∧ (¬ (2 : Int32) < (gF S6 304) → (((gF S6 305) = 0 → (w_T_place_50 K S6 r7)) ∧ (¬ (gF S6 305) = 0 → ((¬ (gF S6 16) = (40 : Int32) → (bud r7 ∧ (vp_in (gF S6 16) 40) ∧ (w_T_use (sF (sB S6 6 (va_up (gB S6 6) (gF S6 16).toNatClampNeg (40 + (r7).length))) 16 ((gF S6 16) + 1)) (rset (r7 ++ [xO 4 [.int 0, .int 0, .int 0, .int 0, .int 0]]) (40 + (r7).length) (xO 4 [.int (gF S6 303), .int (gF S6 304), .int (gF S6 305), .int 0, .int 0])) (gF S6 303) (fun S18 r19 => (w_T_tell S18 r19 (40 + (r7).length) (fun S21 r22 => (K S21 r22))))))) ∧ ((gF S6 16) = (40 : Int32) → (w_T_place_50 K S6 r7)))))))))))))))
set_option maxRecDepth 100000 in
theorem c_T_place {G : XG} {l : Launch} {d : Nat} (S : XS) (r : List AE) {K : XS → List AE → Prop} (h : w_T_place  S r K) : xCt G l (d + 7) xm_T_place [.ref 16, .ref 19] (hL S r) (pV K) := by
  refine xCt.intro (by decide) (by decide) (List.forall_mem_cons.mpr ⟨rfl, (List.forall_mem_cons.mpr ⟨rfl, (fun _ h => by cases h)⟩)⟩) (Nat.le_of_ble_eq_true rfl) rfl ?_
  show xRn G l _ xm_T_place _ 0 [.ref 16, .ref 19, .null] [] (hL S r)
  refine xRn.blk (pc1 := 4) (ls1 := [.ref 16, .ref 19, .null]) (st1 := [.int (gF S 303)]) (hp1 := (hL S r)) (ob := [(19 : Nat) = 19]) [(.aload_n 1, 1, 1, 0, 0, 0), (.getfield 231, 3, 3, 2, 0, 0)] [(19, xc3 S)] (by decide +kernel) rfl (xall_cons rfl xall_nil) (xSee_cons rfl (xne_nil _) (xSee_nil _)) rfl rfl ?_
  refine xRn.if_eq (tgt := 50) (nx := 7) (off := 46) (by decide +kernel) (by decide) rfl (fun c4 => ?_) (fun c4 => ?_)
  · have h := h.1 c4
    refine xRn.forget (xle_eq (xle_eq (xle_eq xle_nil))) ?_
    exact t_T_place_50   S r h
  · have h := h.2 c4
    refine xRn.blk (pc1 := 12) (ls1 := [.ref 16, .ref 19, .null]) (st1 := [.int (gF S 303), .ref 16]) (hp1 := (hL S r)) (ob := [(19 : Nat) = 19]) [(.aload_n 0, 1, 0, 0, 0, 0), (.aload_n 1, 1, 1, 0, 0, 0), (.getfield 231, 3, 3, 2, 0, 0)] [(19, xc3 S)] (by decide +kernel) rfl (xall_cons rfl xall_nil) (xSee_cons rfl (xne_nil _) (xSee_nil _)) rfl rfl ?_
    refine xRn.callV (al := [.int (gF S 303)]) (st := []) (nx := 15) (by decide +kernel) lk_V_T_place_296_T_isUsed_0_1 rfl rfl (c_T_isUsed (d := d + 6) S r (gF S 303) h) rfl (Nat.le_of_ble_eq_true rfl) rfl rfl ?_ ?_
    · rintro _ _ ⟨x5, S6, r7, e9, rfl, h⟩
      cases e9
      show xRn G l _ _ _ 15 [.ref 16, .ref 19, .null] [.int x5] (hL S6 r7)
      refine xRn.if_ne (tgt := 50) (nx := 18) (off := 35) (by decide +kernel) (by decide) rfl (fun c8 => ?_) (fun c8 => ?_)
      · have h := h.1 c8
        refine xRn.forget (xle_eq (xle_eq (xle_eq xle_nil))) ?_
        exact t_T_place_50   S6 r7 h
      · have h := h.2 c8
        refine xRn.blk (pc1 := 23) (ls1 := [.ref 16, .ref 19, .null]) (st1 := [.int 1, .int (gF S6 304)]) (hp1 := (hL S6 r7)) (ob := [(19 : Nat) = 19]) [(.aload_n 1, 1, 1, 0, 0, 0), (.getfield 228, 3, 4, 2, 0, 0), (.iconst 1, 1, 0, 0, 0, 1)] [(19, xc3 S6)] (by decide +kernel) rfl (xall_cons rfl xall_nil) (xSee_cons rfl (xne_nil _) (xSee_nil _)) rfl rfl ?_
        refine xRn.ic_lt (tgt := 50) (nx := 26) (off := 27) (by decide +kernel) (by decide) rfl (fun c9 => ?_) (fun c9 => ?_)
        · have h := h.1 c9
          refine xRn.forget (xle_eq (xle_eq (xle_eq xle_nil))) ?_
          exact t_T_place_50   S6 r7 h
        · have h := h.2 c9
          refine xRn.blk (pc1 := 31) (ls1 := [.ref 16, .ref 19, .null]) (st1 := [.int 2, .int (gF S6 304)]) (hp1 := (hL S6 r7)) (ob := [(19 : Nat) = 19]) [(.aload_n 1, 1, 1, 0, 0, 0), (.getfield 228, 3, 4, 2, 0, 0), (.iconst 2, 1, 0, 0, 0, 2)] [(19, xc3 S6)] (by decide +kernel) rfl (xall_cons rfl xall_nil) (xSee_cons rfl (xne_nil _) (xSee_nil _)) rfl rfl ?_
          refine xRn.ic_gt (tgt := 50) (nx := 34) (off := 19) (by decide +kernel) (by decide) rfl (fun c10 => ?_) (fun c10 => ?_)
          · have h := h.1 c10
            refine xRn.forget (xle_eq (xle_eq (xle_eq xle_nil))) ?_
            exact t_T_place_50   S6 r7 h
          · have h := h.2 c10
            refine xRn.blk (pc1 := 38) (ls1 := [.ref 16, .ref 19, .null]) (st1 := [.int (gF S6 305)]) (hp1 := (hL S6 r7)) (ob := [(19 : Nat) = 19]) [(.aload_n 1, 1, 1, 0, 0, 0), (.getfield 299, 3, 5, 2, 0, 0)] [(19, xc3 S6)] (by decide +kernel) rfl (xall_cons rfl xall_nil) (xSee_cons rfl (xne_nil _) (xSee_nil _)) rfl rfl ?_
            refine xRn.if_eq (tgt := 50) (nx := 41) (off := 12) (by decide +kernel) (by decide) rfl (fun c11 => ?_) (fun c11 => ?_)
            · have h := h.1 c11
              refine xRn.forget (xle_eq (xle_eq (xle_eq xle_nil))) ?_
              exact t_T_place_50   S6 r7 h
            · have h := h.2 c11
              refine xRn.blk (pc1 := 47) (ls1 := [.ref 16, .ref 19, .null]) (st1 := [.int 40, .int (gF S6 16)]) (hp1 := (hL S6 r7)) (ob := [(16 : Nat) = 16]) [(.aload_n 0, 1, 0, 0, 0, 0), (.getfield 279, 3, 16, 0, 0, 0), (.bipush 40, 2, 0, 0, 0, 40)] [(16, xc0 S6)] (by decide +kernel) rfl (xall_cons rfl xall_nil) (xSee_cons rfl (xne_nil _) (xSee_nil _)) rfl rfl ?_
              refine xRn.ic_ne (tgt := 56) (nx := 50) (off := 9) (by decide +kernel) (by decide) rfl (fun c12 => ?_) (fun c12 => ?_)
              · have h := h.1 c12
                obtain ⟨o13, h⟩ := h
                refine xRn.new (idx := 74) (ci := 4) (n := (40 + (r7).length)) (fs := [.int 0, .int 0, .int 0, .int 0, .int 0]) (nx := 59) (hp1 := hL S6 (r7 ++ [xO 4 [.int 0, .int 0, .int 0, .int 0, .int 0]])) (by decide +kernel) (by decide +kernel) (by decide) rfl (by rw [hL_len]; omega) rfl (bud_1 o13) (bud_2 o13 (by decide)) rfl ?_
                have hd14 := rl_new r7 (xO 4 [.int 0, .int 0, .int 0, .int 0, .int 0])
                refine xRn.blk (pc1 := 60) (ls1 := [.ref 16, .ref 19, .null]) (st1 := [.ref (40 + (r7).length), .ref (40 + (r7).length)]) (hp1 := (hL S6 (r7 ++ [xO 4 [.int 0, .int 0, .int 0, .int 0, .int 0]]))) (ob := []) [(.dup, 1, 0, 0, 0, 0)] [] (by decide +kernel) rfl xall_nil (xSee_nil _) rfl rfl ?_
                refine xRn.callIN (al := []) (st := [.ref (40 + (r7).length)]) (nx := 63) (by decide +kernel) lk_IN_T_place_305_O_init_0 (by omega) rfl (c_O_init (d := d + 5) (by omega) _) rfl (Nat.le_of_ble_eq_true rfl) rfl rfl ?_ ?_
                · rintro _ _ ⟨e9, e8⟩
                  cases e9
                  rw [e8]
                  show xRn G l _ _ _ 63 [.ref 16, .ref 19, .null] [.ref (40 + (r7).length)] (hL S6 (r7 ++ [xO 4 [.int 0, .int 0, .int 0, .int 0, .int 0]]))
                  refine xRn.blk (pc1 := 97) (ls1 := [.ref 16, .ref 19, .ref (40 + (r7).length)]) (st1 := [.ref (40 + (r7).length), .int (gF S6 16), .ref 22]) (hp1 := (hL S6 (rset (r7 ++ [xO 4 [.int 0, .int 0, .int 0, .int 0, .int 0]]) (40 + (r7).length) (xO 4 [.int (gF S6 303), .int (gF S6 304), .int (gF S6 305), .int 0, .int 0])))) (ob := [(19 : Nat) = 19, ((40 + (r7).length) : Nat) = (40 + (r7).length), (19 : Nat) = 19, ((40 + (r7).length) : Nat) = (40 + (r7).length), (19 : Nat) = 19, ((40 + (r7).length) : Nat) = (40 + (r7).length), (16 : Nat) = 16, (16 : Nat) = 16]) [(.astore_n 2, 1, 2, 0, 0, 0), (.aload_n 2, 1, 2, 0, 0, 0), (.aload_n 1, 1, 1, 0, 0, 0), (.getfield 231, 3, 3, 2, 0, 0), (.putfield 282, 3, 0, 4, 1, 0), (.aload_n 2, 1, 2, 0, 0, 0), (.aload_n 1, 1, 1, 0, 0, 0), (.getfield 228, 3, 4, 2, 0, 0), (.putfield 306, 3, 1, 4, 1, 0), (.aload_n 2, 1, 2, 0, 0, 0), (.aload_n 1, 1, 1, 0, 0, 0), (.getfield 299, 3, 5, 2, 0, 0), (.putfield 289, 3, 2, 4, 1, 0), (.aload_n 0, 1, 0, 0, 0, 0), (.getfield 76, 3, 15, 0, 2, 0), (.aload_n 0, 1, 0, 0, 0, 0), (.getfield 279, 3, 16, 0, 2, 0), (.aload_n 2, 1, 2, 0, 0, 0)] [(19, xc3 S6), ((40 + (r7).length), xO 4 [.int 0, .int 0, .int 0, .int 0, .int 0]), (16, xc0 S6)] (by decide +kernel) rfl (xall_cons rfl (xall_cons rfl (xall_cons rfl (xall_cons rfl (xall_cons rfl (xall_cons rfl (xall_cons rfl (xall_cons rfl xall_nil)))))))) (xSee_cons rfl (xne_cons (by have h40 := (rl_ge hd14).1; omega) (xne_cons (by decide) (xne_nil _))) (xSee_cons (rl_at hd14) (xne_cons (by have h40 := (rl_ge hd14).1; omega) (xne_nil _)) (xSee_cons rfl (xne_nil _) (xSee_nil _)))) rfl (by simp only [xputs, List.nil_append, List.cons_append, List.append_nil, List.foldl_cons, List.foldl_nil, List.set_cons_zero, List.set_cons_succ, hL_put _ (rl_ge hd14).1, rset_rset]) ?_
                  have hd15 : rl (rset (r7 ++ [xO 4 [.int 0, .int 0, .int 0, .int 0, .int 0]]) (40 + (r7).length) (xO 4 [.int (gF S6 303), .int (gF S6 304), .int (gF S6 305), .int 0, .int 0])) (40 + (r7).length) = some (xO 4 [.int (gF S6 303), .int (gF S6 304), .int (gF S6 305), .int 0, .int 0]) := rl_rset hd14 _
                  obtain ⟨o16, h⟩ := h
                  refine xRn.blk (pc1 := 113) (ls1 := [.ref 16, .ref 19, .ref (40 + (r7).length)]) (st1 := [.int (gF S6 303), .ref 16]) (hp1 := (hL (sF (sB S6 6 (va_up (gB S6 6) (gF S6 16).toNatClampNeg (40 + (r7).length))) 16 ((gF S6 16) + 1)) (rset (r7 ++ [xO 4 [.int 0, .int 0, .int 0, .int 0, .int 0]]) (40 + (r7).length) (xO 4 [.int (gF S6 303), .int (gF S6 304), .int (gF S6 305), .int 0, .int 0])))) (ob := [(22 : Nat) = 22, ((40 + (r7).length) : Nat) = (40 + (r7).length), vp_in (gF S6 16) 40, (16 : Nat) = 16, (16 : Nat) = 16, (19 : Nat) = 19]) [(.aastore, 1, 0, 1, 0, 0), (.aload_n 0, 1, 0, 0, 0, 0), (.dup, 1, 0, 0, 0, 0), (.getfield 279, 3, 16, 0, 2, 0), (.iconst 1, 1, 0, 0, 0, 1), (.iadd, 1, 0, 0, 0, 0), (.putfield 279, 3, 16, 0, 2, 0), (.aload_n 0, 1, 0, 0, 0, 0), (.aload_n 1, 1, 1, 0, 0, 0), (.getfield 231, 3, 3, 2, 3, 0)] [(22, xc6 S6), ((40 + (r7).length), xO 4 [.int (gF S6 303), .int (gF S6 304), .int (gF S6 305), .int 0, .int 0]), (16, xc0 S6), (19, xc3 S6)] (by decide +kernel) rfl (xall_cons rfl (xall_cons rfl (xall_cons o16 (xall_cons rfl (xall_cons rfl (xall_cons rfl xall_nil)))))) (xSee_cons rfl (xne_cons (by have h40 := (rl_ge hd15).1; omega) (xne_cons (by decide) (xne_cons (by decide) (xne_nil _)))) (xSee_cons (rl_at hd15) (xne_cons (by have h40 := (rl_ge hd15).1; omega) (xne_cons (by have h40 := (rl_ge hd15).1; omega) (xne_nil _))) (xSee_cons rfl (xne_cons (by decide) (xne_nil _)) (xSee_cons rfl (xne_nil _) (xSee_nil _))))) rfl rfl ?_
                  refine xRn.callV (al := [.int (gF S6 303)]) (st := []) (nx := 116) (by decide +kernel) lk_V_T_place_309_T_use_0_1 rfl rfl (c_T_use (d := d + 6) (sF (sB S6 6 (va_up (gB S6 6) (gF S6 16).toNatClampNeg (40 + (r7).length))) 16 ((gF S6 16) + 1)) (rset (r7 ++ [xO 4 [.int 0, .int 0, .int 0, .int 0, .int 0]]) (40 + (r7).length) (xO 4 [.int (gF S6 303), .int (gF S6 304), .int (gF S6 305), .int 0, .int 0])) (gF S6 303) h) rfl (Nat.le_of_ble_eq_true rfl) rfl rfl ?_ ?_
                  · rintro _ _ ⟨S18, r19, e9, rfl, h⟩
                    cases e9
                    show xRn G l _ _ _ 116 [.ref 16, .ref 19, .ref (40 + (r7).length)] [] (hL S18 r19)
                    refine xRn.blk (pc1 := 118) (ls1 := [.ref 16, .ref 19, .ref (40 + (r7).length)]) (st1 := [.ref (40 + (r7).length), .ref 16]) (hp1 := (hL S18 r19)) (ob := []) [(.aload_n 0, 1, 0, 0, 0, 0), (.aload_n 2, 1, 2, 0, 0, 0)] [] (by decide +kernel) rfl xall_nil (xSee_nil _) rfl rfl ?_
                    refine xRn.callV (al := [.ref (40 + (r7).length)]) (st := []) (nx := 121) (by decide +kernel) lk_V_T_place_312_T_tell_0_1 rfl rfl (c_T_tell (d := d + 0) S18 r19 (40 + (r7).length) h) rfl (Nat.le_of_ble_eq_true rfl) rfl rfl ?_ ?_
                    · rintro _ _ ⟨S21, r22, e9, rfl, h⟩
                      cases e9
                      show xRn G l _ _ _ 121 [.ref 16, .ref 19, .ref (40 + (r7).length)] [] (hL S21 r22)
                      exact xRn.vret (by decide +kernel) rfl ⟨_, _, rfl, rfl, h⟩
                    · rintro _ _ ⟨_, _, e9, _⟩
                      cases e9
                  · rintro _ _ ⟨_, _, e9, _⟩
                    cases e9
                · rintro _ _ ⟨e9, _⟩
                  cases e9
              · have h := h.2 c12
                refine xRn.forget (xle_eq (xle_eq (xle_eq xle_nil))) ?_
                exact t_T_place_50   S6 r7 h
    · rintro _ _ ⟨_, _, _, e9, _⟩
      cases e9
/-! T_alter -/
def w_T_alter_111   (K : XS → List AE → Prop) (S : XS) (r : List AE) (v2 : Nat) : Prop :=
  (w_T_tell S r v2 (fun S2 r3 => (K S2 r3)))
set_option maxRecDepth 100000 in
theorem t_T_alter_111 {G : XG} {l : Launch} {d : Nat} {K : XS → List AE → Prop} (S : XS) (r : List AE) (v2 : Nat) (h : w_T_alter_111 K S r v2) : xRn G l (d + 7) xm_T_alter (pV K) 111 [.ref 16, .null, .ref v2, .null] [] (hL S r) := by
  refine xRn.blk (pc1 := 113) (ls1 := [.ref 16, .null, .ref v2, .null]) (st1 := [.ref v2, .ref 16]) (hp1 := (hL S r)) (ob := []) [(.aload_n 0, 1, 0, 0, 0, 0), (.aload_n 2, 1, 2, 0, 0, 0)] [] (by decide +kernel) rfl xall_nil (xSee_nil _) rfl rfl ?_
  refine xRn.callV (al := [.ref v2]) (st := []) (nx := 116) (by decide +kernel) lk_V_T_alter_312_T_tell_0_1 rfl rfl (c_T_tell (d := d + 0) S r v2 h) rfl (Nat.le_of_ble_eq_true rfl) rfl rfl ?_ ?_
  · rintro _ _ ⟨S2, r3, e9, rfl, h⟩
    cases e9
    show xRn G l _ _ _ 116 [.ref 16, .null, .ref v2, .null] [] (hL S2 r3)
    exact xRn.vret (by decide +kernel) rfl ⟨_, _, rfl, rfl, h⟩
  · rintro _ _ ⟨_, _, e9, _⟩
    cases e9
def w_T_alter_75   (K : XS → List AE → Prop) (S : XS) (r : List AE) (v2 : Nat) (v3 : Int32) : Prop :=
  (w_T_use S r (gF S 303) (fun S5 r6 => (∃ (i8 : Int32) (s9 : Int32) (q10 : Int32) (f11 : Int32) (c12 : Int32), rl r6 v2 = some (xO 4 [.int i8, .int s9, .int q10, .int f11, .int c12]) ∧ ((v3 = 0 → (w_T_alter_111 K S5 (rset r6 v2 (xO 4 [.int (gF S5 303), .int s9, .int q10, .int f11, .int 1])) v2)) ∧ (¬ v3 = 0 → (w_T_alter_111 K S5 (rset r6 v2 (xO 4 [.int (gF S5 303), .int s9, .int (gF S5 305), .int f11, .int c12])) v2))))))
set_option maxRecDepth 100000 in
theorem t_T_alter_75 {G : XG} {l : Launch} {d : Nat} {K : XS → List AE → Prop} (S : XS) (r : List AE) (v2 : Nat) (v3 : Int32) (h : w_T_alter_75 K S r v2 v3) : xRn G l (d + 7) xm_T_alter (pV K) 75 [.ref 16, .ref 19, .ref v2, .int v3] [] (hL S r) := by
  refine xRn.blk (pc1 := 80) (ls1 := [.ref 16, .ref 19, .ref v2, .int v3]) (st1 := [.int (gF S 303), .ref 16]) (hp1 := (hL S r)) (ob := [(19 : Nat) = 19]) [(.aload_n 0, 1, 0, 0, 0, 0), (.aload_n 1, 1, 1, 0, 0, 0), (.getfield 231, 3, 3, 2, 0, 0)] [(19, xc3 S)] (by decide +kernel) rfl (xall_cons rfl xall_nil) (xSee_cons rfl (xne_nil _) (xSee_nil _)) rfl rfl ?_
  refine xRn.callV (al := [.int (gF S 303)]) (st := []) (nx := 83) (by decide +kernel) lk_V_T_alter_309_T_use_0_1 rfl rfl (c_T_use (d := d + 6) S r (gF S 303) h) rfl (Nat.le_of_ble_eq_true rfl) rfl rfl ?_ ?_
  · rintro _ _ ⟨S5, r6, e9, rfl, h⟩
    cases e9
    show xRn G l _ _ _ 83 [.ref 16, .ref 19, .ref v2, .int v3] [] (hL S5 r6)
    refine xRn.blk (pc1 := 88) (ls1 := [.ref 16, .ref 19, .ref v2, .int v3]) (st1 := [.int (gF S5 303), .ref v2]) (hp1 := (hL S5 r6)) (ob := [(19 : Nat) = 19]) [(.aload_n 2, 1, 2, 0, 0, 0), (.aload_n 1, 1, 1, 0, 0, 0), (.getfield 231, 3, 3, 2, 0, 0)] [(19, xc3 S5)] (by decide +kernel) rfl (xall_cons rfl xall_nil) (xSee_cons rfl (xne_nil _) (xSee_nil _)) rfl rfl ?_
    obtain ⟨i8, s9, q10, f11, c12, hd7, h⟩ := h
    refine xRn.blk (pc1 := 92) (ls1 := [.ref 16, .ref 19, .ref v2, .int v3]) (st1 := [.int v3]) (hp1 := (hL S5 (rset r6 v2 (xO 4 [.int (gF S5 303), .int s9, .int q10, .int f11, .int c12])))) (ob := [(v2 : Nat) = v2]) [(.putfield 282, 3, 0, 4, 0, 0), (.iload_n 3, 1, 3, 0, 0, 0)] [(v2, xO 4 [.int i8, .int s9, .int q10, .int f11, .int c12])] (by decide +kernel) rfl (xall_cons rfl xall_nil) (xSee_cons (rl_at hd7) (xne_nil _) (xSee_nil _)) rfl (by simp only [xputs, List.nil_append, List.cons_append, List.append_nil, List.foldl_cons, List.foldl_nil, List.set_cons_zero, List.set_cons_succ, hL_put _ (rl_ge hd7).1, rset_rset]) ?_
    have hd13 : rl (rset r6 v2 (xO 4 [.int (gF S5 303), .int s9, .int q10, .int f11, .int c12])) v2 = some (xO 4 [.int (gF S5 303), .int s9, .int q10, .int f11, .int c12]) := rl_rset hd7 _
    refine xRn.if_eq (tgt := 106) (nx := 95) (off := 14) (by decide +kernel) (by decide) rfl (fun c14 => ?_) (fun c14 => ?_)
    · have h := h.1 c14
      refine xRn.blk (pc1 := 111) (ls1 := [.ref 16, .ref 19, .ref v2, .int v3]) (st1 := []) (hp1 := (hL S5 (rset r6 v2 (xO 4 [.int (gF S5 303), .int s9, .int q10, .int f11, .int 1])))) (ob := [(v2 : Nat) = v2, narrow .boolean (.int 1) = .int 1 ∧ fits .boolean (.int 1) = true]) [(.aload_n 2, 1, 2, 0, 0, 0), (.iconst 1, 1, 0, 0, 0, 1), (.putfield 286, 3, 4, 4, 0, 0)] [(v2, xO 4 [.int (gF S5 303), .int s9, .int q10, .int f11, .int c12])] (by decide +kernel) rfl (xall_cons rfl (xall_cons (⟨rfl, rfl⟩) xall_nil)) (xSee_cons (rl_at hd13) (xne_nil _) (xSee_nil _)) rfl (by simp only [xputs, List.nil_append, List.cons_append, List.append_nil, List.foldl_cons, List.foldl_nil, List.set_cons_zero, List.set_cons_succ, hL_put _ (rl_ge hd13).1, rset_rset]) ?_
      have hd15 : rl (rset r6 v2 (xO 4 [.int (gF S5 303), .int s9, .int q10, .int f11, .int 1])) v2 = some (xO 4 [.int (gF S5 303), .int s9, .int q10, .int f11, .int 1]) := rl_rset2 hd13 _
      refine xRn.forget (xle_eq (xle_no (xle_eq (xle_no xle_nil)))) ?_
      exact t_T_alter_111   S5 (rset r6 v2 (xO 4 [.int (gF S5 303), .int s9, .int q10, .int f11, .int 1])) v2 h
    · have h := h.2 c14
      refine xRn.blk (pc1 := 103) (ls1 := [.ref 16, .ref 19, .ref v2, .int v3]) (st1 := []) (hp1 := (hL S5 (rset r6 v2 (xO 4 [.int (gF S5 303), .int s9, .int (gF S5 305), .int f11, .int c12])))) (ob := [(19 : Nat) = 19, (v2 : Nat) = v2]) [(.aload_n 2, 1, 2, 0, 0, 0), (.aload_n 1, 1, 1, 0, 0, 0), (.getfield 299, 3, 5, 2, 0, 0), (.putfield 289, 3, 2, 4, 1, 0)] [(19, xc3 S5), (v2, xO 4 [.int (gF S5 303), .int s9, .int q10, .int f11, .int c12])] (by decide +kernel) rfl (xall_cons rfl (xall_cons rfl xall_nil)) (xSee_cons rfl (xne_cons (by have h40 := (rl_ge hd13).1; omega) (xne_nil _)) (xSee_cons (rl_at hd13) (xne_nil _) (xSee_nil _))) rfl (by simp only [xputs, List.nil_append, List.cons_append, List.append_nil, List.foldl_cons, List.foldl_nil, List.set_cons_zero, List.set_cons_succ, hL_put _ (rl_ge hd13).1, rset_rset]) ?_
      have hd16 : rl (rset r6 v2 (xO 4 [.int (gF S5 303), .int s9, .int (gF S5 305), .int f11, .int c12])) v2 = some (xO 4 [.int (gF S5 303), .int s9, .int (gF S5 305), .int f11, .int c12]) := rl_rset2 hd13 _
      refine xRn.goto (tgt := 111) (off := 8) (by decide +kernel) (by decide) ?_
      refine xRn.forget (xle_eq (xle_no (xle_eq (xle_no xle_nil)))) ?_
      exact t_T_alter_111   S5 (rset r6 v2 (xO 4 [.int (gF S5 303), .int s9, .int (gF S5 305), .int f11, .int c12])) v2 h
  · rintro _ _ ⟨_, _, e9, _⟩
    cases e9
def w_T_alter_69   (K : XS → List AE → Prop) (S : XS) (r : List AE) : Prop :=
  (w_T_refuse S r  (fun S18 r19 => (K S18 r19)))
set_option maxRecDepth 100000 in
theorem t_T_alter_69 {G : XG} {l : Launch} {d : Nat} {K : XS → List AE → Prop} (S : XS) (r : List AE) (h : w_T_alter_69 K S r) : xRn G l (d + 7) xm_T_alter (pV K) 69 [.ref 16, .ref 19, .null, .null] [] (hL S r) := by
  refine xRn.blk (pc1 := 71) (ls1 := [.ref 16, .ref 19, .null, .null]) (st1 := [.ref 19, .ref 16]) (hp1 := (hL S r)) (ob := []) [(.aload_n 0, 1, 0, 0, 0, 0), (.aload_n 1, 1, 1, 0, 0, 0)] [] (by decide +kernel) rfl xall_nil (xSee_nil _) rfl rfl ?_
  refine xRn.callV (al := [.ref 19]) (st := []) (nx := 74) (by decide +kernel) lk_V_T_alter_302_T_refuse_0_1 rfl rfl (c_T_refuse (d := d + 0) S r  h) rfl (Nat.le_of_ble_eq_true rfl) rfl rfl ?_ ?_
  · rintro _ _ ⟨S18, r19, e9, rfl, h⟩
    cases e9
    show xRn G l _ _ _ 74 [.ref 16, .ref 19, .null, .null] [] (hL S18 r19)
    exact xRn.vret (by decide +kernel) rfl ⟨_, _, rfl, rfl, h⟩
  · rintro _ _ ⟨_, _, e9, _⟩
    cases e9
def w_T_alter_25   (K : XS → List AE → Prop) (S : XS) (r : List AE) (v2 : Nat) (v3 : Int32) : Prop :=
  (((gF S 303) = 0 → (w_T_alter_69 K S r)) ∧ (¬ (gF S 303) = 0 → (w_T_isUsed S r (gF S 303) (fun x21 S22 r23 => ((¬ x21 = 0 → (w_T_alter_69 K S22 r23)) ∧ (x21 = 0 → ((v2 = 0 → (w_T_alter_69 K S22 r23)) ∧ (¬ v2 = 0 → (∃ (i27 : Int32) (s28 : Int32) (q29 : Int32) (f30 : Int32) (c31 : Int32), rl r23 v2 = some (xO 4 [.int i27, .int s28, .int q29, .int f30, .int c31]) ∧ (w_O_open i27 s28 q29 f30 c31 (fun x32 => ((x32 = 0 → (w_T_alter_69 K S22 r23)) ∧ (¬ x32 = 0 → ((v3 = 0 → (w_T_alter_75 K S22 r23 v2 v3)) ∧ (¬ v3 = 0 → ((f30 < (gF S22 305) → (w_T_alter_75 K S22 r23 v2 v3)) ∧ (¬ f30 < (gF S22 305) → (w_T_alter_69 K S22 r23))))))))))))))))))
set_option maxRecDepth 100000 in
theorem t_T_alter_25 {G : XG} {l : Launch} {d : Nat} {K : XS → List AE → Prop} (S : XS) (r : List AE) (v2 : Nat) (v3 : Int32) (h : w_T_alter_25 K S r v2 v3) : xRn G l (d + 7) xm_T_alter (pV K) 25 [.ref 16, .ref 19, .ref v2, .int v3] [] (hL S r) := by
  refine xRn.blk (pc1 := 29) (ls1 := [.ref 16, .ref 19, .ref v2, .int v3]) (st1 := [.int (gF S 303)]) (hp1 := (hL S r)) (ob := [(19 : Nat) = 19]) [(.aload_n 1, 1, 1, 0, 0, 0), (.getfield 231, 3, 3, 2, 0, 0)] [(19, xc3 S)] (by decide +kernel) rfl (xall_cons rfl xall_nil) (xSee_cons rfl (xne_nil _) (xSee_nil _)) rfl rfl ?_
  refine xRn.if_eq (tgt := 69) (nx := 32) (off := 40) (by decide +kernel) (by decide) rfl (fun c20 => ?_) (fun c20 => ?_)
  · have h := h.1 c20
    refine xRn.forget (xle_eq (xle_eq (xle_no (xle_no xle_nil)))) ?_
    exact t_T_alter_69   S r h
  · have h := h.2 c20
    refine xRn.blk (pc1 := 37) (ls1 := [.ref 16, .ref 19, .ref v2, .int v3]) (st1 := [.int (gF S 303), .ref 16]) (hp1 := (hL S r)) (ob := [(19 : Nat) = 19]) [(.aload_n 0, 1, 0, 0, 0, 0), (.aload_n 1, 1, 1, 0, 0, 0), (.getfield 231, 3, 3, 2, 0, 0)] [(19, xc3 S)] (by decide +kernel) rfl (xall_cons rfl xall_nil) (xSee_cons rfl (xne_nil _) (xSee_nil _)) rfl rfl ?_
    refine xRn.callV (al := [.int (gF S 303)]) (st := []) (nx := 40) (by decide +kernel) lk_V_T_alter_296_T_isUsed_0_1 rfl rfl (c_T_isUsed (d := d + 6) S r (gF S 303) h) rfl (Nat.le_of_ble_eq_true rfl) rfl rfl ?_ ?_
    · rintro _ _ ⟨x21, S22, r23, e9, rfl, h⟩
      cases e9
      show xRn G l _ _ _ 40 [.ref 16, .ref 19, .ref v2, .int v3] [.int x21] (hL S22 r23)
      refine xRn.if_ne (tgt := 69) (nx := 43) (off := 29) (by decide +kernel) (by decide) rfl (fun c24 => ?_) (fun c24 => ?_)
      · have h := h.1 c24
        refine xRn.forget (xle_eq (xle_eq (xle_no (xle_no xle_nil)))) ?_
        exact t_T_alter_69   S22 r23 h
      · have h := h.2 c24
        refine xRn.blk (pc1 := 44) (ls1 := [.ref 16, .ref 19, .ref v2, .int v3]) (st1 := [.ref v2]) (hp1 := (hL S22 r23)) (ob := []) [(.aload_n 2, 1, 2, 0, 0, 0)] [] (by decide +kernel) rfl xall_nil (xSee_nil _) rfl rfl ?_
        refine xRn.ifnull (tgt := 69) (nx := 47) (off := 25) (by decide +kernel) (by decide) rfl (fun c25 => ?_) (fun c25 => ?_)
        · have h := h.1 c25
          refine xRn.forget (xle_eq (xle_eq (xle_no (xle_no xle_nil)))) ?_
          exact t_T_alter_69   S22 r23 h
        · have h := h.2 c25
          refine xRn.blk (pc1 := 48) (ls1 := [.ref 16, .ref 19, .ref v2, .int v3]) (st1 := [.ref v2]) (hp1 := (hL S22 r23)) (ob := []) [(.aload_n 2, 1, 2, 0, 0, 0)] [] (by decide +kernel) rfl xall_nil (xSee_nil _) rfl rfl ?_
          obtain ⟨i27, s28, q29, f30, c31, hd26, h⟩ := h
          refine xRn.callV (al := []) (st := []) (nx := 51) (by decide +kernel) lk_V_T_alter_320_O_open_4_0 (rl_at hd26) rfl (c_O_open (d := d + 6) _ _ (rl_at hd26) h) rfl (Nat.le_of_ble_eq_true rfl) rfl rfl ?_ ?_
          · rintro _ _ ⟨x32, e9, e8, h⟩
            cases e9
            rw [e8]
            show xRn G l _ _ _ 51 [.ref 16, .ref 19, .ref v2, .int v3] [.int x32] (hL S22 r23)
            refine xRn.if_eq (tgt := 69) (nx := 54) (off := 18) (by decide +kernel) (by decide) rfl (fun c33 => ?_) (fun c33 => ?_)
            · have h := h.1 c33
              refine xRn.forget (xle_eq (xle_eq (xle_no (xle_no xle_nil)))) ?_
              exact t_T_alter_69   S22 r23 h
            · have h := h.2 c33
              refine xRn.blk (pc1 := 55) (ls1 := [.ref 16, .ref 19, .ref v2, .int v3]) (st1 := [.int v3]) (hp1 := (hL S22 r23)) (ob := []) [(.iload_n 3, 1, 3, 0, 0, 0)] [] (by decide +kernel) rfl xall_nil (xSee_nil _) rfl rfl ?_
              refine xRn.if_eq (tgt := 75) (nx := 58) (off := 20) (by decide +kernel) (by decide) rfl (fun c34 => ?_) (fun c34 => ?_)
              · have h := h.1 c34
                refine xRn.forget (xle_eq (xle_eq (xle_eq (xle_eq xle_nil)))) ?_
                exact t_T_alter_75   S22 r23 v2 v3 h
              · have h := h.2 c34
                refine xRn.blk (pc1 := 66) (ls1 := [.ref 16, .ref 19, .ref v2, .int v3]) (st1 := [.int f30, .int (gF S22 305)]) (hp1 := (hL S22 r23)) (ob := [(19 : Nat) = 19, (v2 : Nat) = v2]) [(.aload_n 1, 1, 1, 0, 0, 0), (.getfield 299, 3, 5, 2, 0, 0), (.aload_n 2, 1, 2, 0, 0, 0), (.getfield 285, 3, 3, 4, 1, 0)] [(19, xc3 S22), (v2, xO 4 [.int i27, .int s28, .int q29, .int f30, .int c31])] (by decide +kernel) rfl (xall_cons rfl (xall_cons rfl xall_nil)) (xSee_cons rfl (xne_cons (by have h40 := (rl_ge hd26).1; omega) (xne_nil _)) (xSee_cons (rl_at hd26) (xne_nil _) (xSee_nil _))) rfl rfl ?_
                refine xRn.ic_gt (tgt := 75) (nx := 69) (off := 9) (by decide +kernel) (by decide) rfl (fun c35 => ?_) (fun c35 => ?_)
                · have h := h.1 c35
                  refine xRn.forget (xle_eq (xle_eq (xle_eq (xle_eq xle_nil)))) ?_
                  exact t_T_alter_75   S22 r23 v2 v3 h
                · have h := h.2 c35
                  refine xRn.forget (xle_eq (xle_eq (xle_no (xle_no xle_nil)))) ?_
                  exact t_T_alter_69   S22 r23 h
          · rintro _ _ ⟨_, e9, _⟩
            cases e9
    · rintro _ _ ⟨_, _, _, e9, _⟩
      cases e9
def w_T_alter  (S : XS) (r : List AE) (K : XS → List AE → Prop) : Prop :=
  (w_T_find S r (gF S 304) (fun x36 S37 r38 => ((gR S37 300) ≤ 10) ∧ ((¬ (gR S37 300) = 9 → (w_T_alter_25 K S37 r38 x36 0)) ∧ ((gR S37 300) = 9 → (w_T_alter_25 K S37 r38 x36 1)))))
set_option maxRecDepth 100000 in
theorem c_T_alter {G : XG} {l : Launch} {d : Nat} (S : XS) (r : List AE) {K : XS → List AE → Prop} (h : w_T_alter  S r K) : xCt G l (d + 7) xm_T_alter [.ref 16, .ref 19] (hL S r) (pV K) := by
  refine xCt.intro (by decide) (by decide) (List.forall_mem_cons.mpr ⟨rfl, (List.forall_mem_cons.mpr ⟨rfl, (fun _ h => by cases h)⟩)⟩) (Nat.le_of_ble_eq_true rfl) rfl ?_
  show xRn G l _ xm_T_alter _ 0 [.ref 16, .ref 19, .null, .null] [] (hL S r)
  refine xRn.blk (pc1 := 5) (ls1 := [.ref 16, .ref 19, .null, .null]) (st1 := [.int (gF S 304), .ref 16]) (hp1 := (hL S r)) (ob := [(19 : Nat) = 19]) [(.aload_n 0, 1, 0, 0, 0, 0), (.aload_n 1, 1, 1, 0, 0, 0), (.getfield 228, 3, 4, 2, 0, 0)] [(19, xc3 S)] (by decide +kernel) rfl (xall_cons rfl xall_nil) (xSee_cons rfl (xne_nil _) (xSee_nil _)) rfl rfl ?_
  refine xRn.callV (al := [.int (gF S 304)]) (st := []) (nx := 8) (by decide +kernel) lk_V_T_alter_316_T_find_0_1 rfl rfl (c_T_find (d := d + 6) S r (gF S 304) h) rfl (Nat.le_of_ble_eq_true rfl) rfl rfl ?_ ?_
  · rintro _ _ ⟨x36, S37, r38, e9, rfl, h⟩
    cases e9
    show xRn G l _ _ _ 8 [.ref 16, .ref 19, .null, .null] [.ref x36] (hL S37 r38)
    refine xRn.blk (pc1 := 16) (ls1 := [.ref 16, .ref 19, .ref x36, .null]) (st1 := [.ref 9, .ref (gR S37 300)]) (hp1 := (hL S37 r38)) (ob := [(19 : Nat) = 19]) [(.astore_n 2, 1, 2, 0, 0, 0), (.aload_n 1, 1, 1, 0, 0, 0), (.getfield 222, 3, 0, 2, 0, 0), (.getstatic 28, 3, 8, 0, 0, 0)] [(19, xc3 S37)] (by decide +kernel) rfl (xall_cons rfl xall_nil) (xSee_cons rfl (xne_nil _) (xSee_nil _)) rfl rfl ?_
    obtain ⟨o39, h⟩ := h
    refine xRn.ac_ne (tgt := 23) (nx := 19) (off := 7) (by decide +kernel) (by decide) rfl o39 (by decide) (fun c40 => ?_) (fun c40 => ?_)
    · have h := h.1 c40
      refine xRn.blk (pc1 := 25) (ls1 := [.ref 16, .ref 19, .ref x36, .int 0]) (st1 := []) (hp1 := (hL S37 r38)) (ob := []) [(.iconst 0, 1, 0, 0, 0, 0), (.istore_n 3, 1, 3, 0, 0, 0)] [] (by decide +kernel) rfl xall_nil (xSee_nil _) rfl rfl ?_
      refine xRn.forget (xle_eq (xle_eq (xle_eq (xle_eq xle_nil)))) ?_
      exact t_T_alter_25   S37 r38 x36 0 h
    · have h := h.2 c40
      refine xRn.blk (pc1 := 20) (ls1 := [.ref 16, .ref 19, .ref x36, .null]) (st1 := [.int 1]) (hp1 := (hL S37 r38)) (ob := []) [(.iconst 1, 1, 0, 0, 0, 1)] [] (by decide +kernel) rfl xall_nil (xSee_nil _) rfl rfl ?_
      refine xRn.goto (tgt := 24) (off := 4) (by decide +kernel) (by decide) ?_
      refine xRn.blk (pc1 := 25) (ls1 := [.ref 16, .ref 19, .ref x36, .int 1]) (st1 := []) (hp1 := (hL S37 r38)) (ob := []) [(.istore_n 3, 1, 3, 0, 0, 0)] [] (by decide +kernel) rfl xall_nil (xSee_nil _) rfl rfl ?_
      refine xRn.forget (xle_eq (xle_eq (xle_eq (xle_eq xle_nil)))) ?_
      exact t_T_alter_25   S37 r38 x36 1 h
  · rintro _ _ ⟨_, _, _, e9, _⟩
    cases e9
/-! T_below -/
def w_T_below  (S : XS) (r : List AE) (K : Int32 → XS → List AE → Prop) : Prop :=
  (((gF S 302) = 0 → (w_T_send S r 5 0 0 (fun S3 r4 => (w_T_goOut S3 r4  (fun S6 r7 => (K 4 S6 r7)))))) ∧ (¬ (gF S 302) = 0 → (K 1 S r)))
set_option maxRecDepth 100000 in
theorem c_T_below {G : XG} {l : Launch} {d : Nat} (S : XS) (r : List AE) {K : Int32 → XS → List AE → Prop} (h : w_T_below  S r K) : xCt G l (d + 5) xm_T_below [.ref 16, .ref 19] (hL S r) (pI K) := by
  refine xCt.intro (by decide) (by decide) (List.forall_mem_cons.mpr ⟨rfl, (List.forall_mem_cons.mpr ⟨rfl, (fun _ h => by cases h)⟩)⟩) (Nat.le_of_ble_eq_true rfl) rfl ?_
  show xRn G l _ xm_T_below _ 0 [.ref 16, .ref 19] [] (hL S r)
  refine xRn.blk (pc1 := 4) (ls1 := [.ref 16, .ref 19]) (st1 := [.int (gF S 302)]) (hp1 := (hL S r)) (ob := [(19 : Nat) = 19]) [(.aload_n 1, 1, 1, 0, 0, 0), (.getfield 248, 3, 2, 2, 0, 0)] [(19, xc3 S)] (by decide +kernel) rfl (xall_cons rfl xall_nil) (xSee_cons rfl (xne_nil _) (xSee_nil _)) rfl rfl ?_
  refine xRn.if_eq (tgt := 9) (nx := 7) (off := 5) (by decide +kernel) (by decide) rfl (fun c1 => ?_) (fun c1 => ?_)
  · have h := h.1 c1
    refine xRn.blk (pc1 := 15) (ls1 := [.ref 16, .ref 19]) (st1 := [.int 0, .int 0, .ref 5, .ref 16]) (hp1 := (hL S r)) (ob := []) [(.aload_n 0, 1, 0, 0, 0, 0), (.getstatic 16, 3, 4, 0, 0, 0), (.iconst 0, 1, 0, 0, 0, 0), (.iconst 0, 1, 0, 0, 0, 0)] [] (by decide +kernel) rfl xall_nil (xSee_nil _) rfl rfl ?_
    refine xRn.callV (al := [.ref 5, .int 0, .int 0]) (st := []) (nx := 18) (by decide +kernel) lk_V_T_below_166_T_send_0_3 rfl rfl (c_T_send (d := d + 0) S r 5 0 0 h) rfl (Nat.le_of_ble_eq_true rfl) rfl rfl ?_ ?_
    · rintro _ _ ⟨S3, r4, e9, rfl, h⟩
      cases e9
      show xRn G l _ _ _ 18 [.ref 16, .ref 19] [] (hL S3 r4)
      refine xRn.blk (pc1 := 19) (ls1 := [.ref 16, .ref 19]) (st1 := [.ref 16]) (hp1 := (hL S3 r4)) (ob := []) [(.aload_n 0, 1, 0, 0, 0, 0)] [] (by decide +kernel) rfl xall_nil (xSee_nil _) rfl rfl ?_
      refine xRn.callV (al := []) (st := []) (nx := 22) (by decide +kernel) lk_V_T_below_251_T_goOut_0_0 rfl rfl (c_T_goOut (d := d + 4) S3 r4  h) rfl (Nat.le_of_ble_eq_true rfl) rfl rfl ?_ ?_
      · rintro _ _ ⟨S6, r7, e9, rfl, h⟩
        cases e9
        show xRn G l _ _ _ 22 [.ref 16, .ref 19] [] (hL S6 r7)
        refine xRn.blk (pc1 := 23) (ls1 := [.ref 16, .ref 19]) (st1 := [.int 4]) (hp1 := (hL S6 r7)) (ob := []) [(.iconst 4, 1, 0, 0, 0, 4)] [] (by decide +kernel) rfl xall_nil (xSee_nil _) rfl rfl ?_
        exact xRn.iret (by decide +kernel) rfl rfl ⟨_, _, _, rfl, rfl, h⟩
      · rintro _ _ ⟨_, _, e9, _⟩
        cases e9
    · rintro _ _ ⟨_, _, e9, _⟩
      cases e9
  · have h := h.2 c1
    refine xRn.blk (pc1 := 8) (ls1 := [.ref 16, .ref 19]) (st1 := [.int 1]) (hp1 := (hL S r)) (ob := []) [(.iconst 1, 1, 0, 0, 0, 1)] [] (by decide +kernel) rfl xall_nil (xSee_nil _) rfl rfl ?_
    exact xRn.iret (by decide +kernel) rfl rfl ⟨_, _, _, rfl, rfl, h⟩
/-! T_above -/
def w_T_above_66   (K : XS → List AE → Prop) (S : XS) (r : List AE) : Prop :=
  (K (sF S 8 (if (gF S 8) < (gF S 301) then (gF S 301) else (gF S 8))) r)
set_option maxRecDepth 100000 in
theorem t_T_above_66 {G : XG} {l : Launch} {d : Nat} {K : XS → List AE → Prop} (S : XS) (r : List AE) (h : w_T_above_66 K S r) : xRn G l (d + 6) xm_T_above (pV K) 66 [.ref 16, .ref 19] [] (hL S r) := by
  refine xRn.blk (pc1 := 75) (ls1 := [.ref 16, .ref 19]) (st1 := [.int (gF S 301), .int (gF S 8), .ref 16]) (hp1 := (hL S r)) (ob := [(16 : Nat) = 16, (19 : Nat) = 19]) [(.aload_n 0, 1, 0, 0, 0, 0), (.aload_n 0, 1, 0, 0, 0, 0), (.getfield 173, 3, 8, 0, 0, 0), (.aload_n 1, 1, 1, 0, 0, 0), (.getfield 237, 3, 1, 2, 1, 0)] [(16, xc0 S), (19, xc3 S)] (by decide +kernel) rfl (xall_cons rfl (xall_cons rfl xall_nil)) (xSee_cons rfl (xne_cons (by decide) (xne_nil _)) (xSee_cons rfl (xne_nil _) (xSee_nil _))) rfl rfl ?_
  refine xRn.mmax (nx := 78) (by decide +kernel) lk_Math_T_above_160_Lib_Math_max_name_Lib_Math_max_code (Nat.le_of_ble_eq_true rfl) rfl rfl ?_
  refine xRn.blk (pc1 := 81) (ls1 := [.ref 16, .ref 19]) (st1 := []) (hp1 := (hL (sF S 8 (if (gF S 8) < (gF S 301) then (gF S 301) else (gF S 8))) r)) (ob := [(16 : Nat) = 16]) [(.putfield 173, 3, 8, 0, 0, 0)] [(16, xc0 S)] (by decide +kernel) rfl (xall_cons rfl xall_nil) (xSee_cons rfl (xne_nil _) (xSee_nil _)) rfl rfl ?_
  exact xRn.vret (by decide +kernel) rfl ⟨_, _, rfl, rfl, h⟩
def w_T_above_48   (K : XS → List AE → Prop) (S : XS) (r : List AE) : Prop :=
  (((gF S 5) = 0 → (K S r)) ∧ (¬ (gF S 5) = 0 → ((¬ (gF S 8) = 0 → (w_T_above_66 K S r)) ∧ ((gF S 8) = 0 → (w_T_ask S r  (fun S4 r5 => (w_T_above_66 K S4 r5)))))))
set_option maxRecDepth 100000 in
theorem t_T_above_48 {G : XG} {l : Launch} {d : Nat} {K : XS → List AE → Prop} (S : XS) (r : List AE) (h : w_T_above_48 K S r) : xRn G l (d + 6) xm_T_above (pV K) 48 [.ref 16, .ref 19] [] (hL S r) := by
  refine xRn.blk (pc1 := 52) (ls1 := [.ref 16, .ref 19]) (st1 := [.int (gF S 5)]) (hp1 := (hL S r)) (ob := [(16 : Nat) = 16]) [(.aload_n 0, 1, 0, 0, 0, 0), (.getfield 99, 3, 5, 0, 0, 0)] [(16, xc0 S)] (by decide +kernel) rfl (xall_cons rfl xall_nil) (xSee_cons rfl (xne_nil _) (xSee_nil _)) rfl rfl ?_
  refine xRn.if_eq (tgt := 81) (nx := 55) (off := 29) (by decide +kernel) (by decide) rfl (fun c1 => ?_) (fun c1 => ?_)
  · have h := h.1 c1
    exact xRn.vret (by decide +kernel) rfl ⟨_, _, rfl, rfl, h⟩
  · have h := h.2 c1
    refine xRn.blk (pc1 := 59) (ls1 := [.ref 16, .ref 19]) (st1 := [.int (gF S 8)]) (hp1 := (hL S r)) (ob := [(16 : Nat) = 16]) [(.aload_n 0, 1, 0, 0, 0, 0), (.getfield 173, 3, 8, 0, 0, 0)] [(16, xc0 S)] (by decide +kernel) rfl (xall_cons rfl xall_nil) (xSee_cons rfl (xne_nil _) (xSee_nil _)) rfl rfl ?_
    refine xRn.if_ne (tgt := 66) (nx := 62) (off := 7) (by decide +kernel) (by decide) rfl (fun c2 => ?_) (fun c2 => ?_)
    · have h := h.1 c2
      refine xRn.forget (xle_eq (xle_eq xle_nil)) ?_
      exact t_T_above_66   S r h
    · have h := h.2 c2
      refine xRn.blk (pc1 := 63) (ls1 := [.ref 16, .ref 19]) (st1 := [.ref 16]) (hp1 := (hL S r)) (ob := []) [(.aload_n 0, 1, 0, 0, 0, 0)] [] (by decide +kernel) rfl xall_nil (xSee_nil _) rfl rfl ?_
      refine xRn.callV (al := []) (st := []) (nx := 66) (by decide +kernel) lk_V_T_above_257_T_ask_0_0 rfl rfl (c_T_ask (d := d + 0) S r  h) rfl (Nat.le_of_ble_eq_true rfl) rfl rfl ?_ ?_
      · rintro _ _ ⟨S4, r5, e9, rfl, h⟩
        cases e9
        show xRn G l _ _ _ 66 [.ref 16, .ref 19] [] (hL S4 r5)
        refine xRn.forget (xle_eq (xle_eq xle_nil)) ?_
        exact t_T_above_66   S4 r5 h
      · rintro _ _ ⟨_, _, e9, _⟩
        cases e9
def w_T_above  (S : XS) (r : List AE) (K : XS → List AE → Prop) : Prop :=
  ((gR S 300) ≤ 10) ∧ ((¬ (gR S 300) = 3 → ((gR S 300) ≤ 10) ∧ ((¬ (gR S 300) = 5 → (w_T_above_48 K S r)) ∧ ((gR S 300) = 5 → (w_T_send S r 5 0 0 (fun S11 r12 => (w_T_goOut S11 r12  (fun S14 r15 => (w_T_above_48 K S14 r15)))))))) ∧ ((gR S 300) = 3 → (w_T_answer S r (gF S 303) (gF S 304) (fun S17 r18 => (w_T_above_48 K S17 r18)))))
set_option maxRecDepth 100000 in
theorem c_T_above {G : XG} {l : Launch} {d : Nat} (S : XS) (r : List AE) {K : XS → List AE → Prop} (h : w_T_above  S r K) : xCt G l (d + 6) xm_T_above [.ref 16, .ref 19] (hL S r) (pV K) := by
  refine xCt.intro (by decide) (by decide) (List.forall_mem_cons.mpr ⟨rfl, (List.forall_mem_cons.mpr ⟨rfl, (fun _ h => by cases h)⟩)⟩) (Nat.le_of_ble_eq_true rfl) rfl ?_
  show xRn G l _ xm_T_above _ 0 [.ref 16, .ref 19] [] (hL S r)
  refine xRn.blk (pc1 := 7) (ls1 := [.ref 16, .ref 19]) (st1 := [.ref 3, .ref (gR S 300)]) (hp1 := (hL S r)) (ob := [(19 : Nat) = 19]) [(.aload_n 1, 1, 1, 0, 0, 0), (.getfield 222, 3, 0, 2, 0, 0), (.getstatic 10, 3, 2, 0, 0, 0)] [(19, xc3 S)] (by decide +kernel) rfl (xall_cons rfl xall_nil) (xSee_cons rfl (xne_nil _) (xSee_nil _)) rfl rfl ?_
  obtain ⟨o6, h⟩ := h
  refine xRn.ac_ne (tgt := 25) (nx := 10) (off := 18) (by decide +kernel) (by decide) rfl o6 (by decide) (fun c7 => ?_) (fun c7 => ?_)
  · have h := h.1 c7
    refine xRn.blk (pc1 := 32) (ls1 := [.ref 16, .ref 19]) (st1 := [.ref 5, .ref (gR S 300)]) (hp1 := (hL S r)) (ob := [(19 : Nat) = 19]) [(.aload_n 1, 1, 1, 0, 0, 0), (.getfield 222, 3, 0, 2, 0, 0), (.getstatic 16, 3, 4, 0, 0, 0)] [(19, xc3 S)] (by decide +kernel) rfl (xall_cons rfl xall_nil) (xSee_cons rfl (xne_nil _) (xSee_nil _)) rfl rfl ?_
    obtain ⟨o8, h⟩ := h
    refine xRn.ac_ne (tgt := 48) (nx := 35) (off := 16) (by decide +kernel) (by decide) rfl o8 (by decide) (fun c9 => ?_) (fun c9 => ?_)
    · have h := h.1 c9
      refine xRn.forget (xle_eq (xle_eq xle_nil)) ?_
      exact t_T_above_48   S r h
    · have h := h.2 c9
      refine xRn.blk (pc1 := 41) (ls1 := [.ref 16, .ref 19]) (st1 := [.int 0, .int 0, .ref 5, .ref 16]) (hp1 := (hL S r)) (ob := []) [(.aload_n 0, 1, 0, 0, 0, 0), (.getstatic 16, 3, 4, 0, 0, 0), (.iconst 0, 1, 0, 0, 0, 0), (.iconst 0, 1, 0, 0, 0, 0)] [] (by decide +kernel) rfl xall_nil (xSee_nil _) rfl rfl ?_
      refine xRn.callV (al := [.ref 5, .int 0, .int 0]) (st := []) (nx := 44) (by decide +kernel) lk_V_T_above_166_T_send_0_3 rfl rfl (c_T_send (d := d + 1) S r 5 0 0 h) rfl (Nat.le_of_ble_eq_true rfl) rfl rfl ?_ ?_
      · rintro _ _ ⟨S11, r12, e9, rfl, h⟩
        cases e9
        show xRn G l _ _ _ 44 [.ref 16, .ref 19] [] (hL S11 r12)
        refine xRn.blk (pc1 := 45) (ls1 := [.ref 16, .ref 19]) (st1 := [.ref 16]) (hp1 := (hL S11 r12)) (ob := []) [(.aload_n 0, 1, 0, 0, 0, 0)] [] (by decide +kernel) rfl xall_nil (xSee_nil _) rfl rfl ?_
        refine xRn.callV (al := []) (st := []) (nx := 48) (by decide +kernel) lk_V_T_above_251_T_goOut_0_0 rfl rfl (c_T_goOut (d := d + 5) S11 r12  h) rfl (Nat.le_of_ble_eq_true rfl) rfl rfl ?_ ?_
        · rintro _ _ ⟨S14, r15, e9, rfl, h⟩
          cases e9
          show xRn G l _ _ _ 48 [.ref 16, .ref 19] [] (hL S14 r15)
          refine xRn.forget (xle_eq (xle_eq xle_nil)) ?_
          exact t_T_above_48   S14 r15 h
        · rintro _ _ ⟨_, _, e9, _⟩
          cases e9
      · rintro _ _ ⟨_, _, e9, _⟩
        cases e9
  · have h := h.2 c7
    refine xRn.blk (pc1 := 19) (ls1 := [.ref 16, .ref 19]) (st1 := [.int (gF S 304), .int (gF S 303), .ref 16]) (hp1 := (hL S r)) (ob := [(19 : Nat) = 19, (19 : Nat) = 19]) [(.aload_n 0, 1, 0, 0, 0, 0), (.aload_n 1, 1, 1, 0, 0, 0), (.getfield 231, 3, 3, 2, 0, 0), (.aload_n 1, 1, 1, 0, 0, 0), (.getfield 228, 3, 4, 2, 0, 0)] [(19, xc3 S)] (by decide +kernel) rfl (xall_cons rfl (xall_cons rfl xall_nil)) (xSee_cons rfl (xne_nil _) (xSee_nil _)) rfl rfl ?_
    refine xRn.callV (al := [.int (gF S 303), .int (gF S 304)]) (st := []) (nx := 22) (by decide +kernel) lk_V_T_above_254_T_answer_0_2 rfl rfl (c_T_answer (d := d + 0) S r (gF S 303) (gF S 304) h) rfl (Nat.le_of_ble_eq_true rfl) rfl rfl ?_ ?_
    · rintro _ _ ⟨S17, r18, e9, rfl, h⟩
      cases e9
      show xRn G l _ _ _ 22 [.ref 16, .ref 19] [] (hL S17 r18)
      refine xRn.goto (tgt := 48) (off := 26) (by decide +kernel) (by decide) ?_
      refine xRn.forget (xle_eq (xle_eq xle_nil)) ?_
      exact t_T_above_48   S17 r18 h
    · rintro _ _ ⟨_, _, e9, _⟩
      cases e9
/-! T_inTurn -/
def w_T_inTurn_20   (K : XS → List AE → Prop) (S : XS) (r : List AE) : Prop :=
  ((1 ≤ (gR S 300)) ∧ (gR S 300) ≤ 10) ∧ ((((xcf 4 (gR S 300))).toInt < 1 ∨ 8 < ((xcf 4 (gR S 300))).toInt → (K S r)) ∧ (((xcf 4 (gR S 300))).toInt = 1 → (w_T_send S r 1 (gF S 303) 0 (fun S5 r6 => (K S5 r6)))) ∧ (((xcf 4 (gR S 300))).toInt = 2 → (w_T_answer S r (gF S 303) (gF S 304) (fun S8 r9 => (K S8 r9)))) ∧ (((xcf 4 (gR S 300))).toInt = 3 → (w_T_moveTo S r (gF S 303) (fun S11 r12 => (K S11 r12)))) ∧ (((xcf 4 (gR S 300))).toInt = 4 → (w_T_send S r 5 0 0 (fun S14 r15 => (w_T_goOut S14 r15  (fun S17 r18 => (K S17 r18)))))) ∧ (((xcf 4 (gR S 300))).toInt = 5 → (K S r)) ∧ (((xcf 4 (gR S 300))).toInt = 6 → (w_T_place S r  (fun S20 r21 => (K S20 r21)))) ∧ (((xcf 4 (gR S 300))).toInt = 7 → (w_T_alter S r  (fun S23 r24 => (K S23 r24)))) ∧ (((xcf 4 (gR S 300))).toInt = 8 → (w_T_alter S r  (fun S26 r27 => (K S26 r27)))))
set_option maxRecDepth 100000 in
theorem t_T_inTurn_20 {G : XG} {l : Launch} {d : Nat} {K : XS → List AE → Prop} (S : XS) (r : List AE) (h : w_T_inTurn_20 K S r) : xRn G l (d + 8) xm_T_inTurn (pV K) 20 [.ref 16, .ref 19] [] (hL S r) := by
  refine xRn.blk (pc1 := 24) (ls1 := [.ref 16, .ref 19]) (st1 := [.ref (gR S 300)]) (hp1 := (hL S r)) (ob := [(19 : Nat) = 19]) [(.aload_n 1, 1, 1, 0, 0, 0), (.getfield 222, 3, 0, 2, 0, 0)] [(19, xc3 S)] (by decide +kernel) rfl (xall_cons rfl xall_nil) (xSee_cons rfl (xne_nil _) (xSee_nil _)) rfl rfl ?_
  obtain ⟨o1, h⟩ := h
  refine xRn.callU (st := []) (nx := 27) (by decide +kernel) lk_U_T_inTurn_266 (o1) (c_ordinal (d := d + 7) _ (gR S 300) (o1)) (Nat.le_of_ble_eq_true rfl) rfl rfl ?_ ?_
  · rintro _ _ ⟨e9, e8⟩
    cases e9
    rw [e8]
    show xRn G l _ _ _ 27 [.ref 16, .ref 19] [.int (xcf 4 (gR S 300))] (hL S r)
    have c3 : ((((xcf 4 (gR S 300))).toInt < 1 ∨ 8 < ((xcf 4 (gR S 300))).toInt) ∨ ((xcf 4 (gR S 300))).toInt = 1 ∨ ((xcf 4 (gR S 300))).toInt = 2 ∨ ((xcf 4 (gR S 300))).toInt = 3 ∨ ((xcf 4 (gR S 300))).toInt = 4 ∨ ((xcf 4 (gR S 300))).toInt = 5 ∨ ((xcf 4 (gR S 300))).toInt = 6 ∨ ((xcf 4 (gR S 300))).toInt = 7 ∨ ((xcf 4 (gR S 300))).toInt = 8) := by omega
    rcases c3 with c3 | c3 | c3 | c3 | c3 | c3 | c3 | c3 | c3
    · have h := h.1 c3
      refine xRn.swOut (tgt := 145) (dflt := 118) (lo := 1) (hi := 8) (offs := #[45, 60, 75, 86, 118, 102, 110, 110]) (len := 45) (by decide +kernel) c3 (by decide) ?_
      exact xRn.vret (by decide +kernel) rfl ⟨_, _, rfl, rfl, h⟩
    · have h := h.2.1 c3
      refine xRn.swIn (tgt := 72) (dflt := 118) (lo := 1) (hi := 8) (offs := #[45, 60, 75, 86, 118, 102, 110, 110]) (len := 45) (off := 45) 0 (by decide +kernel) c3 (by decide) (by decide) (by decide) ?_
      refine xRn.blk (pc1 := 81) (ls1 := [.ref 16, .ref 19]) (st1 := [.int 0, .int (gF S 303), .ref 1, .ref 16]) (hp1 := (hL S r)) (ob := [(19 : Nat) = 19]) [(.aload_n 0, 1, 0, 0, 0, 0), (.getstatic 1, 3, 0, 0, 0, 0), (.aload_n 1, 1, 1, 0, 0, 0), (.getfield 231, 3, 3, 2, 0, 0), (.iconst 0, 1, 0, 0, 0, 0)] [(19, xc3 S)] (by decide +kernel) rfl (xall_cons rfl xall_nil) (xSee_cons rfl (xne_nil _) (xSee_nil _)) rfl rfl ?_
      refine xRn.callV (al := [.ref 1, .int (gF S 303), .int 0]) (st := []) (nx := 84) (by decide +kernel) lk_V_T_inTurn_166_T_send_0_3 rfl rfl (c_T_send (d := d + 3) S r 1 (gF S 303) 0 h) rfl (Nat.le_of_ble_eq_true rfl) rfl rfl ?_ ?_
      · rintro _ _ ⟨S5, r6, e9, rfl, h⟩
        cases e9
        show xRn G l _ _ _ 84 [.ref 16, .ref 19] [] (hL S5 r6)
        refine xRn.goto (tgt := 145) (off := 61) (by decide +kernel) (by decide) ?_
        exact xRn.vret (by decide +kernel) rfl ⟨_, _, rfl, rfl, h⟩
      · rintro _ _ ⟨_, _, e9, _⟩
        cases e9
    · have h := h.2.2.1 c3
      refine xRn.swIn (tgt := 87) (dflt := 118) (lo := 1) (hi := 8) (offs := #[45, 60, 75, 86, 118, 102, 110, 110]) (len := 45) (off := 60) 1 (by decide +kernel) c3 (by decide) (by decide) (by decide) ?_
      refine xRn.blk (pc1 := 96) (ls1 := [.ref 16, .ref 19]) (st1 := [.int (gF S 304), .int (gF S 303), .ref 16]) (hp1 := (hL S r)) (ob := [(19 : Nat) = 19, (19 : Nat) = 19]) [(.aload_n 0, 1, 0, 0, 0, 0), (.aload_n 1, 1, 1, 0, 0, 0), (.getfield 231, 3, 3, 2, 0, 0), (.aload_n 1, 1, 1, 0, 0, 0), (.getfield 228, 3, 4, 2, 0, 0)] [(19, xc3 S)] (by decide +kernel) rfl (xall_cons rfl (xall_cons rfl xall_nil)) (xSee_cons rfl (xne_nil _) (xSee_nil _)) rfl rfl ?_
      refine xRn.callV (al := [.int (gF S 303), .int (gF S 304)]) (st := []) (nx := 99) (by decide +kernel) lk_V_T_inTurn_254_T_answer_0_2 rfl rfl (c_T_answer (d := d + 2) S r (gF S 303) (gF S 304) h) rfl (Nat.le_of_ble_eq_true rfl) rfl rfl ?_ ?_
      · rintro _ _ ⟨S8, r9, e9, rfl, h⟩
        cases e9
        show xRn G l _ _ _ 99 [.ref 16, .ref 19] [] (hL S8 r9)
        refine xRn.goto (tgt := 145) (off := 46) (by decide +kernel) (by decide) ?_
        exact xRn.vret (by decide +kernel) rfl ⟨_, _, rfl, rfl, h⟩
      · rintro _ _ ⟨_, _, e9, _⟩
        cases e9
    · have h := h.2.2.2.1 c3
      refine xRn.swIn (tgt := 102) (dflt := 118) (lo := 1) (hi := 8) (offs := #[45, 60, 75, 86, 118, 102, 110, 110]) (len := 45) (off := 75) 2 (by decide +kernel) c3 (by decide) (by decide) (by decide) ?_
      refine xRn.blk (pc1 := 107) (ls1 := [.ref 16, .ref 19]) (st1 := [.int (gF S 303), .ref 16]) (hp1 := (hL S r)) (ob := [(19 : Nat) = 19]) [(.aload_n 0, 1, 0, 0, 0, 0), (.aload_n 1, 1, 1, 0, 0, 0), (.getfield 231, 3, 3, 2, 0, 0)] [(19, xc3 S)] (by decide +kernel) rfl (xall_cons rfl xall_nil) (xSee_cons rfl (xne_nil _) (xSee_nil _)) rfl rfl ?_
      refine xRn.callV (al := [.int (gF S 303)]) (st := []) (nx := 110) (by decide +kernel) lk_V_T_inTurn_234_T_moveTo_0_1 rfl rfl (c_T_moveTo (d := d + 6) S r (gF S 303) h) rfl (Nat.le_of_ble_eq_true rfl) rfl rfl ?_ ?_
      · rintro _ _ ⟨S11, r12, e9, rfl, h⟩
        cases e9
        show xRn G l _ _ _ 110 [.ref 16, .ref 19] [] (hL S11 r12)
        refine xRn.goto (tgt := 145) (off := 35) (by decide +kernel) (by decide) ?_
        exact xRn.vret (by decide +kernel) rfl ⟨_, _, rfl, rfl, h⟩
      · rintro _ _ ⟨_, _, e9, _⟩
        cases e9
    · have h := h.2.2.2.2.1 c3
      refine xRn.swIn (tgt := 113) (dflt := 118) (lo := 1) (hi := 8) (offs := #[45, 60, 75, 86, 118, 102, 110, 110]) (len := 45) (off := 86) 3 (by decide +kernel) c3 (by decide) (by decide) (by decide) ?_
      refine xRn.blk (pc1 := 119) (ls1 := [.ref 16, .ref 19]) (st1 := [.int 0, .int 0, .ref 5, .ref 16]) (hp1 := (hL S r)) (ob := []) [(.aload_n 0, 1, 0, 0, 0, 0), (.getstatic 16, 3, 4, 0, 0, 0), (.iconst 0, 1, 0, 0, 0, 0), (.iconst 0, 1, 0, 0, 0, 0)] [] (by decide +kernel) rfl xall_nil (xSee_nil _) rfl rfl ?_
      refine xRn.callV (al := [.ref 5, .int 0, .int 0]) (st := []) (nx := 122) (by decide +kernel) lk_V_T_inTurn_166_T_send_0_3 rfl rfl (c_T_send (d := d + 3) S r 5 0 0 h) rfl (Nat.le_of_ble_eq_true rfl) rfl rfl ?_ ?_
      · rintro _ _ ⟨S14, r15, e9, rfl, h⟩
        cases e9
        show xRn G l _ _ _ 122 [.ref 16, .ref 19] [] (hL S14 r15)
        refine xRn.blk (pc1 := 123) (ls1 := [.ref 16, .ref 19]) (st1 := [.ref 16]) (hp1 := (hL S14 r15)) (ob := []) [(.aload_n 0, 1, 0, 0, 0, 0)] [] (by decide +kernel) rfl xall_nil (xSee_nil _) rfl rfl ?_
        refine xRn.callV (al := []) (st := []) (nx := 126) (by decide +kernel) lk_V_T_inTurn_251_T_goOut_0_0 rfl rfl (c_T_goOut (d := d + 7) S14 r15  h) rfl (Nat.le_of_ble_eq_true rfl) rfl rfl ?_ ?_
        · rintro _ _ ⟨S17, r18, e9, rfl, h⟩
          cases e9
          show xRn G l _ _ _ 126 [.ref 16, .ref 19] [] (hL S17 r18)
          refine xRn.goto (tgt := 145) (off := 19) (by decide +kernel) (by decide) ?_
          exact xRn.vret (by decide +kernel) rfl ⟨_, _, rfl, rfl, h⟩
        · rintro _ _ ⟨_, _, e9, _⟩
          cases e9
      · rintro _ _ ⟨_, _, e9, _⟩
        cases e9
    · have h := h.2.2.2.2.2.1 c3
      refine xRn.swIn (tgt := 145) (dflt := 118) (lo := 1) (hi := 8) (offs := #[45, 60, 75, 86, 118, 102, 110, 110]) (len := 45) (off := 118) 4 (by decide +kernel) c3 (by decide) (by decide) (by decide) ?_
      exact xRn.vret (by decide +kernel) rfl ⟨_, _, rfl, rfl, h⟩
    · have h := h.2.2.2.2.2.2.1 c3
      refine xRn.swIn (tgt := 129) (dflt := 118) (lo := 1) (hi := 8) (offs := #[45, 60, 75, 86, 118, 102, 110, 110]) (len := 45) (off := 102) 5 (by decide +kernel) c3 (by decide) (by decide) (by decide) ?_
      refine xRn.blk (pc1 := 131) (ls1 := [.ref 16, .ref 19]) (st1 := [.ref 19, .ref 16]) (hp1 := (hL S r)) (ob := []) [(.aload_n 0, 1, 0, 0, 0, 0), (.aload_n 1, 1, 1, 0, 0, 0)] [] (by decide +kernel) rfl xall_nil (xSee_nil _) rfl rfl ?_
      refine xRn.callV (al := [.ref 19]) (st := []) (nx := 134) (by decide +kernel) lk_V_T_inTurn_270_T_place_0_1 rfl rfl (c_T_place (d := d + 0) S r  h) rfl (Nat.le_of_ble_eq_true rfl) rfl rfl ?_ ?_
      · rintro _ _ ⟨S20, r21, e9, rfl, h⟩
        cases e9
        show xRn G l _ _ _ 134 [.ref 16, .ref 19] [] (hL S20 r21)
        refine xRn.goto (tgt := 145) (off := 11) (by decide +kernel) (by decide) ?_
        exact xRn.vret (by decide +kernel) rfl ⟨_, _, rfl, rfl, h⟩
      · rintro _ _ ⟨_, _, e9, _⟩
        cases e9
    · have h := h.2.2.2.2.2.2.2.1 c3
      refine xRn.swIn (tgt := 137) (dflt := 118) (lo := 1) (hi := 8) (offs := #[45, 60, 75, 86, 118, 102, 110, 110]) (len := 45) (off := 110) 6 (by decide +kernel) c3 (by decide) (by decide) (by decide) ?_
      refine xRn.blk (pc1 := 139) (ls1 := [.ref 16, .ref 19]) (st1 := [.ref 19, .ref 16]) (hp1 := (hL S r)) (ob := []) [(.aload_n 0, 1, 0, 0, 0, 0), (.aload_n 1, 1, 1, 0, 0, 0)] [] (by decide +kernel) rfl xall_nil (xSee_nil _) rfl rfl ?_
      refine xRn.callV (al := [.ref 19]) (st := []) (nx := 142) (by decide +kernel) lk_V_T_inTurn_273_T_alter_0_1 rfl rfl (c_T_alter (d := d + 0) S r  h) rfl (Nat.le_of_ble_eq_true rfl) rfl rfl ?_ ?_
      · rintro _ _ ⟨S23, r24, e9, rfl, h⟩
        cases e9
        show xRn G l _ _ _ 142 [.ref 16, .ref 19] [] (hL S23 r24)
        refine xRn.goto (tgt := 145) (off := 3) (by decide +kernel) (by decide) ?_
        exact xRn.vret (by decide +kernel) rfl ⟨_, _, rfl, rfl, h⟩
      · rintro _ _ ⟨_, _, e9, _⟩
        cases e9
    · have h := h.2.2.2.2.2.2.2.2 c3
      refine xRn.swIn (tgt := 137) (dflt := 118) (lo := 1) (hi := 8) (offs := #[45, 60, 75, 86, 118, 102, 110, 110]) (len := 45) (off := 110) 7 (by decide +kernel) c3 (by decide) (by decide) (by decide) ?_
      refine xRn.blk (pc1 := 139) (ls1 := [.ref 16, .ref 19]) (st1 := [.ref 19, .ref 16]) (hp1 := (hL S r)) (ob := []) [(.aload_n 0, 1, 0, 0, 0, 0), (.aload_n 1, 1, 1, 0, 0, 0)] [] (by decide +kernel) rfl xall_nil (xSee_nil _) rfl rfl ?_
      refine xRn.callV (al := [.ref 19]) (st := []) (nx := 142) (by decide +kernel) lk_V_T_inTurn_273_T_alter_0_1 rfl rfl (c_T_alter (d := d + 0) S r  h) rfl (Nat.le_of_ble_eq_true rfl) rfl rfl ?_ ?_
      · rintro _ _ ⟨S26, r27, e9, rfl, h⟩
        cases e9
        show xRn G l _ _ _ 142 [.ref 16, .ref 19] [] (hL S26 r27)
        refine xRn.goto (tgt := 145) (off := 3) (by decide +kernel) (by decide) ?_
        exact xRn.vret (by decide +kernel) rfl ⟨_, _, rfl, rfl, h⟩
      · rintro _ _ ⟨_, _, e9, _⟩
        cases e9
  · rintro _ _ ⟨e9, _⟩
    cases e9
def w_T_inTurn  (S : XS) (r : List AE) (K : XS → List AE → Prop) : Prop :=
  ((1 ≤ (gR S 300)) ∧ (gR S 300) ≤ 10) ∧ (w_Y_order (gR S 300) (fun x29 => ((x29 = 0 → (w_T_inTurn_20 K S r)) ∧ (¬ x29 = 0 → (w_T_inTurn_20 K (sF S 17 ((gF S 17) + 1)) r)))))
set_option maxRecDepth 100000 in
theorem c_T_inTurn {G : XG} {l : Launch} {d : Nat} (S : XS) (r : List AE) {K : XS → List AE → Prop} (h : w_T_inTurn  S r K) : xCt G l (d + 8) xm_T_inTurn [.ref 16, .ref 19] (hL S r) (pV K) := by
  refine xCt.intro (by decide) (by decide) (List.forall_mem_cons.mpr ⟨rfl, (List.forall_mem_cons.mpr ⟨rfl, (fun _ h => by cases h)⟩)⟩) (Nat.le_of_ble_eq_true rfl) rfl ?_
  show xRn G l _ xm_T_inTurn _ 0 [.ref 16, .ref 19] [] (hL S r)
  refine xRn.blk (pc1 := 4) (ls1 := [.ref 16, .ref 19]) (st1 := [.ref (gR S 300)]) (hp1 := (hL S r)) (ob := [(19 : Nat) = 19]) [(.aload_n 1, 1, 1, 0, 0, 0), (.getfield 222, 3, 0, 2, 0, 0)] [(19, xc3 S)] (by decide +kernel) rfl (xall_cons rfl xall_nil) (xSee_cons rfl (xne_nil _) (xSee_nil _)) rfl rfl ?_
  obtain ⟨o28, h⟩ := h
  refine xRn.callE (al := []) (st := []) (nx := 7) (by decide +kernel) lk_V_T_inTurn_260_Y_order_12_0 (o28) rfl (c_Y_order (d := d + 7) _ (gR S 300) h) rfl (Nat.le_of_ble_eq_true rfl) rfl rfl ?_ ?_
  · rintro _ _ ⟨x29, e9, e8, h⟩
    cases e9
    rw [e8]
    show xRn G l _ _ _ 7 [.ref 16, .ref 19] [.int x29] (hL S r)
    refine xRn.if_eq (tgt := 20) (nx := 10) (off := 13) (by decide +kernel) (by decide) rfl (fun c30 => ?_) (fun c30 => ?_)
    · have h := h.1 c30
      refine xRn.forget (xle_eq (xle_eq xle_nil)) ?_
      exact t_T_inTurn_20   S r h
    · have h := h.2 c30
      refine xRn.blk (pc1 := 20) (ls1 := [.ref 16, .ref 19]) (st1 := []) (hp1 := (hL (sF S 17 ((gF S 17) + 1)) r)) (ob := [(16 : Nat) = 16, (16 : Nat) = 16]) [(.aload_n 0, 1, 0, 0, 0, 0), (.dup, 1, 0, 0, 0, 0), (.getfield 263, 3, 17, 0, 0, 0), (.iconst 1, 1, 0, 0, 0, 1), (.iadd, 1, 0, 0, 0, 0), (.putfield 263, 3, 17, 0, 0, 0)] [(16, xc0 S)] (by decide +kernel) rfl (xall_cons rfl (xall_cons rfl xall_nil)) (xSee_cons rfl (xne_nil _) (xSee_nil _)) rfl rfl ?_
      refine xRn.forget (xle_eq (xle_eq xle_nil)) ?_
      exact t_T_inTurn_20   (sF S 17 ((gF S 17) + 1)) r h
  · rintro _ _ ⟨_, e9, _⟩
    cases e9
/-! T_taken -/
def w_T_taken_142   (K : Int32 → XS → List AE → Prop) (S : XS) (r : List AE) : Prop :=
  (((gF S 301) ≤ (gF S 6) → (w_T_moveTo S r ((gF S 6) + 1) (fun S3 r4 => (w_T_inTurn S3 r4  (fun S6 r7 => (K 2 S6 r7)))))) ∧ (¬ (gF S 301) ≤ (gF S 6) → (w_T_above S r  (fun S9 r10 => (K 3 S9 r10)))))
set_option maxRecDepth 100000 in
theorem t_T_taken_142 {G : XG} {l : Launch} {d : Nat} {K : Int32 → XS → List AE → Prop} (S : XS) (r : List AE) (h : w_T_taken_142 K S r) : xRn G l (d + 9) xm_T_taken (pI K) 142 [.ref 16, .ref 19, .null] [] (hL S r) := by
  refine xRn.blk (pc1 := 150) (ls1 := [.ref 16, .ref 19, .null]) (st1 := [.int (gF S 6), .int (gF S 301)]) (hp1 := (hL S r)) (ob := [(19 : Nat) = 19, (16 : Nat) = 16]) [(.aload_n 1, 1, 1, 0, 0, 0), (.getfield 237, 3, 1, 2, 0, 0), (.aload_n 0, 1, 0, 0, 0, 0), (.getfield 67, 3, 6, 0, 1, 0)] [(19, xc3 S), (16, xc0 S)] (by decide +kernel) rfl (xall_cons rfl (xall_cons rfl xall_nil)) (xSee_cons rfl (xne_cons (by decide) (xne_nil _)) (xSee_cons rfl (xne_nil _) (xSee_nil _))) rfl rfl ?_
  refine xRn.ic_le (tgt := 160) (nx := 153) (off := 10) (by decide +kernel) (by decide) rfl (fun c1 => ?_) (fun c1 => ?_)
  · have h := h.1 c1
    refine xRn.blk (pc1 := 167) (ls1 := [.ref 16, .ref 19, .null]) (st1 := [.int ((gF S 6) + 1), .ref 16]) (hp1 := (hL S r)) (ob := [(16 : Nat) = 16]) [(.aload_n 0, 1, 0, 0, 0, 0), (.aload_n 0, 1, 0, 0, 0, 0), (.getfield 67, 3, 6, 0, 0, 0), (.iconst 1, 1, 0, 0, 0, 1), (.iadd, 1, 0, 0, 0, 0)] [(16, xc0 S)] (by decide +kernel) rfl (xall_cons rfl xall_nil) (xSee_cons rfl (xne_nil _) (xSee_nil _)) rfl rfl ?_
    refine xRn.callV (al := [.int ((gF S 6) + 1)]) (st := []) (nx := 170) (by decide +kernel) lk_V_T_taken_234_T_moveTo_0_1 rfl rfl (c_T_moveTo (d := d + 7) S r ((gF S 6) + 1) h) rfl (Nat.le_of_ble_eq_true rfl) rfl rfl ?_ ?_
    · rintro _ _ ⟨S3, r4, e9, rfl, h⟩
      cases e9
      show xRn G l _ _ _ 170 [.ref 16, .ref 19, .null] [] (hL S3 r4)
      refine xRn.blk (pc1 := 172) (ls1 := [.ref 16, .ref 19, .null]) (st1 := [.ref 19, .ref 16]) (hp1 := (hL S3 r4)) (ob := []) [(.aload_n 0, 1, 0, 0, 0, 0), (.aload_n 1, 1, 1, 0, 0, 0)] [] (by decide +kernel) rfl xall_nil (xSee_nil _) rfl rfl ?_
      refine xRn.callV (al := [.ref 19]) (st := []) (nx := 175) (by decide +kernel) lk_V_T_taken_245_T_inTurn_0_1 rfl rfl (c_T_inTurn (d := d + 0) S3 r4  h) rfl (Nat.le_of_ble_eq_true rfl) rfl rfl ?_ ?_
      · rintro _ _ ⟨S6, r7, e9, rfl, h⟩
        cases e9
        show xRn G l _ _ _ 175 [.ref 16, .ref 19, .null] [] (hL S6 r7)
        refine xRn.blk (pc1 := 176) (ls1 := [.ref 16, .ref 19, .null]) (st1 := [.int 2]) (hp1 := (hL S6 r7)) (ob := []) [(.iconst 2, 1, 0, 0, 0, 2)] [] (by decide +kernel) rfl xall_nil (xSee_nil _) rfl rfl ?_
        exact xRn.iret (by decide +kernel) rfl rfl ⟨_, _, _, rfl, rfl, h⟩
      · rintro _ _ ⟨_, _, e9, _⟩
        cases e9
    · rintro _ _ ⟨_, _, e9, _⟩
      cases e9
  · have h := h.2 c1
    refine xRn.blk (pc1 := 155) (ls1 := [.ref 16, .ref 19, .null]) (st1 := [.ref 19, .ref 16]) (hp1 := (hL S r)) (ob := []) [(.aload_n 0, 1, 0, 0, 0, 0), (.aload_n 1, 1, 1, 0, 0, 0)] [] (by decide +kernel) rfl xall_nil (xSee_nil _) rfl rfl ?_
    refine xRn.callV (al := [.ref 19]) (st := []) (nx := 158) (by decide +kernel) lk_V_T_taken_241_T_above_0_1 rfl rfl (c_T_above (d := d + 2) S r  h) rfl (Nat.le_of_ble_eq_true rfl) rfl rfl ?_ ?_
    · rintro _ _ ⟨S9, r10, e9, rfl, h⟩
      cases e9
      show xRn G l _ _ _ 158 [.ref 16, .ref 19, .null] [] (hL S9 r10)
      refine xRn.blk (pc1 := 159) (ls1 := [.ref 16, .ref 19, .null]) (st1 := [.int 3]) (hp1 := (hL S9 r10)) (ob := []) [(.iconst 3, 1, 0, 0, 0, 3)] [] (by decide +kernel) rfl xall_nil (xSee_nil _) rfl rfl ?_
      exact xRn.iret (by decide +kernel) rfl rfl ⟨_, _, _, rfl, rfl, h⟩
    · rintro _ _ ⟨_, _, e9, _⟩
      cases e9
def w_T_taken_93   (K : Int32 → XS → List AE → Prop) (S : XS) (r : List AE) : Prop :=
  (((gF S 6) ≤ (gF S 301) → ((¬ (gF S 5) = 0 → (w_T_taken_142 K S r)) ∧ ((gF S 5) = 0 → (w_T_send (sF (sF S 5 1) 10 (gF S 9)) r 6 (gF S 303) 0 (fun S14 r15 => (w_T_taken_142 K S14 r15)))))) ∧ (¬ (gF S 6) ≤ (gF S 301) → (w_T_below S r  (fun x16 S17 r18 => (K x16 S17 r18)))))
set_option maxRecDepth 100000 in
theorem t_T_taken_93 {G : XG} {l : Launch} {d : Nat} {K : Int32 → XS → List AE → Prop} (S : XS) (r : List AE) (h : w_T_taken_93 K S r) : xRn G l (d + 9) xm_T_taken (pI K) 93 [.ref 16, .ref 19, .null] [] (hL S r) := by
  refine xRn.blk (pc1 := 101) (ls1 := [.ref 16, .ref 19, .null]) (st1 := [.int (gF S 6), .int (gF S 301)]) (hp1 := (hL S r)) (ob := [(19 : Nat) = 19, (16 : Nat) = 16]) [(.aload_n 1, 1, 1, 0, 0, 0), (.getfield 237, 3, 1, 2, 0, 0), (.aload_n 0, 1, 0, 0, 0, 0), (.getfield 67, 3, 6, 0, 1, 0)] [(19, xc3 S), (16, xc0 S)] (by decide +kernel) rfl (xall_cons rfl (xall_cons rfl xall_nil)) (xSee_cons rfl (xne_cons (by decide) (xne_nil _)) (xSee_cons rfl (xne_nil _) (xSee_nil _))) rfl rfl ?_
  refine xRn.ic_ge (tgt := 110) (nx := 104) (off := 9) (by decide +kernel) (by decide) rfl (fun c11 => ?_) (fun c11 => ?_)
  · have h := h.1 c11
    refine xRn.blk (pc1 := 114) (ls1 := [.ref 16, .ref 19, .null]) (st1 := [.int (gF S 5)]) (hp1 := (hL S r)) (ob := [(16 : Nat) = 16]) [(.aload_n 0, 1, 0, 0, 0, 0), (.getfield 99, 3, 5, 0, 0, 0)] [(16, xc0 S)] (by decide +kernel) rfl (xall_cons rfl xall_nil) (xSee_cons rfl (xne_nil _) (xSee_nil _)) rfl rfl ?_
    refine xRn.if_ne (tgt := 142) (nx := 117) (off := 28) (by decide +kernel) (by decide) rfl (fun c12 => ?_) (fun c12 => ?_)
    · have h := h.1 c12
      refine xRn.forget (xle_eq (xle_eq (xle_eq xle_nil))) ?_
      exact t_T_taken_142   S r h
    · have h := h.2 c12
      refine xRn.blk (pc1 := 139) (ls1 := [.ref 16, .ref 19, .null]) (st1 := [.int 0, .int (gF S 303), .ref 6, .ref 16]) (hp1 := (hL (sF (sF S 5 1) 10 (gF S 9)) r)) (ob := [(16 : Nat) = 16, narrow .boolean (.int 1) = .int 1 ∧ fits .boolean (.int 1) = true, (16 : Nat) = 16, (16 : Nat) = 16, (19 : Nat) = 19]) [(.aload_n 0, 1, 0, 0, 0, 0), (.iconst 1, 1, 0, 0, 0, 1), (.putfield 99, 3, 5, 0, 0, 0), (.aload_n 0, 1, 0, 0, 0, 0), (.aload_n 0, 1, 0, 0, 0, 0), (.getfield 93, 3, 9, 0, 0, 0), (.putfield 225, 3, 10, 0, 0, 0), (.aload_n 0, 1, 0, 0, 0, 0), (.getstatic 19, 3, 5, 0, 0, 0), (.aload_n 1, 1, 1, 0, 0, 0), (.getfield 231, 3, 3, 2, 1, 0), (.iconst 0, 1, 0, 0, 0, 0)] [(16, xc0 S), (19, xc3 S)] (by decide +kernel) rfl (xall_cons rfl (xall_cons (⟨rfl, rfl⟩) (xall_cons rfl (xall_cons rfl (xall_cons rfl xall_nil))))) (xSee_cons rfl (xne_cons (by decide) (xne_nil _)) (xSee_cons rfl (xne_nil _) (xSee_nil _))) rfl rfl ?_
      refine xRn.callV (al := [.ref 6, .int (gF S 303), .int 0]) (st := []) (nx := 142) (by decide +kernel) lk_V_T_taken_166_T_send_0_3 rfl rfl (c_T_send (d := d + 4) (sF (sF S 5 1) 10 (gF S 9)) r 6 (gF S 303) 0 h) rfl (Nat.le_of_ble_eq_true rfl) rfl rfl ?_ ?_
      · rintro _ _ ⟨S14, r15, e9, rfl, h⟩
        cases e9
        show xRn G l _ _ _ 142 [.ref 16, .ref 19, .null] [] (hL S14 r15)
        refine xRn.forget (xle_eq (xle_eq (xle_eq xle_nil))) ?_
        exact t_T_taken_142   S14 r15 h
      · rintro _ _ ⟨_, _, e9, _⟩
        cases e9
  · have h := h.2 c11
    refine xRn.blk (pc1 := 106) (ls1 := [.ref 16, .ref 19, .null]) (st1 := [.ref 19, .ref 16]) (hp1 := (hL S r)) (ob := []) [(.aload_n 0, 1, 0, 0, 0, 0), (.aload_n 1, 1, 1, 0, 0, 0)] [] (by decide +kernel) rfl xall_nil (xSee_nil _) rfl rfl ?_
    refine xRn.callV (al := [.ref 19]) (st := []) (nx := 109) (by decide +kernel) lk_V_T_taken_238_T_below_0_1 rfl rfl (c_T_below (d := d + 3) S r  h) rfl (Nat.le_of_ble_eq_true rfl) rfl rfl ?_ ?_
    · rintro _ _ ⟨x16, S17, r18, e9, rfl, h⟩
      cases e9
      show xRn G l _ _ _ 109 [.ref 16, .ref 19, .null] [.int x16] (hL S17 r18)
      exact xRn.iret (by decide +kernel) rfl rfl ⟨_, _, _, rfl, rfl, h⟩
    · rintro _ _ ⟨_, _, _, e9, _⟩
      cases e9
def w_T_taken_75   (K : Int32 → XS → List AE → Prop) (S : XS) (r : List AE) (v2 : Int32) : Prop :=
  (w_T_moveTo S r (gF S 303) (fun S20 r21 => ((v2 = 0 → (K 1 S20 r21)) ∧ (¬ v2 = 0 → (K 2 S20 r21)))))
set_option maxRecDepth 100000 in
theorem t_T_taken_75 {G : XG} {l : Launch} {d : Nat} {K : Int32 → XS → List AE → Prop} (S : XS) (r : List AE) (v2 : Int32) (h : w_T_taken_75 K S r v2) : xRn G l (d + 9) xm_T_taken (pI K) 75 [.ref 16, .ref 19, .int v2] [] (hL S r) := by
  refine xRn.blk (pc1 := 80) (ls1 := [.ref 16, .ref 19, .int v2]) (st1 := [.int (gF S 303), .ref 16]) (hp1 := (hL S r)) (ob := [(19 : Nat) = 19]) [(.aload_n 0, 1, 0, 0, 0, 0), (.aload_n 1, 1, 1, 0, 0, 0), (.getfield 231, 3, 3, 2, 0, 0)] [(19, xc3 S)] (by decide +kernel) rfl (xall_cons rfl xall_nil) (xSee_cons rfl (xne_nil _) (xSee_nil _)) rfl rfl ?_
  refine xRn.callV (al := [.int (gF S 303)]) (st := []) (nx := 83) (by decide +kernel) lk_V_T_taken_234_T_moveTo_0_1 rfl rfl (c_T_moveTo (d := d + 7) S r (gF S 303) h) rfl (Nat.le_of_ble_eq_true rfl) rfl rfl ?_ ?_
  · rintro _ _ ⟨S20, r21, e9, rfl, h⟩
    cases e9
    show xRn G l _ _ _ 83 [.ref 16, .ref 19, .int v2] [] (hL S20 r21)
    refine xRn.blk (pc1 := 84) (ls1 := [.ref 16, .ref 19, .int v2]) (st1 := [.int v2]) (hp1 := (hL S20 r21)) (ob := []) [(.iload_n 2, 1, 2, 0, 0, 0)] [] (by decide +kernel) rfl xall_nil (xSee_nil _) rfl rfl ?_
    refine xRn.if_eq (tgt := 91) (nx := 87) (off := 7) (by decide +kernel) (by decide) rfl (fun c22 => ?_) (fun c22 => ?_)
    · have h := h.1 c22
      refine xRn.blk (pc1 := 92) (ls1 := [.ref 16, .ref 19, .int v2]) (st1 := [.int 1]) (hp1 := (hL S20 r21)) (ob := []) [(.iconst 1, 1, 0, 0, 0, 1)] [] (by decide +kernel) rfl xall_nil (xSee_nil _) rfl rfl ?_
      exact xRn.iret (by decide +kernel) rfl rfl ⟨_, _, _, rfl, rfl, h⟩
    · have h := h.2 c22
      refine xRn.blk (pc1 := 88) (ls1 := [.ref 16, .ref 19, .int v2]) (st1 := [.int 2]) (hp1 := (hL S20 r21)) (ob := []) [(.iconst 2, 1, 0, 0, 0, 2)] [] (by decide +kernel) rfl xall_nil (xSee_nil _) rfl rfl ?_
      refine xRn.goto (tgt := 92) (off := 4) (by decide +kernel) (by decide) ?_
      exact xRn.iret (by decide +kernel) rfl rfl ⟨_, _, _, rfl, rfl, h⟩
  · rintro _ _ ⟨_, _, e9, _⟩
    cases e9
def w_T_taken_41   (K : Int32 → XS → List AE → Prop) (S : XS) (r : List AE) : Prop :=
  ((gR S 300) ≤ 10) ∧ ((¬ (gR S 300) = 4 → (w_T_taken_93 K S r)) ∧ ((gR S 300) = 4 → ((¬ (gF S 304) = 0 → (w_T_taken_93 K S r)) ∧ ((gF S 304) = 0 → (((gF S 303) ≤ (gF S 6) → (w_T_taken_75 K S r 0)) ∧ (¬ (gF S 303) ≤ (gF S 6) → (w_T_taken_75 K S r 1)))))))
set_option maxRecDepth 100000 in
theorem t_T_taken_41 {G : XG} {l : Launch} {d : Nat} {K : Int32 → XS → List AE → Prop} (S : XS) (r : List AE) (h : w_T_taken_41 K S r) : xRn G l (d + 9) xm_T_taken (pI K) 41 [.ref 16, .ref 19, .null] [] (hL S r) := by
  refine xRn.blk (pc1 := 48) (ls1 := [.ref 16, .ref 19, .null]) (st1 := [.ref 4, .ref (gR S 300)]) (hp1 := (hL S r)) (ob := [(19 : Nat) = 19]) [(.aload_n 1, 1, 1, 0, 0, 0), (.getfield 222, 3, 0, 2, 0, 0), (.getstatic 13, 3, 3, 0, 0, 0)] [(19, xc3 S)] (by decide +kernel) rfl (xall_cons rfl xall_nil) (xSee_cons rfl (xne_nil _) (xSee_nil _)) rfl rfl ?_
  obtain ⟨o23, h⟩ := h
  refine xRn.ac_ne (tgt := 93) (nx := 51) (off := 45) (by decide +kernel) (by decide) rfl o23 (by decide) (fun c24 => ?_) (fun c24 => ?_)
  · have h := h.1 c24
    refine xRn.forget (xle_eq (xle_eq (xle_eq xle_nil))) ?_
    exact t_T_taken_93   S r h
  · have h := h.2 c24
    refine xRn.blk (pc1 := 55) (ls1 := [.ref 16, .ref 19, .null]) (st1 := [.int (gF S 304)]) (hp1 := (hL S r)) (ob := [(19 : Nat) = 19]) [(.aload_n 1, 1, 1, 0, 0, 0), (.getfield 228, 3, 4, 2, 0, 0)] [(19, xc3 S)] (by decide +kernel) rfl (xall_cons rfl xall_nil) (xSee_cons rfl (xne_nil _) (xSee_nil _)) rfl rfl ?_
    refine xRn.if_ne (tgt := 93) (nx := 58) (off := 38) (by decide +kernel) (by decide) rfl (fun c25 => ?_) (fun c25 => ?_)
    · have h := h.1 c25
      refine xRn.forget (xle_eq (xle_eq (xle_eq xle_nil))) ?_
      exact t_T_taken_93   S r h
    · have h := h.2 c25
      refine xRn.blk (pc1 := 66) (ls1 := [.ref 16, .ref 19, .null]) (st1 := [.int (gF S 6), .int (gF S 303)]) (hp1 := (hL S r)) (ob := [(19 : Nat) = 19, (16 : Nat) = 16]) [(.aload_n 1, 1, 1, 0, 0, 0), (.getfield 231, 3, 3, 2, 0, 0), (.aload_n 0, 1, 0, 0, 0, 0), (.getfield 67, 3, 6, 0, 1, 0)] [(19, xc3 S), (16, xc0 S)] (by decide +kernel) rfl (xall_cons rfl (xall_cons rfl xall_nil)) (xSee_cons rfl (xne_cons (by decide) (xne_nil _)) (xSee_cons rfl (xne_nil _) (xSee_nil _))) rfl rfl ?_
      refine xRn.ic_le (tgt := 73) (nx := 69) (off := 7) (by decide +kernel) (by decide) rfl (fun c26 => ?_) (fun c26 => ?_)
      · have h := h.1 c26
        refine xRn.blk (pc1 := 75) (ls1 := [.ref 16, .ref 19, .int 0]) (st1 := []) (hp1 := (hL S r)) (ob := []) [(.iconst 0, 1, 0, 0, 0, 0), (.istore_n 2, 1, 2, 0, 0, 0)] [] (by decide +kernel) rfl xall_nil (xSee_nil _) rfl rfl ?_
        refine xRn.forget (xle_eq (xle_eq (xle_eq xle_nil))) ?_
        exact t_T_taken_75   S r 0 h
      · have h := h.2 c26
        refine xRn.blk (pc1 := 70) (ls1 := [.ref 16, .ref 19, .null]) (st1 := [.int 1]) (hp1 := (hL S r)) (ob := []) [(.iconst 1, 1, 0, 0, 0, 1)] [] (by decide +kernel) rfl xall_nil (xSee_nil _) rfl rfl ?_
        refine xRn.goto (tgt := 74) (off := 4) (by decide +kernel) (by decide) ?_
        refine xRn.blk (pc1 := 75) (ls1 := [.ref 16, .ref 19, .int 1]) (st1 := []) (hp1 := (hL S r)) (ob := []) [(.istore_n 2, 1, 2, 0, 0, 0)] [] (by decide +kernel) rfl xall_nil (xSee_nil _) rfl rfl ?_
        refine xRn.forget (xle_eq (xle_eq (xle_eq xle_nil))) ?_
        exact t_T_taken_75   S r 1 h
def w_T_taken_19   (K : Int32 → XS → List AE → Prop) (S : XS) (r : List AE) : Prop :=
  (((gF S 5) = 0 → (w_T_taken_41 K (sF S 10 (gF S 10)) r)) ∧ (¬ (gF S 5) = 0 → (w_T_taken_41 K (sF S 10 (gF S 9)) r)))
set_option maxRecDepth 100000 in
theorem t_T_taken_19 {G : XG} {l : Launch} {d : Nat} {K : Int32 → XS → List AE → Prop} (S : XS) (r : List AE) (h : w_T_taken_19 K S r) : xRn G l (d + 9) xm_T_taken (pI K) 19 [.ref 16, .ref 19, .null] [] (hL S r) := by
  refine xRn.blk (pc1 := 24) (ls1 := [.ref 16, .ref 19, .null]) (st1 := [.int (gF S 5), .ref 16]) (hp1 := (hL S r)) (ob := [(16 : Nat) = 16]) [(.aload_n 0, 1, 0, 0, 0, 0), (.aload_n 0, 1, 0, 0, 0, 0), (.getfield 99, 3, 5, 0, 0, 0)] [(16, xc0 S)] (by decide +kernel) rfl (xall_cons rfl xall_nil) (xSee_cons rfl (xne_nil _) (xSee_nil _)) rfl rfl ?_
  refine xRn.if_eq (tgt := 34) (nx := 27) (off := 10) (by decide +kernel) (by decide) rfl (fun c27 => ?_) (fun c27 => ?_)
  · have h := h.1 c27
    refine xRn.blk (pc1 := 41) (ls1 := [.ref 16, .ref 19, .null]) (st1 := []) (hp1 := (hL (sF S 10 (gF S 10)) r)) (ob := [(16 : Nat) = 16, (16 : Nat) = 16]) [(.aload_n 0, 1, 0, 0, 0, 0), (.getfield 225, 3, 10, 0, 0, 0), (.putfield 225, 3, 10, 0, 0, 0)] [(16, xc0 S)] (by decide +kernel) rfl (xall_cons rfl (xall_cons rfl xall_nil)) (xSee_cons rfl (xne_nil _) (xSee_nil _)) rfl rfl ?_
    refine xRn.forget (xle_eq (xle_eq (xle_eq xle_nil))) ?_
    exact t_T_taken_41   (sF S 10 (gF S 10)) r h
  · have h := h.2 c27
    refine xRn.blk (pc1 := 31) (ls1 := [.ref 16, .ref 19, .null]) (st1 := [.int (gF S 9), .ref 16]) (hp1 := (hL S r)) (ob := [(16 : Nat) = 16]) [(.aload_n 0, 1, 0, 0, 0, 0), (.getfield 93, 3, 9, 0, 0, 0)] [(16, xc0 S)] (by decide +kernel) rfl (xall_cons rfl xall_nil) (xSee_cons rfl (xne_nil _) (xSee_nil _)) rfl rfl ?_
    refine xRn.goto (tgt := 38) (off := 7) (by decide +kernel) (by decide) ?_
    refine xRn.blk (pc1 := 41) (ls1 := [.ref 16, .ref 19, .null]) (st1 := []) (hp1 := (hL (sF S 10 (gF S 9)) r)) (ob := [(16 : Nat) = 16]) [(.putfield 225, 3, 10, 0, 0, 0)] [(16, xc0 S)] (by decide +kernel) rfl (xall_cons rfl xall_nil) (xSee_cons rfl (xne_nil _) (xSee_nil _)) rfl rfl ?_
    refine xRn.forget (xle_eq (xle_eq (xle_eq xle_nil))) ?_
    exact t_T_taken_41   (sF S 10 (gF S 9)) r h
def w_T_taken  (S : XS) (r : List AE) (K : Int32 → XS → List AE → Prop) : Prop :=
  ((¬ (gF S 5) = 0 → (w_T_taken_19 K S r)) ∧ ((gF S 5) = 0 → ((gR S 300) ≤ 10) ∧ (((gR S 300) = 6 → (w_T_taken_19 K S r)) ∧ (¬ (gR S 300) = 6 → (K 1 S r)))))
set_option maxRecDepth 100000 in
theorem c_T_taken {G : XG} {l : Launch} {d : Nat} (S : XS) (r : List AE) {K : Int32 → XS → List AE → Prop} (h : w_T_taken  S r K) : xCt G l (d + 9) xm_T_taken [.ref 16, .ref 19] (hL S r) (pI K) := by
  refine xCt.intro (by decide) (by decide) (List.forall_mem_cons.mpr ⟨rfl, (List.forall_mem_cons.mpr ⟨rfl, (fun _ h => by cases h)⟩)⟩) (Nat.le_of_ble_eq_true rfl) rfl ?_
  show xRn G l _ xm_T_taken _ 0 [.ref 16, .ref 19, .null] [] (hL S r)
  refine xRn.blk (pc1 := 4) (ls1 := [.ref 16, .ref 19, .null]) (st1 := [.int (gF S 5)]) (hp1 := (hL S r)) (ob := [(16 : Nat) = 16]) [(.aload_n 0, 1, 0, 0, 0, 0), (.getfield 99, 3, 5, 0, 0, 0)] [(16, xc0 S)] (by decide +kernel) rfl (xall_cons rfl xall_nil) (xSee_cons rfl (xne_nil _) (xSee_nil _)) rfl rfl ?_
  refine xRn.if_ne (tgt := 19) (nx := 7) (off := 15) (by decide +kernel) (by decide) rfl (fun c28 => ?_) (fun c28 => ?_)
  · have h := h.1 c28
    refine xRn.forget (xle_eq (xle_eq (xle_eq xle_nil))) ?_
    exact t_T_taken_19   S r h
  · have h := h.2 c28
    refine xRn.blk (pc1 := 14) (ls1 := [.ref 16, .ref 19, .null]) (st1 := [.ref 6, .ref (gR S 300)]) (hp1 := (hL S r)) (ob := [(19 : Nat) = 19]) [(.aload_n 1, 1, 1, 0, 0, 0), (.getfield 222, 3, 0, 2, 0, 0), (.getstatic 19, 3, 5, 0, 0, 0)] [(19, xc3 S)] (by decide +kernel) rfl (xall_cons rfl xall_nil) (xSee_cons rfl (xne_nil _) (xSee_nil _)) rfl rfl ?_
    obtain ⟨o29, h⟩ := h
    refine xRn.ac_eq (tgt := 19) (nx := 17) (off := 5) (by decide +kernel) (by decide) rfl o29 (by decide) (fun c30 => ?_) (fun c30 => ?_)
    · have h := h.1 c30
      refine xRn.forget (xle_eq (xle_eq (xle_eq xle_nil))) ?_
      exact t_T_taken_19   S r h
    · have h := h.2 c30
      refine xRn.blk (pc1 := 18) (ls1 := [.ref 16, .ref 19, .null]) (st1 := [.int 1]) (hp1 := (hL S r)) (ob := []) [(.iconst 1, 1, 0, 0, 0, 1)] [] (by decide +kernel) rfl xall_nil (xSee_nil _) rfl rfl ?_
      exact xRn.iret (by decide +kernel) rfl rfl ⟨_, _, _, rfl, rfl, h⟩
/-! T_take -/
def w_T_take  (S : XS) (r : List AE) (K : Int32 → XS → List AE → Prop) (KT : Nat → XS → List AE → Prop) : Prop :=
  ((¬ (gF S 101) = 0 → (w_T_garbled (sF S 4 0) r  (fun x2 S3 r4 => ((x2 = 0 → (w_T_taken (sF S3 101 0) r4  (fun x6 S7 r8 => (K x6 S7 r8)))) ∧ (¬ x2 = 0 → (K 0 (sF S3 101 0) r4)))))) ∧ ((gF S 101) = 0 → (bud r ∧ KT 8 S (r ++ [xO 8 []]))))
set_option maxRecDepth 100000 in
theorem c_T_take {G : XG} {l : Launch} {d : Nat} (S : XS) (r : List AE) {K : Int32 → XS → List AE → Prop} {KT : Nat → XS → List AE → Prop} (h : w_T_take  S r K KT) : xCt G l (d + 12) xm_T_take [.ref 16] (hL S r) (qI K KT) := by
  refine xCt.intro (by decide) (by decide) (List.forall_mem_cons.mpr ⟨rfl, (fun _ h => by cases h)⟩) (Nat.le_of_ble_eq_true rfl) rfl ?_
  show xRn G l _ xm_T_take _ 0 [.ref 16, .null] [] (hL S r)
  refine xRn.blk (pc1 := 7) (ls1 := [.ref 16, .null]) (st1 := [.int (gF S 101)]) (hp1 := (hL S r)) (ob := [(16 : Nat) = 16, (17 : Nat) = 17]) [(.aload_n 0, 1, 0, 0, 0, 0), (.getfield 43, 3, 0, 0, 0, 0), (.getfield 193, 3, 1, 1, 1, 0)] [(16, xc0 S), (17, xc1 S)] (by decide +kernel) rfl (xall_cons rfl (xall_cons rfl xall_nil)) (xSee_cons rfl (xne_cons (by decide) (xne_nil _)) (xSee_cons rfl (xne_nil _) (xSee_nil _))) rfl rfl ?_
  refine xRn.if_ne (tgt := 18) (nx := 10) (off := 11) (by decide +kernel) (by decide) rfl (fun c1 => ?_) (fun c1 => ?_)
  · have h := h.1 c1
    refine xRn.blk (pc1 := 24) (ls1 := [.ref 16, .null]) (st1 := [.ref 16]) (hp1 := (hL (sF S 4 0) r)) (ob := [(16 : Nat) = 16]) [(.aload_n 0, 1, 0, 0, 0, 0), (.iconst 0, 1, 0, 0, 0, 0), (.putfield 84, 3, 4, 0, 0, 0), (.aload_n 0, 1, 0, 0, 0, 0)] [(16, xc0 S)] (by decide +kernel) rfl (xall_cons rfl xall_nil) (xSee_cons rfl (xne_nil _) (xSee_nil _)) rfl rfl ?_
    refine xRn.callV (al := []) (st := []) (nx := 27) (by decide +kernel) lk_V_T_take_214_T_garbled_0_0 rfl rfl (c_T_garbled (d := d + 0) (sF S 4 0) r  h) rfl (Nat.le_of_ble_eq_true rfl) rfl rfl ?_ ?_
    · rintro _ _ ⟨x2, S3, r4, e9, rfl, h⟩
      cases e9
      show xRn G l _ _ _ 27 [.ref 16, .null] [.int x2] (hL S3 r4)
      refine xRn.blk (pc1 := 37) (ls1 := [.ref 16, .int x2]) (st1 := [.int x2]) (hp1 := (hL (sF S3 101 0) r4)) (ob := [(16 : Nat) = 16, (17 : Nat) = 17]) [(.istore_n 1, 1, 1, 0, 0, 0), (.aload_n 0, 1, 0, 0, 0, 0), (.getfield 43, 3, 0, 0, 0, 0), (.iconst 0, 1, 0, 0, 0, 0), (.putfield 193, 3, 1, 1, 1, 0), (.iload_n 1, 1, 1, 0, 0, 0)] [(16, xc0 S3), (17, xc1 S3)] (by decide +kernel) rfl (xall_cons rfl (xall_cons rfl xall_nil)) (xSee_cons rfl (xne_cons (by decide) (xne_nil _)) (xSee_cons rfl (xne_nil _) (xSee_nil _))) rfl rfl ?_
      refine xRn.if_eq (tgt := 44) (nx := 40) (off := 7) (by decide +kernel) (by decide) rfl (fun c5 => ?_) (fun c5 => ?_)
      · have h := h.1 c5
        refine xRn.blk (pc1 := 49) (ls1 := [.ref 16, .int x2]) (st1 := [.ref 19, .ref 16]) (hp1 := (hL (sF S3 101 0) r4)) (ob := [(16 : Nat) = 16]) [(.aload_n 0, 1, 0, 0, 0, 0), (.aload_n 0, 1, 0, 0, 0, 0), (.getfield 52, 3, 1, 0, 0, 0)] [(16, xc0 (sF S3 101 0))] (by decide +kernel) rfl (xall_cons rfl xall_nil) (xSee_cons rfl (xne_nil _) (xSee_nil _)) rfl rfl ?_
        refine xRn.callV (al := [.ref 19]) (st := []) (nx := 52) (by decide +kernel) lk_V_T_take_218_T_taken_0_1 rfl rfl (c_T_taken (d := d + 2) (sF S3 101 0) r4  h) rfl (Nat.le_of_ble_eq_true rfl) rfl rfl ?_ ?_
        · rintro _ _ ⟨x6, S7, r8, e9, rfl, h⟩
          cases e9
          show xRn G l _ _ _ 52 [.ref 16, .int x2] [.int x6] (hL S7 r8)
          exact xRn.iret (by decide +kernel) rfl rfl (Or.inl ⟨_, _, _, rfl, rfl, h⟩)
        · rintro _ _ ⟨_, _, _, e9, _⟩
          cases e9
      · have h := h.2 c5
        refine xRn.blk (pc1 := 41) (ls1 := [.ref 16, .int x2]) (st1 := [.int 0]) (hp1 := (hL (sF S3 101 0) r4)) (ob := []) [(.iconst 0, 1, 0, 0, 0, 0)] [] (by decide +kernel) rfl xall_nil (xSee_nil _) rfl rfl ?_
        refine xRn.goto (tgt := 52) (off := 11) (by decide +kernel) (by decide) ?_
        exact xRn.iret (by decide +kernel) rfl rfl (Or.inl ⟨_, _, _, rfl, rfl, h⟩)
    · rintro _ _ ⟨_, _, _, e9, _⟩
      cases e9
  · have h := h.2 c1
    obtain ⟨o9, h⟩ := h
    exact xRn.throwL (K := KT) (idx := 204) (ic := 206) (ci := 8) (pc1 := 13) (pc2 := 14) (pc3 := 17) (by decide +kernel) (by decide +kernel) (by decide +kernel) (by decide +kernel) rfl rfl rfl (by decide +kernel) (by decide) ha_T_206_8 (by decide +kernel) (by decide) (by omega) rfl o9 (fun _ _ h => Or.inr h) h
/-! T_tick -/
def w_T_tick_133   (K : Int32 → XS → List AE → Prop) (S : XS) (r : List AE) : Prop :=
  (K (gF S 9) S r)
set_option maxRecDepth 100000 in
theorem t_T_tick_133 {G : XG} {l : Launch} {d : Nat} {K : Int32 → XS → List AE → Prop} (S : XS) (r : List AE) (h : w_T_tick_133 K S r) : xRn G l (d + 6) xm_T_tick (pI K) 133 [.ref 16] [] (hL S r) := by
  refine xRn.blk (pc1 := 137) (ls1 := [.ref 16]) (st1 := [.int (gF S 9)]) (hp1 := (hL S r)) (ob := [(16 : Nat) = 16]) [(.aload_n 0, 1, 0, 0, 0, 0), (.getfield 93, 3, 9, 0, 0, 0)] [(16, xc0 S)] (by decide +kernel) rfl (xall_cons rfl xall_nil) (xSee_cons rfl (xne_nil _) (xSee_nil _)) rfl rfl ?_
  exact xRn.iret (by decide +kernel) rfl rfl ⟨_, _, _, rfl, rfl, h⟩
def w_T_tick_110   (K : Int32 → XS → List AE → Prop) (S : XS) (r : List AE) : Prop :=
  ((((gF S 9) - (gF S 11)) < (10 : Int32) → (w_T_tick_133 K S r)) ∧ (¬ ((gF S 9) - (gF S 11)) < (10 : Int32) → (w_T_send S r 1 (-1) 0 (fun S3 r4 => (w_T_tick_133 K S3 r4)))))
set_option maxRecDepth 100000 in
theorem t_T_tick_110 {G : XG} {l : Launch} {d : Nat} {K : Int32 → XS → List AE → Prop} (S : XS) (r : List AE) (h : w_T_tick_110 K S r) : xRn G l (d + 6) xm_T_tick (pI K) 110 [.ref 16] [] (hL S r) := by
  refine xRn.blk (pc1 := 121) (ls1 := [.ref 16]) (st1 := [.int 10, .int ((gF S 9) - (gF S 11))]) (hp1 := (hL S r)) (ob := [(16 : Nat) = 16, (16 : Nat) = 16]) [(.aload_n 0, 1, 0, 0, 0, 0), (.getfield 93, 3, 9, 0, 0, 0), (.aload_n 0, 1, 0, 0, 0, 0), (.getfield 96, 3, 11, 0, 0, 0), (.isub, 1, 0, 0, 0, 0), (.bipush 10, 2, 0, 0, 0, 10)] [(16, xc0 S)] (by decide +kernel) rfl (xall_cons rfl (xall_cons rfl xall_nil)) (xSee_cons rfl (xne_nil _) (xSee_nil _)) rfl rfl ?_
  refine xRn.ic_lt (tgt := 133) (nx := 124) (off := 12) (by decide +kernel) (by decide) rfl (fun c1 => ?_) (fun c1 => ?_)
  · have h := h.1 c1
    refine xRn.forget (xle_eq xle_nil) ?_
    exact t_T_tick_133   S r h
  · have h := h.2 c1
    refine xRn.blk (pc1 := 130) (ls1 := [.ref 16]) (st1 := [.int 0, .int (-1), .ref 1, .ref 16]) (hp1 := (hL S r)) (ob := []) [(.aload_n 0, 1, 0, 0, 0, 0), (.getstatic 1, 3, 0, 0, 0, 0), (.iconst (-1), 1, 0, 0, 0, (-1)), (.iconst 0, 1, 0, 0, 0, 0)] [] (by decide +kernel) rfl xall_nil (xSee_nil _) rfl rfl ?_
    refine xRn.callV (al := [.ref 1, .int (-1), .int 0]) (st := []) (nx := 133) (by decide +kernel) lk_V_T_tick_166_T_send_0_3 rfl rfl (c_T_send (d := d + 1) S r 1 (-1) 0 h) rfl (Nat.le_of_ble_eq_true rfl) rfl rfl ?_ ?_
    · rintro _ _ ⟨S3, r4, e9, rfl, h⟩
      cases e9
      show xRn G l _ _ _ 133 [.ref 16] [] (hL S3 r4)
      refine xRn.forget (xle_eq xle_nil) ?_
      exact t_T_tick_133   S3 r4 h
    · rintro _ _ ⟨_, _, e9, _⟩
      cases e9
def w_T_tick_85   (K : Int32 → XS → List AE → Prop) (S : XS) (r : List AE) : Prop :=
  (((gF S 8) ≤ 0 → (w_T_tick_110 K S r)) ∧ (¬ (gF S 8) ≤ 0 → ((((gF S 9) - (gF S 12)) < (8 : Int32) → (w_T_tick_110 K S r)) ∧ (¬ ((gF S 9) - (gF S 12)) < (8 : Int32) → (w_T_ask S r  (fun S8 r9 => (w_T_tick_110 K S8 r9)))))))
set_option maxRecDepth 100000 in
theorem t_T_tick_85 {G : XG} {l : Launch} {d : Nat} {K : Int32 → XS → List AE → Prop} (S : XS) (r : List AE) (h : w_T_tick_85 K S r) : xRn G l (d + 6) xm_T_tick (pI K) 85 [.ref 16] [] (hL S r) := by
  refine xRn.blk (pc1 := 89) (ls1 := [.ref 16]) (st1 := [.int (gF S 8)]) (hp1 := (hL S r)) (ob := [(16 : Nat) = 16]) [(.aload_n 0, 1, 0, 0, 0, 0), (.getfield 173, 3, 8, 0, 0, 0)] [(16, xc0 S)] (by decide +kernel) rfl (xall_cons rfl xall_nil) (xSee_cons rfl (xne_nil _) (xSee_nil _)) rfl rfl ?_
  refine xRn.if_le (tgt := 110) (nx := 92) (off := 21) (by decide +kernel) (by decide) rfl (fun c5 => ?_) (fun c5 => ?_)
  · have h := h.1 c5
    refine xRn.forget (xle_eq xle_nil) ?_
    exact t_T_tick_110   S r h
  · have h := h.2 c5
    refine xRn.blk (pc1 := 103) (ls1 := [.ref 16]) (st1 := [.int 8, .int ((gF S 9) - (gF S 12))]) (hp1 := (hL S r)) (ob := [(16 : Nat) = 16, (16 : Nat) = 16]) [(.aload_n 0, 1, 0, 0, 0, 0), (.getfield 93, 3, 9, 0, 0, 0), (.aload_n 0, 1, 0, 0, 0, 0), (.getfield 170, 3, 12, 0, 0, 0), (.isub, 1, 0, 0, 0, 0), (.bipush 8, 2, 0, 0, 0, 8)] [(16, xc0 S)] (by decide +kernel) rfl (xall_cons rfl (xall_cons rfl xall_nil)) (xSee_cons rfl (xne_nil _) (xSee_nil _)) rfl rfl ?_
    refine xRn.ic_lt (tgt := 110) (nx := 106) (off := 7) (by decide +kernel) (by decide) rfl (fun c6 => ?_) (fun c6 => ?_)
    · have h := h.1 c6
      refine xRn.forget (xle_eq xle_nil) ?_
      exact t_T_tick_110   S r h
    · have h := h.2 c6
      refine xRn.blk (pc1 := 107) (ls1 := [.ref 16]) (st1 := [.ref 16]) (hp1 := (hL S r)) (ob := []) [(.aload_n 0, 1, 0, 0, 0, 0)] [] (by decide +kernel) rfl xall_nil (xSee_nil _) rfl rfl ?_
      refine xRn.callV (al := []) (st := []) (nx := 110) (by decide +kernel) lk_V_T_tick_257_T_ask_0_0 rfl rfl (c_T_ask (d := d + 0) S r  h) rfl (Nat.le_of_ble_eq_true rfl) rfl rfl ?_ ?_
      · rintro _ _ ⟨S8, r9, e9, rfl, h⟩
        cases e9
        show xRn G l _ _ _ 110 [.ref 16] [] (hL S8 r9)
        refine xRn.forget (xle_eq xle_nil) ?_
        exact t_T_tick_110   S8 r9 h
      · rintro _ _ ⟨_, _, e9, _⟩
        cases e9
def w_T_tick_52   (K : Int32 → XS → List AE → Prop) (S : XS) (r : List AE) : Prop :=
  (((gF S 5) = 0 → (w_T_tick_133 K S r)) ∧ (¬ (gF S 5) = 0 → ((¬ ((gF S 9) - (gF S 10)) = (12 : Int32) → (w_T_tick_85 K S r)) ∧ (((gF S 9) - (gF S 10)) = (12 : Int32) → (w_T_send S r 2 (gF S 9) 0 (fun S13 r14 => (w_T_tick_85 K S13 r14)))))))
set_option maxRecDepth 100000 in
theorem t_T_tick_52 {G : XG} {l : Launch} {d : Nat} {K : Int32 → XS → List AE → Prop} (S : XS) (r : List AE) (h : w_T_tick_52 K S r) : xRn G l (d + 6) xm_T_tick (pI K) 52 [.ref 16] [] (hL S r) := by
  refine xRn.blk (pc1 := 56) (ls1 := [.ref 16]) (st1 := [.int (gF S 5)]) (hp1 := (hL S r)) (ob := [(16 : Nat) = 16]) [(.aload_n 0, 1, 0, 0, 0, 0), (.getfield 99, 3, 5, 0, 0, 0)] [(16, xc0 S)] (by decide +kernel) rfl (xall_cons rfl xall_nil) (xSee_cons rfl (xne_nil _) (xSee_nil _)) rfl rfl ?_
  refine xRn.if_eq (tgt := 133) (nx := 59) (off := 77) (by decide +kernel) (by decide) rfl (fun c10 => ?_) (fun c10 => ?_)
  · have h := h.1 c10
    refine xRn.forget (xle_eq xle_nil) ?_
    exact t_T_tick_133   S r h
  · have h := h.2 c10
    refine xRn.blk (pc1 := 70) (ls1 := [.ref 16]) (st1 := [.int 12, .int ((gF S 9) - (gF S 10))]) (hp1 := (hL S r)) (ob := [(16 : Nat) = 16, (16 : Nat) = 16]) [(.aload_n 0, 1, 0, 0, 0, 0), (.getfield 93, 3, 9, 0, 0, 0), (.aload_n 0, 1, 0, 0, 0, 0), (.getfield 225, 3, 10, 0, 0, 0), (.isub, 1, 0, 0, 0, 0), (.bipush 12, 2, 0, 0, 0, 12)] [(16, xc0 S)] (by decide +kernel) rfl (xall_cons rfl (xall_cons rfl xall_nil)) (xSee_cons rfl (xne_nil _) (xSee_nil _)) rfl rfl ?_
    refine xRn.ic_ne (tgt := 85) (nx := 73) (off := 15) (by decide +kernel) (by decide) rfl (fun c11 => ?_) (fun c11 => ?_)
    · have h := h.1 c11
      refine xRn.forget (xle_eq xle_nil) ?_
      exact t_T_tick_85   S r h
    · have h := h.2 c11
      refine xRn.blk (pc1 := 82) (ls1 := [.ref 16]) (st1 := [.int 0, .int (gF S 9), .ref 2, .ref 16]) (hp1 := (hL S r)) (ob := [(16 : Nat) = 16]) [(.aload_n 0, 1, 0, 0, 0, 0), (.getstatic 7, 3, 1, 0, 0, 0), (.aload_n 0, 1, 0, 0, 0, 0), (.getfield 93, 3, 9, 0, 0, 0), (.iconst 0, 1, 0, 0, 0, 0)] [(16, xc0 S)] (by decide +kernel) rfl (xall_cons rfl xall_nil) (xSee_cons rfl (xne_nil _) (xSee_nil _)) rfl rfl ?_
      refine xRn.callV (al := [.ref 2, .int (gF S 9), .int 0]) (st := []) (nx := 85) (by decide +kernel) lk_V_T_tick_166_T_send_0_3 rfl rfl (c_T_send (d := d + 1) S r 2 (gF S 9) 0 h) rfl (Nat.le_of_ble_eq_true rfl) rfl rfl ?_ ?_
      · rintro _ _ ⟨S13, r14, e9, rfl, h⟩
        cases e9
        show xRn G l _ _ _ 85 [.ref 16] [] (hL S13 r14)
        refine xRn.forget (xle_eq xle_nil) ?_
        exact t_T_tick_85   S13 r14 h
      · rintro _ _ ⟨_, _, e9, _⟩
        cases e9
def w_T_tick  (S : XS) (r : List AE) (K : Int32 → XS → List AE → Prop) : Prop :=
  (((gF S 5) = 0 → (w_T_tick_52 K (sF (sF S 4 0) 9 ((gF S 9) + 1)) r)) ∧ (¬ (gF S 5) = 0 → (((((gF S 9) + 1) - (gF S 10)) < (24 : Int32) → (w_T_tick_52 K (sF (sF S 4 0) 9 ((gF S 9) + 1)) r)) ∧ (¬ (((gF S 9) + 1) - (gF S 10)) < (24 : Int32) → (w_T_send (sF (sF S 4 0) 9 ((gF S 9) + 1)) r 5 0 0 (fun S18 r19 => (w_T_goOut S18 r19  (fun S21 r22 => (w_T_tick_133 K S21 r22)))))))))
set_option maxRecDepth 100000 in
theorem c_T_tick {G : XG} {l : Launch} {d : Nat} (S : XS) (r : List AE) {K : Int32 → XS → List AE → Prop} (h : w_T_tick  S r K) : xCt G l (d + 6) xm_T_tick [.ref 16] (hL S r) (pI K) := by
  refine xCt.intro (by decide) (by decide) (List.forall_mem_cons.mpr ⟨rfl, (fun _ h => by cases h)⟩) (Nat.le_of_ble_eq_true rfl) rfl ?_
  show xRn G l _ xm_T_tick _ 0 [.ref 16] [] (hL S r)
  refine xRn.blk (pc1 := 19) (ls1 := [.ref 16]) (st1 := [.int (gF S 5)]) (hp1 := (hL (sF (sF S 4 0) 9 ((gF S 9) + 1)) r)) (ob := [(16 : Nat) = 16, (16 : Nat) = 16, (16 : Nat) = 16, (16 : Nat) = 16]) [(.aload_n 0, 1, 0, 0, 0, 0), (.iconst 0, 1, 0, 0, 0, 0), (.putfield 84, 3, 4, 0, 0, 0), (.aload_n 0, 1, 0, 0, 0, 0), (.dup, 1, 0, 0, 0, 0), (.getfield 93, 3, 9, 0, 0, 0), (.iconst 1, 1, 0, 0, 0, 1), (.iadd, 1, 0, 0, 0, 0), (.putfield 93, 3, 9, 0, 0, 0), (.aload_n 0, 1, 0, 0, 0, 0), (.getfield 99, 3, 5, 0, 0, 0)] [(16, xc0 S)] (by decide +kernel) rfl (xall_cons rfl (xall_cons rfl (xall_cons rfl (xall_cons rfl xall_nil)))) (xSee_cons rfl (xne_nil _) (xSee_nil _)) rfl rfl ?_
  refine xRn.if_eq (tgt := 52) (nx := 22) (off := 33) (by decide +kernel) (by decide) rfl (fun c15 => ?_) (fun c15 => ?_)
  · have h := h.1 c15
    refine xRn.forget (xle_eq xle_nil) ?_
    exact t_T_tick_52   (sF (sF S 4 0) 9 ((gF S 9) + 1)) r h
  · have h := h.2 c15
    refine xRn.blk (pc1 := 33) (ls1 := [.ref 16]) (st1 := [.int 24, .int (((gF S 9) + 1) - (gF S 10))]) (hp1 := (hL (sF (sF S 4 0) 9 ((gF S 9) + 1)) r)) (ob := [(16 : Nat) = 16, (16 : Nat) = 16]) [(.aload_n 0, 1, 0, 0, 0, 0), (.getfield 93, 3, 9, 0, 0, 0), (.aload_n 0, 1, 0, 0, 0, 0), (.getfield 225, 3, 10, 0, 0, 0), (.isub, 1, 0, 0, 0, 0), (.bipush 24, 2, 0, 0, 0, 24)] [(16, xc0 (sF (sF S 4 0) 9 ((gF S 9) + 1)))] (by decide +kernel) rfl (xall_cons rfl (xall_cons rfl xall_nil)) (xSee_cons rfl (xne_nil _) (xSee_nil _)) rfl rfl ?_
    refine xRn.ic_lt (tgt := 52) (nx := 36) (off := 19) (by decide +kernel) (by decide) rfl (fun c16 => ?_) (fun c16 => ?_)
    · have h := h.1 c16
      refine xRn.forget (xle_eq xle_nil) ?_
      exact t_T_tick_52   (sF (sF S 4 0) 9 ((gF S 9) + 1)) r h
    · have h := h.2 c16
      refine xRn.blk (pc1 := 42) (ls1 := [.ref 16]) (st1 := [.int 0, .int 0, .ref 5, .ref 16]) (hp1 := (hL (sF (sF S 4 0) 9 ((gF S 9) + 1)) r)) (ob := []) [(.aload_n 0, 1, 0, 0, 0, 0), (.getstatic 16, 3, 4, 0, 0, 0), (.iconst 0, 1, 0, 0, 0, 0), (.iconst 0, 1, 0, 0, 0, 0)] [] (by decide +kernel) rfl xall_nil (xSee_nil _) rfl rfl ?_
      refine xRn.callV (al := [.ref 5, .int 0, .int 0]) (st := []) (nx := 45) (by decide +kernel) lk_V_T_tick_166_T_send_0_3 rfl rfl (c_T_send (d := d + 1) (sF (sF S 4 0) 9 ((gF S 9) + 1)) r 5 0 0 h) rfl (Nat.le_of_ble_eq_true rfl) rfl rfl ?_ ?_
      · rintro _ _ ⟨S18, r19, e9, rfl, h⟩
        cases e9
        show xRn G l _ _ _ 45 [.ref 16] [] (hL S18 r19)
        refine xRn.blk (pc1 := 46) (ls1 := [.ref 16]) (st1 := [.ref 16]) (hp1 := (hL S18 r19)) (ob := []) [(.aload_n 0, 1, 0, 0, 0, 0)] [] (by decide +kernel) rfl xall_nil (xSee_nil _) rfl rfl ?_
        refine xRn.callV (al := []) (st := []) (nx := 49) (by decide +kernel) lk_V_T_tick_251_T_goOut_0_0 rfl rfl (c_T_goOut (d := d + 5) S18 r19  h) rfl (Nat.le_of_ble_eq_true rfl) rfl rfl ?_ ?_
        · rintro _ _ ⟨S21, r22, e9, rfl, h⟩
          cases e9
          show xRn G l _ _ _ 49 [.ref 16] [] (hL S21 r22)
          refine xRn.goto (tgt := 133) (off := 84) (by decide +kernel) (by decide) ?_
          refine xRn.forget (xle_eq xle_nil) ?_
          exact t_T_tick_133   S21 r22 h
        · rintro _ _ ⟨_, _, e9, _⟩
          cases e9
      · rintro _ _ ⟨_, _, e9, _⟩
        cases e9
/-! T_restart -/
def w_T_restart  (S : XS) (r : List AE) (K : Int32 → XS → List AE → Prop) : Prop :=
  (w_T_goOut (sF S 4 0) r  (fun S2 r3 => (narrow .boolean (.int (gF S 5)) = .int (gF S 5) ∧ (K (gF S 5) S2 r3))))
set_option maxRecDepth 100000 in
theorem c_T_restart {G : XG} {l : Launch} {d : Nat} (S : XS) (r : List AE) {K : Int32 → XS → List AE → Prop} (h : w_T_restart  S r K) : xCt G l (d + 1) xm_T_restart [.ref 16] (hL S r) (pI K) := by
  refine xCt.intro (by decide) (by decide) (List.forall_mem_cons.mpr ⟨rfl, (fun _ h => by cases h)⟩) (Nat.le_of_ble_eq_true rfl) rfl ?_
  show xRn G l _ xm_T_restart _ 0 [.ref 16, .null] [] (hL S r)
  refine xRn.blk (pc1 := 11) (ls1 := [.ref 16, .int (gF S 5)]) (st1 := [.ref 16]) (hp1 := (hL (sF S 4 0) r)) (ob := [(16 : Nat) = 16, (16 : Nat) = 16]) [(.aload_n 0, 1, 0, 0, 0, 0), (.getfield 99, 3, 5, 0, 0, 0), (.istore_n 1, 1, 1, 0, 0, 0), (.aload_n 0, 1, 0, 0, 0, 0), (.iconst 0, 1, 0, 0, 0, 0), (.putfield 84, 3, 4, 0, 0, 0), (.aload_n 0, 1, 0, 0, 0, 0)] [(16, xc0 S)] (by decide +kernel) rfl (xall_cons rfl (xall_cons rfl xall_nil)) (xSee_cons rfl (xne_nil _) (xSee_nil _)) rfl rfl ?_
  refine xRn.callV (al := []) (st := []) (nx := 14) (by decide +kernel) lk_V_T_restart_251_T_goOut_0_0 rfl rfl (c_T_goOut (d := d + 0) (sF S 4 0) r  h) rfl (Nat.le_of_ble_eq_true rfl) rfl rfl ?_ ?_
  · rintro _ _ ⟨S2, r3, e9, rfl, h⟩
    cases e9
    show xRn G l _ _ _ 14 [.ref 16, .int (gF S 5)] [] (hL S2 r3)
    refine xRn.blk (pc1 := 15) (ls1 := [.ref 16, .int (gF S 5)]) (st1 := [.int (gF S 5)]) (hp1 := (hL S2 r3)) (ob := []) [(.iload_n 1, 1, 1, 0, 0, 0)] [] (by decide +kernel) rfl xall_nil (xSee_nil _) rfl rfl ?_
    obtain ⟨o4, h⟩ := h
    exact xRn.iret (by decide +kernel) rfl o4 ⟨_, _, _, rfl, rfl, h⟩
  · rintro _ _ ⟨_, _, e9, _⟩
    cases e9
/-! T_fill -/
def w_T_fill_43   (K : Int32 → XS → List AE → Prop) (KT : Nat → XS → List AE → Prop) (S : XS) (r : List AE) : Prop :=
  (bud r ∧ KT 7 S (r ++ [xO 7 []]))
set_option maxRecDepth 100000 in
theorem t_T_fill_43 {G : XG} {l : Launch} {d : Nat} {K : Int32 → XS → List AE → Prop} {KT : Nat → XS → List AE → Prop} (S : XS) (r : List AE) (h : w_T_fill_43 K KT S r) : xRn G l (d + 7) xm_T_fill (qI K KT) 43 [.null, .null, .null, .null] [] (hL S r) := by
  obtain ⟨o1, h⟩ := h
  exact xRn.throwL (K := KT) (idx := 184) (ic := 186) (ci := 7) (pc1 := 46) (pc2 := 47) (pc3 := 50) (by decide +kernel) (by decide +kernel) (by decide +kernel) (by decide +kernel) rfl rfl rfl (by decide +kernel) (by decide) ha_T_186_7 (by decide +kernel) (by decide) (by omega) rfl o1 (fun _ _ h => Or.inr h) h
def w_T_fill_17   (K : Int32 → XS → List AE → Prop) (KT : Nat → XS → List AE → Prop) (S : XS) (r : List AE) : Prop :=
  (bud r ∧ KT 10 S (r ++ [xO 10 []]))
set_option maxRecDepth 100000 in
theorem t_T_fill_17 {G : XG} {l : Launch} {d : Nat} {K : Int32 → XS → List AE → Prop} {KT : Nat → XS → List AE → Prop} (S : XS) (r : List AE) (h : w_T_fill_17 K KT S r) : xRn G l (d + 7) xm_T_fill (qI K KT) 17 [.null, .null, .null, .null] [] (hL S r) := by
  obtain ⟨o2, h⟩ := h
  exact xRn.throwL (K := KT) (idx := 323) (ic := 325) (ci := 10) (pc1 := 20) (pc2 := 21) (pc3 := 24) (by decide +kernel) (by decide +kernel) (by decide +kernel) (by decide +kernel) rfl rfl rfl (by decide +kernel) (by decide) ha_T_325_10 (by decide +kernel) (by decide) (by omega) rfl o2 (fun _ _ h => Or.inr h) h
def w_T_fill  (S : XS) (r : List AE) (p1 : Int32) (p2 : Int32) (K : Int32 → XS → List AE → Prop) (KT : Nat → XS → List AE → Prop) : Prop :=
  (w_T_find S r p1 (fun x3 S4 r5 => ((x3 = 0 → (w_T_fill_17 K KT S4 r5)) ∧ (¬ x3 = 0 → (∃ (i8 : Int32) (s9 : Int32) (q10 : Int32) (f11 : Int32) (c12 : Int32), rl r5 x3 = some (xO 4 [.int i8, .int s9, .int q10, .int f11, .int c12]) ∧ (w_O_open i8 s9 q10 f11 c12 (fun x13 => ((¬ x13 = 0 → ((p2 < (1 : Int32) → (w_T_fill_43 K KT S4 r5)) ∧ (¬ p2 < (1 : Int32) → ((p2 ≤ (q10 - f11) → (w_T_tell (sF S4 4 0) (rset r5 x3 (xO 4 [.int i8, .int s9, .int q10, .int (f11 + p2), .int c12])) x3 (fun S19 r20 => (∃ (i22 : Int32) (s23 : Int32) (q24 : Int32) (f25 : Int32) (c26 : Int32), rl r20 x3 = some (xO 4 [.int i22, .int s23, .int q24, .int f25, .int c26]) ∧ (K f25 S19 r20))))) ∧ (¬ p2 ≤ (q10 - f11) → (w_T_fill_43 K KT S4 r5)))))) ∧ (x13 = 0 → (w_T_fill_17 K KT S4 r5))))))))))
set_option maxRecDepth 100000 in
theorem c_T_fill {G : XG} {l : Launch} {d : Nat} (S : XS) (r : List AE) (p1 : Int32) (p2 : Int32) {K : Int32 → XS → List AE → Prop} {KT : Nat → XS → List AE → Prop} (h : w_T_fill  S r p1 p2 K KT) : xCt G l (d + 7) xm_T_fill [.ref 16, .int p1, .int p2] (hL S r) (qI K KT) := by
  refine xCt.intro (by decide) (by decide) (List.forall_mem_cons.mpr ⟨rfl, (List.forall_mem_cons.mpr ⟨rfl, (List.forall_mem_cons.mpr ⟨rfl, (fun _ h => by cases h)⟩)⟩)⟩) (Nat.le_of_ble_eq_true rfl) rfl ?_
  show xRn G l _ xm_T_fill _ 0 [.ref 16, .int p1, .int p2, .null] [] (hL S r)
  refine xRn.blk (pc1 := 2) (ls1 := [.ref 16, .int p1, .int p2, .null]) (st1 := [.int p1, .ref 16]) (hp1 := (hL S r)) (ob := []) [(.aload_n 0, 1, 0, 0, 0, 0), (.iload_n 1, 1, 1, 0, 0, 0)] [] (by decide +kernel) rfl xall_nil (xSee_nil _) rfl rfl ?_
  refine xRn.callV (al := [.int p1]) (st := []) (nx := 5) (by decide +kernel) lk_V_T_fill_316_T_find_0_1 rfl rfl (c_T_find (d := d + 6) S r p1 h) rfl (Nat.le_of_ble_eq_true rfl) rfl rfl ?_ ?_
  · rintro _ _ ⟨x3, S4, r5, e9, rfl, h⟩
    cases e9
    show xRn G l _ _ _ 5 [.ref 16, .int p1, .int p2, .null] [.ref x3] (hL S4 r5)
    refine xRn.blk (pc1 := 7) (ls1 := [.ref 16, .int p1, .int p2, .ref x3]) (st1 := [.ref x3]) (hp1 := (hL S4 r5)) (ob := []) [(.astore_n 3, 1, 3, 0, 0, 0), (.aload_n 3, 1, 3, 0, 0, 0)] [] (by decide +kernel) rfl xall_nil (xSee_nil _) rfl rfl ?_
    refine xRn.ifnull (tgt := 17) (nx := 10) (off := 10) (by decide +kernel) (by decide) rfl (fun c6 => ?_) (fun c6 => ?_)
    · have h := h.1 c6
      refine xRn.forget (xle_no (xle_no (xle_no (xle_no xle_nil)))) ?_
      exact t_T_fill_17   S4 r5 h
    · have h := h.2 c6
      refine xRn.blk (pc1 := 11) (ls1 := [.ref 16, .int p1, .int p2, .ref x3]) (st1 := [.ref x3]) (hp1 := (hL S4 r5)) (ob := []) [(.aload_n 3, 1, 3, 0, 0, 0)] [] (by decide +kernel) rfl xall_nil (xSee_nil _) rfl rfl ?_
      obtain ⟨i8, s9, q10, f11, c12, hd7, h⟩ := h
      refine xRn.callV (al := []) (st := []) (nx := 14) (by decide +kernel) lk_V_T_fill_320_O_open_4_0 (rl_at hd7) rfl (c_O_open (d := d + 6) _ _ (rl_at hd7) h) rfl (Nat.le_of_ble_eq_true rfl) rfl rfl ?_ ?_
      · rintro _ _ ⟨x13, e9, e8, h⟩
        cases e9
        rw [e8]
        show xRn G l _ _ _ 14 [.ref 16, .int p1, .int p2, .ref x3] [.int x13] (hL S4 r5)
        refine xRn.if_ne (tgt := 25) (nx := 17) (off := 11) (by decide +kernel) (by decide) rfl (fun c14 => ?_) (fun c14 => ?_)
        · have h := h.1 c14
          refine xRn.blk (pc1 := 27) (ls1 := [.ref 16, .int p1, .int p2, .ref x3]) (st1 := [.int 1, .int p2]) (hp1 := (hL S4 r5)) (ob := []) [(.iload_n 2, 1, 2, 0, 0, 0), (.iconst 1, 1, 0, 0, 0, 1)] [] (by decide +kernel) rfl xall_nil (xSee_nil _) rfl rfl ?_
          refine xRn.ic_lt (tgt := 43) (nx := 30) (off := 16) (by decide +kernel) (by decide) rfl (fun c15 => ?_) (fun c15 => ?_)
          · have h := h.1 c15
            refine xRn.forget (xle_no (xle_no (xle_no (xle_no xle_nil)))) ?_
            exact t_T_fill_43   S4 r5 h
          · have h := h.2 c15
            refine xRn.blk (pc1 := 40) (ls1 := [.ref 16, .int p1, .int p2, .ref x3]) (st1 := [.int (q10 - f11), .int p2]) (hp1 := (hL S4 r5)) (ob := [(x3 : Nat) = x3, (x3 : Nat) = x3]) [(.iload_n 2, 1, 2, 0, 0, 0), (.aload_n 3, 1, 3, 0, 0, 0), (.getfield 289, 3, 2, 4, 0, 0), (.aload_n 3, 1, 3, 0, 0, 0), (.getfield 285, 3, 3, 4, 0, 0), (.isub, 1, 0, 0, 0, 0)] [(x3, xO 4 [.int i8, .int s9, .int q10, .int f11, .int c12])] (by decide +kernel) rfl (xall_cons rfl (xall_cons rfl xall_nil)) (xSee_cons (rl_at hd7) (xne_nil _) (xSee_nil _)) rfl rfl ?_
            refine xRn.ic_le (tgt := 51) (nx := 43) (off := 11) (by decide +kernel) (by decide) rfl (fun c16 => ?_) (fun c16 => ?_)
            · have h := h.1 c16
              refine xRn.blk (pc1 := 63) (ls1 := [.ref 16, .int p1, .int p2, .ref x3]) (st1 := [.int (f11 + p2), .ref x3]) (hp1 := (hL (sF S4 4 0) r5)) (ob := [(16 : Nat) = 16, (x3 : Nat) = x3]) [(.aload_n 0, 1, 0, 0, 0, 0), (.iconst 0, 1, 0, 0, 0, 0), (.putfield 84, 3, 4, 0, 0, 0), (.aload_n 3, 1, 3, 0, 0, 0), (.dup, 1, 0, 0, 0, 0), (.getfield 285, 3, 3, 4, 1, 0), (.iload_n 2, 1, 2, 0, 0, 0), (.iadd, 1, 0, 0, 0, 0)] [(16, xc0 S4), (x3, xO 4 [.int i8, .int s9, .int q10, .int f11, .int c12])] (by decide +kernel) rfl (xall_cons rfl (xall_cons rfl xall_nil)) (xSee_cons rfl (xne_cons (by have h40 := (rl_ge hd7).1; omega) (xne_nil _)) (xSee_cons (rl_at hd7) (xne_nil _) (xSee_nil _))) rfl rfl ?_
              refine xRn.blk (pc1 := 68) (ls1 := [.ref 16, .int p1, .int p2, .ref x3]) (st1 := [.ref x3, .ref 16]) (hp1 := (hL (sF S4 4 0) (rset r5 x3 (xO 4 [.int i8, .int s9, .int q10, .int (f11 + p2), .int c12])))) (ob := [(x3 : Nat) = x3]) [(.putfield 285, 3, 3, 4, 0, 0), (.aload_n 0, 1, 0, 0, 0, 0), (.aload_n 3, 1, 3, 0, 0, 0)] [(x3, xO 4 [.int i8, .int s9, .int q10, .int f11, .int c12])] (by decide +kernel) rfl (xall_cons rfl xall_nil) (xSee_cons (rl_at hd7) (xne_nil _) (xSee_nil _)) rfl (by simp only [xputs, List.nil_append, List.cons_append, List.append_nil, List.foldl_cons, List.foldl_nil, List.set_cons_zero, List.set_cons_succ, hL_put _ (rl_ge hd7).1, rset_rset]) ?_
              have hd17 : rl (rset r5 x3 (xO 4 [.int i8, .int s9, .int q10, .int (f11 + p2), .int c12])) x3 = some (xO 4 [.int i8, .int s9, .int q10, .int (f11 + p2), .int c12]) := rl_rset hd7 _
              refine xRn.callV (al := [.ref x3]) (st := []) (nx := 71) (by decide +kernel) lk_V_T_fill_312_T_tell_0_1 rfl rfl (c_T_tell (d := d + 0) (sF S4 4 0) (rset r5 x3 (xO 4 [.int i8, .int s9, .int q10, .int (f11 + p2), .int c12])) x3 h) rfl (Nat.le_of_ble_eq_true rfl) rfl rfl ?_ ?_
              · rintro _ _ ⟨S19, r20, e9, rfl, h⟩
                cases e9
                show xRn G l _ _ _ 71 [.ref 16, .int p1, .int p2, .ref x3] [] (hL S19 r20)
                refine xRn.blk (pc1 := 72) (ls1 := [.ref 16, .int p1, .int p2, .ref x3]) (st1 := [.ref x3]) (hp1 := (hL S19 r20)) (ob := []) [(.aload_n 3, 1, 3, 0, 0, 0)] [] (by decide +kernel) rfl xall_nil (xSee_nil _) rfl rfl ?_
                obtain ⟨i22, s23, q24, f25, c26, hd21, h⟩ := h
                refine xRn.blk (pc1 := 75) (ls1 := [.ref 16, .int p1, .int p2, .ref x3]) (st1 := [.int f25]) (hp1 := (hL S19 r20)) (ob := [(x3 : Nat) = x3]) [(.getfield 285, 3, 3, 4, 0, 0)] [(x3, xO 4 [.int i22, .int s23, .int q24, .int f25, .int c26])] (by decide +kernel) rfl (xall_cons rfl xall_nil) (xSee_cons (rl_at hd21) (xne_nil _) (xSee_nil _)) rfl rfl ?_
                exact xRn.iret (by decide +kernel) rfl rfl (Or.inl ⟨_, _, _, rfl, rfl, h⟩)
              · rintro _ _ ⟨_, _, e9, _⟩
                cases e9
            · have h := h.2 c16
              refine xRn.forget (xle_no (xle_no (xle_no (xle_no xle_nil)))) ?_
              exact t_T_fill_43   S4 r5 h
        · have h := h.2 c14
          refine xRn.forget (xle_no (xle_no (xle_no (xle_no xle_nil)))) ?_
          exact t_T_fill_17   S4 r5 h
      · rintro _ _ ⟨_, e9, _⟩
        cases e9
  · rintro _ _ ⟨_, _, _, e9, _⟩
    cases e9
/-! T_frames -/
def w_T_frames  (S : XS) (r : List AE) (K : Int32 → XS → List AE → Prop) : Prop :=
  (K (gF S 4) S r)
set_option maxRecDepth 100000 in
theorem c_T_frames {G : XG} {l : Launch} {d : Nat} (S : XS) (r : List AE) {K : Int32 → XS → List AE → Prop} (h : w_T_frames  S r K) : xCt G l (d + 0) xm_T_frames [.ref 16] (hL S r) (pI K) := by
  refine xCt.intro (by decide) (by decide) (List.forall_mem_cons.mpr ⟨rfl, (fun _ h => by cases h)⟩) (Nat.le_of_ble_eq_true rfl) rfl ?_
  show xRn G l _ xm_T_frames _ 0 [.ref 16] [] (hL S r)
  refine xRn.blk (pc1 := 4) (ls1 := [.ref 16]) (st1 := [.int (gF S 4)]) (hp1 := (hL S r)) (ob := [(16 : Nat) = 16]) [(.aload_n 0, 1, 0, 0, 0, 0), (.getfield 84, 3, 4, 0, 0, 0)] [(16, xc0 S)] (by decide +kernel) rfl (xall_cons rfl xall_nil) (xSee_cons rfl (xne_nil _) (xSee_nil _)) rfl rfl ?_
  exact xRn.iret (by decide +kernel) rfl rfl ⟨_, _, _, rfl, rfl, h⟩
/-! T_kept -/
def w_T_kept_18   (K : Nat → XS → List AE → Prop) (KT : Nat → XS → List AE → Prop) (S : XS) (r : List AE) : Prop :=
  (bud r ∧ KT 9 S (r ++ [xO 9 []]))
set_option maxRecDepth 100000 in
theorem t_T_kept_18 {G : XG} {l : Launch} {d : Nat} {K : Nat → XS → List AE → Prop} {KT : Nat → XS → List AE → Prop} (S : XS) (r : List AE) (h : w_T_kept_18 K KT S r) : xRn G l (d + 6) xm_T_kept (qR K KT) 18 [.null, .null] [] (hL S r) := by
  obtain ⟨o1, h⟩ := h
  exact xRn.throwL (K := KT) (idx := 197) (ic := 199) (ci := 9) (pc1 := 21) (pc2 := 22) (pc3 := 25) (by decide +kernel) (by decide +kernel) (by decide +kernel) (by decide +kernel) rfl rfl rfl (by decide +kernel) (by decide) ha_T_199_9 (by decide +kernel) (by decide) (by omega) rfl o1 (fun _ _ h => Or.inr h) h
def w_T_kept  (S : XS) (r : List AE) (p1 : Int32) (K : Nat → XS → List AE → Prop) (KT : Nat → XS → List AE → Prop) : Prop :=
  ((p1 < 0 → (w_T_kept_18 K KT S r)) ∧ (¬ p1 < 0 → (((gF S 4) ≤ p1 → (w_T_kept_18 K KT S r)) ∧ (¬ (gF S 4) ≤ p1 → ((p1 < (20 : Int32) → (vp_in p1 21) ∧ (K ((gB S 5) p1.toNatClampNeg) S r)) ∧ (¬ p1 < (20 : Int32) → (w_T_kept_18 K KT S r)))))))
set_option maxRecDepth 100000 in
theorem c_T_kept {G : XG} {l : Launch} {d : Nat} (S : XS) (r : List AE) (p1 : Int32) {K : Nat → XS → List AE → Prop} {KT : Nat → XS → List AE → Prop} (h : w_T_kept  S r p1 K KT) : xCt G l (d + 6) xm_T_kept [.ref 16, .int p1] (hL S r) (qR K KT) := by
  refine xCt.intro (by decide) (by decide) (List.forall_mem_cons.mpr ⟨rfl, (List.forall_mem_cons.mpr ⟨rfl, (fun _ h => by cases h)⟩)⟩) (Nat.le_of_ble_eq_true rfl) rfl ?_
  show xRn G l _ xm_T_kept _ 0 [.ref 16, .int p1] [] (hL S r)
  refine xRn.blk (pc1 := 1) (ls1 := [.ref 16, .int p1]) (st1 := [.int p1]) (hp1 := (hL S r)) (ob := []) [(.iload_n 1, 1, 1, 0, 0, 0)] [] (by decide +kernel) rfl xall_nil (xSee_nil _) rfl rfl ?_
  refine xRn.if_lt (tgt := 18) (nx := 4) (off := 17) (by decide +kernel) (by decide) rfl (fun c2 => ?_) (fun c2 => ?_)
  · have h := h.1 c2
    refine xRn.forget (xle_no (xle_no xle_nil)) ?_
    exact t_T_kept_18   S r h
  · have h := h.2 c2
    refine xRn.blk (pc1 := 9) (ls1 := [.ref 16, .int p1]) (st1 := [.int (gF S 4), .int p1]) (hp1 := (hL S r)) (ob := [(16 : Nat) = 16]) [(.iload_n 1, 1, 1, 0, 0, 0), (.aload_n 0, 1, 0, 0, 0, 0), (.getfield 84, 3, 4, 0, 0, 0)] [(16, xc0 S)] (by decide +kernel) rfl (xall_cons rfl xall_nil) (xSee_cons rfl (xne_nil _) (xSee_nil _)) rfl rfl ?_
    refine xRn.ic_ge (tgt := 18) (nx := 12) (off := 9) (by decide +kernel) (by decide) rfl (fun c3 => ?_) (fun c3 => ?_)
    · have h := h.1 c3
      refine xRn.forget (xle_no (xle_no xle_nil)) ?_
      exact t_T_kept_18   S r h
    · have h := h.2 c3
      refine xRn.blk (pc1 := 15) (ls1 := [.ref 16, .int p1]) (st1 := [.int 20, .int p1]) (hp1 := (hL S r)) (ob := []) [(.iload_n 1, 1, 1, 0, 0, 0), (.bipush 20, 2, 0, 0, 0, 20)] [] (by decide +kernel) rfl xall_nil (xSee_nil _) rfl rfl ?_
      refine xRn.ic_lt (tgt := 26) (nx := 18) (off := 11) (by decide +kernel) (by decide) rfl (fun c4 => ?_) (fun c4 => ?_)
      · have h := h.1 c4
        obtain ⟨o5, h⟩ := h
        refine xRn.blk (pc1 := 32) (ls1 := [.ref 16, .int p1]) (st1 := [.ref ((gB S 5) p1.toNatClampNeg)]) (hp1 := (hL S r)) (ob := [(16 : Nat) = 16, (21 : Nat) = 21, vp_in p1 21]) [(.aload_n 0, 1, 0, 0, 0, 0), (.getfield 63, 3, 3, 0, 0, 0), (.iload_n 1, 1, 1, 0, 0, 0), (.aaload, 1, 0, 0, 1, 0)] [(16, xc0 S), (21, xc5 S)] (by decide +kernel) rfl (xall_cons rfl (xall_cons rfl (xall_cons o5 xall_nil))) (xSee_cons rfl (xne_cons (by decide) (xne_nil _)) (xSee_cons rfl (xne_nil _) (xSee_nil _))) rfl rfl ?_
        exact xRn.aret (by decide +kernel) rfl (Or.inl ⟨_, _, _, rfl, rfl, h⟩)
      · have h := h.2 c4
        refine xRn.forget (xle_no (xle_no xle_nil)) ?_
        exact t_T_kept_18   S r h
/-! T_length -/
def w_T_length  (S : XS) (r : List AE) (p1 : Int32) (K : Int32 → XS → List AE → Prop) (KT : Nat → XS → List AE → Prop) : Prop :=
  (w_T_kept S r p1 (fun x1 S2 r3 => (∃ (g5 : Nat) (L6 : Int32) (B7 : Int32), rl r3 x1 = some (xO 1 [.ref g5, .int L6, .int B7]) ∧ (K L6 S2 r3))) (fun ci S r => KT ci S r))
set_option maxRecDepth 100000 in
theorem c_T_length {G : XG} {l : Launch} {d : Nat} (S : XS) (r : List AE) (p1 : Int32) {K : Int32 → XS → List AE → Prop} {KT : Nat → XS → List AE → Prop} (h : w_T_length  S r p1 K KT) : xCt G l (d + 7) xm_T_length [.ref 16, .int p1] (hL S r) (qI K KT) := by
  refine xCt.intro (by decide) (by decide) (List.forall_mem_cons.mpr ⟨rfl, (List.forall_mem_cons.mpr ⟨rfl, (fun _ h => by cases h)⟩)⟩) (Nat.le_of_ble_eq_true rfl) rfl ?_
  show xRn G l _ xm_T_length _ 0 [.ref 16, .int p1] [] (hL S r)
  refine xRn.blk (pc1 := 2) (ls1 := [.ref 16, .int p1]) (st1 := [.int p1, .ref 16]) (hp1 := (hL S r)) (ob := []) [(.aload_n 0, 1, 0, 0, 0, 0), (.iload_n 1, 1, 1, 0, 0, 0)] [] (by decide +kernel) rfl xall_nil (xSee_nil _) rfl rfl ?_
  refine xRn.callV (al := [.int p1]) (st := []) (nx := 5) (by decide +kernel) lk_V_T_length_326_T_kept_0_1 rfl rfl (c_T_kept (d := d + 0) S r p1 h) rfl (Nat.le_of_ble_eq_true rfl) rfl rfl ?_ ?_
  · rintro _ _ (⟨x1, S2, r3, e9, rfl, h⟩ | ⟨_, _, _, _, e9, _⟩)
    · cases e9
      show xRn G l _ _ _ 5 [.ref 16, .int p1] [.ref x1] (hL S2 r3)
      obtain ⟨g5, L6, B7, hd4, h⟩ := h
      refine xRn.blk (pc1 := 8) (ls1 := [.ref 16, .int p1]) (st1 := [.int L6]) (hp1 := (hL S2 r3)) (ob := [(x1 : Nat) = x1]) [(.getfield 193, 3, 1, 1, 0, 0)] [(x1, xO 1 [.ref g5, .int L6, .int B7])] (by decide +kernel) rfl (xall_cons rfl xall_nil) (xSee_cons (rl_at hd4) (xne_nil _) (xSee_nil _)) rfl rfl ?_
      exact xRn.iret (by decide +kernel) rfl rfl (Or.inl ⟨_, _, _, rfl, rfl, h⟩)
    · cases e9
  · rintro n_ _ (⟨_, _, _, e9, _⟩ | ⟨_, _, S, r, e9, rfl, hx, h⟩) h16
    · cases e9
    · replace e9 := Sum.inr.inj e9
      subst e9
      exact xTh.out (by decide) h16 (Or.inr ⟨_, _, _, _, rfl, rfl, hx, h⟩)
/-! T_octet -/
def w_T_octet_18   (K : Int32 → XS → List AE → Prop) (KT : Nat → XS → List AE → Prop) (S : XS) (r : List AE) : Prop :=
  (bud r ∧ KT 9 S (r ++ [xO 9 []]))
set_option maxRecDepth 100000 in
theorem t_T_octet_18 {G : XG} {l : Launch} {d : Nat} {K : Int32 → XS → List AE → Prop} {KT : Nat → XS → List AE → Prop} (S : XS) (r : List AE) (h : w_T_octet_18 K KT S r) : xRn G l (d + 7) xm_T_octet (qI K KT) 18 [.null, .null, .null, .null] [] (hL S r) := by
  obtain ⟨o1, h⟩ := h
  exact xRn.throwL (K := KT) (idx := 197) (ic := 199) (ci := 9) (pc1 := 21) (pc2 := 22) (pc3 := 25) (by decide +kernel) (by decide +kernel) (by decide +kernel) (by decide +kernel) rfl rfl rfl (by decide +kernel) (by decide) ha_T_199_9 (by decide +kernel) (by decide) (by omega) rfl o1 (fun _ _ h => Or.inr h) h
def w_T_octet  (S : XS) (r : List AE) (p1 : Int32) (p2 : Int32) (K : Int32 → XS → List AE → Prop) (KT : Nat → XS → List AE → Prop) : Prop :=
  (w_T_kept S r p1 (fun x2 S3 r4 => ((p2 < 0 → (w_T_octet_18 K KT S3 r4)) ∧ (¬ p2 < 0 → (∃ (g7 : Nat) (L8 : Int32) (B9 : Int32), rl r4 x2 = some (xO 1 [.ref g7, .int L8, .int B9]) ∧ ((p2 < L8 → (∃ f12, rl r4 g7 = some (xI 1 120 f12) ∧ (vp_in p2 120) ∧ (K (f12 p2.toNatClampNeg) S3 r4))) ∧ (¬ p2 < L8 → (w_T_octet_18 K KT S3 r4))))))) (fun ci S r => KT ci S r))
set_option maxRecDepth 100000 in
theorem c_T_octet {G : XG} {l : Launch} {d : Nat} (S : XS) (r : List AE) (p1 : Int32) (p2 : Int32) {K : Int32 → XS → List AE → Prop} {KT : Nat → XS → List AE → Prop} (h : w_T_octet  S r p1 p2 K KT) : xCt G l (d + 7) xm_T_octet [.ref 16, .int p1, .int p2] (hL S r) (qI K KT) := by
  refine xCt.intro (by decide) (by decide) (List.forall_mem_cons.mpr ⟨rfl, (List.forall_mem_cons.mpr ⟨rfl, (List.forall_mem_cons.mpr ⟨rfl, (fun _ h => by cases h)⟩)⟩)⟩) (Nat.le_of_ble_eq_true rfl) rfl ?_
  show xRn G l _ xm_T_octet _ 0 [.ref 16, .int p1, .int p2, .null] [] (hL S r)
  refine xRn.blk (pc1 := 2) (ls1 := [.ref 16, .int p1, .int p2, .null]) (st1 := [.int p1, .ref 16]) (hp1 := (hL S r)) (ob := []) [(.aload_n 0, 1, 0, 0, 0, 0), (.iload_n 1, 1, 1, 0, 0, 0)] [] (by decide +kernel) rfl xall_nil (xSee_nil _) rfl rfl ?_
  refine xRn.callV (al := [.int p1]) (st := []) (nx := 5) (by decide +kernel) lk_V_T_octet_326_T_kept_0_1 rfl rfl (c_T_kept (d := d + 0) S r p1 h) rfl (Nat.le_of_ble_eq_true rfl) rfl rfl ?_ ?_
  · rintro _ _ (⟨x2, S3, r4, e9, rfl, h⟩ | ⟨_, _, _, _, e9, _⟩)
    · cases e9
      show xRn G l _ _ _ 5 [.ref 16, .int p1, .int p2, .null] [.ref x2] (hL S3 r4)
      refine xRn.blk (pc1 := 7) (ls1 := [.ref 16, .int p1, .int p2, .ref x2]) (st1 := [.int p2]) (hp1 := (hL S3 r4)) (ob := []) [(.astore_n 3, 1, 3, 0, 0, 0), (.iload_n 2, 1, 2, 0, 0, 0)] [] (by decide +kernel) rfl xall_nil (xSee_nil _) rfl rfl ?_
      refine xRn.if_lt (tgt := 18) (nx := 10) (off := 11) (by decide +kernel) (by decide) rfl (fun c5 => ?_) (fun c5 => ?_)
      · have h := h.1 c5
        refine xRn.forget (xle_no (xle_no (xle_no (xle_no xle_nil)))) ?_
        exact t_T_octet_18   S3 r4 h
      · have h := h.2 c5
        refine xRn.blk (pc1 := 12) (ls1 := [.ref 16, .int p1, .int p2, .ref x2]) (st1 := [.ref x2, .int p2]) (hp1 := (hL S3 r4)) (ob := []) [(.iload_n 2, 1, 2, 0, 0, 0), (.aload_n 3, 1, 3, 0, 0, 0)] [] (by decide +kernel) rfl xall_nil (xSee_nil _) rfl rfl ?_
        obtain ⟨g7, L8, B9, hd6, h⟩ := h
        refine xRn.blk (pc1 := 15) (ls1 := [.ref 16, .int p1, .int p2, .ref x2]) (st1 := [.int L8, .int p2]) (hp1 := (hL S3 r4)) (ob := [(x2 : Nat) = x2]) [(.getfield 193, 3, 1, 1, 0, 0)] [(x2, xO 1 [.ref g7, .int L8, .int B9])] (by decide +kernel) rfl (xall_cons rfl xall_nil) (xSee_cons (rl_at hd6) (xne_nil _) (xSee_nil _)) rfl rfl ?_
        refine xRn.ic_lt (tgt := 26) (nx := 18) (off := 11) (by decide +kernel) (by decide) rfl (fun c10 => ?_) (fun c10 => ?_)
        · have h := h.1 c10
          refine xRn.blk (pc1 := 31) (ls1 := [.ref 16, .int p1, .int p2, .ref x2]) (st1 := [.int p2, .ref g7]) (hp1 := (hL S3 r4)) (ob := [(x2 : Nat) = x2]) [(.aload_n 3, 1, 3, 0, 0, 0), (.getfield 200, 3, 0, 1, 0, 0), (.iload_n 2, 1, 2, 0, 0, 0)] [(x2, xO 1 [.ref g7, .int L8, .int B9])] (by decide +kernel) rfl (xall_cons rfl xall_nil) (xSee_cons (rl_at hd6) (xne_nil _) (xSee_nil _)) rfl rfl ?_
          obtain ⟨f12, hd11, h⟩ := h
          obtain ⟨o13, h⟩ := h
          refine xRn.blk (pc1 := 32) (ls1 := [.ref 16, .int p1, .int p2, .ref x2]) (st1 := [.int (f12 p2.toNatClampNeg)]) (hp1 := (hL S3 r4)) (ob := [(g7 : Nat) = g7, vp_in p2 120]) [(.baload, 1, 0, 0, 0, 0)] [(g7, xI 1 120 f12)] (by decide +kernel) rfl (xall_cons rfl (xall_cons o13 xall_nil)) (xSee_cons (rl_at hd11) (xne_nil _) (xSee_nil _)) rfl rfl ?_
          exact xRn.iret (by decide +kernel) rfl rfl (Or.inl ⟨_, _, _, rfl, rfl, h⟩)
        · have h := h.2 c10
          refine xRn.forget (xle_no (xle_no (xle_no (xle_no xle_nil)))) ?_
          exact t_T_octet_18   S3 r4 h
    · cases e9
  · rintro n_ _ (⟨_, _, _, e9, _⟩ | ⟨_, _, S, r, e9, rfl, hx, h⟩) h16
    · cases e9
    · replace e9 := Sum.inr.inj e9
      subst e9
      exact xTh.out (by decide) h16 (Or.inr ⟨_, _, _, _, rfl, rfl, hx, h⟩)
/-! T_session -/
def w_T_session  (S : XS) (r : List AE) (p1 : Int32) (K : Int32 → XS → List AE → Prop) (KT : Nat → XS → List AE → Prop) : Prop :=
  (((p1).toInt < 0 ∨ 6 < (p1).toInt → (bud r ∧ KT 9 S (r ++ [xO 9 []]))) ∧ ((p1).toInt = 0 → (K (gF S 6) S r)) ∧ ((p1).toInt = 1 → (K (gF S 7) S r)) ∧ ((p1).toInt = 2 → (K (gF S 8) S r)) ∧ ((p1).toInt = 3 → (((gF S 5) = 0 → (K 0 S r)) ∧ (¬ (gF S 5) = 0 → (K 1 S r)))) ∧ ((p1).toInt = 4 → (K (gF S 9) S r)) ∧ ((p1).toInt = 5 → (K (gF S 16) S r)) ∧ ((p1).toInt = 6 → (K (gF S 17) S r)))
set_option maxRecDepth 100000 in
theorem c_T_session {G : XG} {l : Launch} {d : Nat} (S : XS) (r : List AE) (p1 : Int32) {K : Int32 → XS → List AE → Prop} {KT : Nat → XS → List AE → Prop} (h : w_T_session  S r p1 K KT) : xCt G l (d + 6) xm_T_session [.ref 16, .int p1] (hL S r) (qI K KT) := by
  refine xCt.intro (by decide) (by decide) (List.forall_mem_cons.mpr ⟨rfl, (List.forall_mem_cons.mpr ⟨rfl, (fun _ h => by cases h)⟩)⟩) (Nat.le_of_ble_eq_true rfl) rfl ?_
  show xRn G l _ xm_T_session _ 0 [.ref 16, .int p1] [] (hL S r)
  refine xRn.blk (pc1 := 1) (ls1 := [.ref 16, .int p1]) (st1 := [.int p1]) (hp1 := (hL S r)) (ob := []) [(.iload_n 1, 1, 1, 0, 0, 0)] [] (by decide +kernel) rfl xall_nil (xSee_nil _) rfl rfl ?_
  have c1 : (((p1).toInt < 0 ∨ 6 < (p1).toInt) ∨ (p1).toInt = 0 ∨ (p1).toInt = 1 ∨ (p1).toInt = 2 ∨ (p1).toInt = 3 ∨ (p1).toInt = 4 ∨ (p1).toInt = 5 ∨ (p1).toInt = 6) := by omega
  rcases c1 with c1 | c1 | c1 | c1 | c1 | c1 | c1 | c1
  · have h := h.1 c1
    refine xRn.swOut (tgt := 87) (dflt := 86) (lo := 0) (hi := 6) (offs := #[43, 48, 53, 58, 71, 76, 81]) (len := 43) (by decide +kernel) c1 (by decide) ?_
    obtain ⟨o2, h⟩ := h
    exact xRn.throwL (K := KT) (idx := 197) (ic := 199) (ci := 9) (pc1 := 90) (pc2 := 91) (pc3 := 94) (by decide +kernel) (by decide +kernel) (by decide +kernel) (by decide +kernel) rfl rfl rfl (by decide +kernel) (by decide) ha_T_199_9 (by decide +kernel) (by decide) (by omega) rfl o2 (fun _ _ h => Or.inr h) h
  · have h := h.2.1 c1
    refine xRn.swIn (tgt := 44) (dflt := 86) (lo := 0) (hi := 6) (offs := #[43, 48, 53, 58, 71, 76, 81]) (len := 43) (off := 43) 0 (by decide +kernel) c1 (by decide) (by decide) (by decide) ?_
    refine xRn.blk (pc1 := 48) (ls1 := [.ref 16, .int p1]) (st1 := [.int (gF S 6)]) (hp1 := (hL S r)) (ob := [(16 : Nat) = 16]) [(.aload_n 0, 1, 0, 0, 0, 0), (.getfield 67, 3, 6, 0, 0, 0)] [(16, xc0 S)] (by decide +kernel) rfl (xall_cons rfl xall_nil) (xSee_cons rfl (xne_nil _) (xSee_nil _)) rfl rfl ?_
    exact xRn.iret (by decide +kernel) rfl rfl (Or.inl ⟨_, _, _, rfl, rfl, h⟩)
  · have h := h.2.2.1 c1
    refine xRn.swIn (tgt := 49) (dflt := 86) (lo := 0) (hi := 6) (offs := #[43, 48, 53, 58, 71, 76, 81]) (len := 43) (off := 48) 1 (by decide +kernel) c1 (by decide) (by decide) (by decide) ?_
    refine xRn.blk (pc1 := 53) (ls1 := [.ref 16, .int p1]) (st1 := [.int (gF S 7)]) (hp1 := (hL S r)) (ob := [(16 : Nat) = 16]) [(.aload_n 0, 1, 0, 0, 0, 0), (.getfield 71, 3, 7, 0, 0, 0)] [(16, xc0 S)] (by decide +kernel) rfl (xall_cons rfl xall_nil) (xSee_cons rfl (xne_nil _) (xSee_nil _)) rfl rfl ?_
    exact xRn.iret (by decide +kernel) rfl rfl (Or.inl ⟨_, _, _, rfl, rfl, h⟩)
  · have h := h.2.2.2.1 c1
    refine xRn.swIn (tgt := 54) (dflt := 86) (lo := 0) (hi := 6) (offs := #[43, 48, 53, 58, 71, 76, 81]) (len := 43) (off := 53) 2 (by decide +kernel) c1 (by decide) (by decide) (by decide) ?_
    refine xRn.blk (pc1 := 58) (ls1 := [.ref 16, .int p1]) (st1 := [.int (gF S 8)]) (hp1 := (hL S r)) (ob := [(16 : Nat) = 16]) [(.aload_n 0, 1, 0, 0, 0, 0), (.getfield 173, 3, 8, 0, 0, 0)] [(16, xc0 S)] (by decide +kernel) rfl (xall_cons rfl xall_nil) (xSee_cons rfl (xne_nil _) (xSee_nil _)) rfl rfl ?_
    exact xRn.iret (by decide +kernel) rfl rfl (Or.inl ⟨_, _, _, rfl, rfl, h⟩)
  · have h := h.2.2.2.2.1 c1
    refine xRn.swIn (tgt := 59) (dflt := 86) (lo := 0) (hi := 6) (offs := #[43, 48, 53, 58, 71, 76, 81]) (len := 43) (off := 58) 3 (by decide +kernel) c1 (by decide) (by decide) (by decide) ?_
    refine xRn.blk (pc1 := 63) (ls1 := [.ref 16, .int p1]) (st1 := [.int (gF S 5)]) (hp1 := (hL S r)) (ob := [(16 : Nat) = 16]) [(.aload_n 0, 1, 0, 0, 0, 0), (.getfield 99, 3, 5, 0, 0, 0)] [(16, xc0 S)] (by decide +kernel) rfl (xall_cons rfl xall_nil) (xSee_cons rfl (xne_nil _) (xSee_nil _)) rfl rfl ?_
    refine xRn.if_eq (tgt := 70) (nx := 66) (off := 7) (by decide +kernel) (by decide) rfl (fun c3 => ?_) (fun c3 => ?_)
    · have h := h.1 c3
      refine xRn.blk (pc1 := 71) (ls1 := [.ref 16, .int p1]) (st1 := [.int 0]) (hp1 := (hL S r)) (ob := []) [(.iconst 0, 1, 0, 0, 0, 0)] [] (by decide +kernel) rfl xall_nil (xSee_nil _) rfl rfl ?_
      exact xRn.iret (by decide +kernel) rfl rfl (Or.inl ⟨_, _, _, rfl, rfl, h⟩)
    · have h := h.2 c3
      refine xRn.blk (pc1 := 67) (ls1 := [.ref 16, .int p1]) (st1 := [.int 1]) (hp1 := (hL S r)) (ob := []) [(.iconst 1, 1, 0, 0, 0, 1)] [] (by decide +kernel) rfl xall_nil (xSee_nil _) rfl rfl ?_
      refine xRn.goto (tgt := 71) (off := 4) (by decide +kernel) (by decide) ?_
      exact xRn.iret (by decide +kernel) rfl rfl (Or.inl ⟨_, _, _, rfl, rfl, h⟩)
  · have h := h.2.2.2.2.2.1 c1
    refine xRn.swIn (tgt := 72) (dflt := 86) (lo := 0) (hi := 6) (offs := #[43, 48, 53, 58, 71, 76, 81]) (len := 43) (off := 71) 4 (by decide +kernel) c1 (by decide) (by decide) (by decide) ?_
    refine xRn.blk (pc1 := 76) (ls1 := [.ref 16, .int p1]) (st1 := [.int (gF S 9)]) (hp1 := (hL S r)) (ob := [(16 : Nat) = 16]) [(.aload_n 0, 1, 0, 0, 0, 0), (.getfield 93, 3, 9, 0, 0, 0)] [(16, xc0 S)] (by decide +kernel) rfl (xall_cons rfl xall_nil) (xSee_cons rfl (xne_nil _) (xSee_nil _)) rfl rfl ?_
    exact xRn.iret (by decide +kernel) rfl rfl (Or.inl ⟨_, _, _, rfl, rfl, h⟩)
  · have h := h.2.2.2.2.2.2.1 c1
    refine xRn.swIn (tgt := 77) (dflt := 86) (lo := 0) (hi := 6) (offs := #[43, 48, 53, 58, 71, 76, 81]) (len := 43) (off := 76) 5 (by decide +kernel) c1 (by decide) (by decide) (by decide) ?_
    refine xRn.blk (pc1 := 81) (ls1 := [.ref 16, .int p1]) (st1 := [.int (gF S 16)]) (hp1 := (hL S r)) (ob := [(16 : Nat) = 16]) [(.aload_n 0, 1, 0, 0, 0, 0), (.getfield 279, 3, 16, 0, 0, 0)] [(16, xc0 S)] (by decide +kernel) rfl (xall_cons rfl xall_nil) (xSee_cons rfl (xne_nil _) (xSee_nil _)) rfl rfl ?_
    exact xRn.iret (by decide +kernel) rfl rfl (Or.inl ⟨_, _, _, rfl, rfl, h⟩)
  · have h := h.2.2.2.2.2.2.2 c1
    refine xRn.swIn (tgt := 82) (dflt := 86) (lo := 0) (hi := 6) (offs := #[43, 48, 53, 58, 71, 76, 81]) (len := 43) (off := 81) 6 (by decide +kernel) c1 (by decide) (by decide) (by decide) ?_
    refine xRn.blk (pc1 := 86) (ls1 := [.ref 16, .int p1]) (st1 := [.int (gF S 17)]) (hp1 := (hL S r)) (ob := [(16 : Nat) = 16]) [(.aload_n 0, 1, 0, 0, 0, 0), (.getfield 263, 3, 17, 0, 0, 0)] [(16, xc0 S)] (by decide +kernel) rfl (xall_cons rfl xall_nil) (xSee_cons rfl (xne_nil _) (xSee_nil _)) rfl rfl ?_
    exact xRn.iret (by decide +kernel) rfl rfl (Or.inl ⟨_, _, _, rfl, rfl, h⟩)
/-! T_order -/
def w_T_order  (S : XS) (r : List AE) (p1 : Int32) (p2 : Int32) (K : Int32 → XS → List AE → Prop) (KT : Nat → XS → List AE → Prop) : Prop :=
  (w_T_find S r p1 (fun x1 S2 r3 => ((¬ x1 = 0 → (((p2).toInt < 0 ∨ 3 < (p2).toInt → (bud r3 ∧ KT 9 S2 (r3 ++ [xO 9 []]))) ∧ ((p2).toInt = 0 → (∃ (i8 : Int32) (s9 : Int32) (q10 : Int32) (f11 : Int32) (c12 : Int32), rl r3 x1 = some (xO 4 [.int i8, .int s9, .int q10, .int f11, .int c12]) ∧ (K s9 S2 r3))) ∧ ((p2).toInt = 1 → (∃ (i14 : Int32) (s15 : Int32) (q16 : Int32) (f17 : Int32) (c18 : Int32), rl r3 x1 = some (xO 4 [.int i14, .int s15, .int q16, .int f17, .int c18]) ∧ (K q16 S2 r3))) ∧ ((p2).toInt = 2 → (∃ (i20 : Int32) (s21 : Int32) (q22 : Int32) (f23 : Int32) (c24 : Int32), rl r3 x1 = some (xO 4 [.int i20, .int s21, .int q22, .int f23, .int c24]) ∧ (K f23 S2 r3))) ∧ ((p2).toInt = 3 → (∃ (i26 : Int32) (s27 : Int32) (q28 : Int32) (f29 : Int32) (c30 : Int32), rl r3 x1 = some (xO 4 [.int i26, .int s27, .int q28, .int f29, .int c30]) ∧ (w_O_state i26 s27 q28 f29 c30 (fun x31 => (K x31 S2 r3))))))) ∧ (x1 = 0 → (bud r3 ∧ KT 10 S2 (r3 ++ [xO 10 []]))))))
set_option maxRecDepth 100000 in
theorem c_T_order {G : XG} {l : Launch} {d : Nat} (S : XS) (r : List AE) (p1 : Int32) (p2 : Int32) {K : Int32 → XS → List AE → Prop} {KT : Nat → XS → List AE → Prop} (h : w_T_order  S r p1 p2 K KT) : xCt G l (d + 6) xm_T_order [.ref 16, .int p1, .int p2] (hL S r) (qI K KT) := by
  refine xCt.intro (by decide) (by decide) (List.forall_mem_cons.mpr ⟨rfl, (List.forall_mem_cons.mpr ⟨rfl, (List.forall_mem_cons.mpr ⟨rfl, (fun _ h => by cases h)⟩)⟩)⟩) (Nat.le_of_ble_eq_true rfl) rfl ?_
  show xRn G l _ xm_T_order _ 0 [.ref 16, .int p1, .int p2, .null] [] (hL S r)
  refine xRn.blk (pc1 := 2) (ls1 := [.ref 16, .int p1, .int p2, .null]) (st1 := [.int p1, .ref 16]) (hp1 := (hL S r)) (ob := []) [(.aload_n 0, 1, 0, 0, 0, 0), (.iload_n 1, 1, 1, 0, 0, 0)] [] (by decide +kernel) rfl xall_nil (xSee_nil _) rfl rfl ?_
  refine xRn.callV (al := [.int p1]) (st := []) (nx := 5) (by decide +kernel) lk_V_T_order_316_T_find_0_1 rfl rfl (c_T_find (d := d + 5) S r p1 h) rfl (Nat.le_of_ble_eq_true rfl) rfl rfl ?_ ?_
  · rintro _ _ ⟨x1, S2, r3, e9, rfl, h⟩
    cases e9
    show xRn G l _ _ _ 5 [.ref 16, .int p1, .int p2, .null] [.ref x1] (hL S2 r3)
    refine xRn.blk (pc1 := 7) (ls1 := [.ref 16, .int p1, .int p2, .ref x1]) (st1 := [.ref x1]) (hp1 := (hL S2 r3)) (ob := []) [(.astore_n 3, 1, 3, 0, 0, 0), (.aload_n 3, 1, 3, 0, 0, 0)] [] (by decide +kernel) rfl xall_nil (xSee_nil _) rfl rfl ?_
    refine xRn.ifnonnull (tgt := 18) (nx := 10) (off := 11) (by decide +kernel) (by decide) rfl (fun c4 => ?_) (fun c4 => ?_)
    · have h := h.1 c4
      refine xRn.blk (pc1 := 19) (ls1 := [.ref 16, .int p1, .int p2, .ref x1]) (st1 := [.int p2]) (hp1 := (hL S2 r3)) (ob := []) [(.iload_n 2, 1, 2, 0, 0, 0)] [] (by decide +kernel) rfl xall_nil (xSee_nil _) rfl rfl ?_
      have c5 : (((p2).toInt < 0 ∨ 3 < (p2).toInt) ∨ (p2).toInt = 0 ∨ (p2).toInt = 1 ∨ (p2).toInt = 2 ∨ (p2).toInt = 3) := by omega
      rcases c5 with c5 | c5 | c5 | c5 | c5
      · have h := h.1 c5
        refine xRn.swOut (tgt := 68) (dflt := 49) (lo := 0) (hi := 3) (offs := #[29, 34, 39, 44]) (len := 29) (by decide +kernel) c5 (by decide) ?_
        obtain ⟨o6, h⟩ := h
        exact xRn.throwL (K := KT) (idx := 197) (ic := 199) (ci := 9) (pc1 := 71) (pc2 := 72) (pc3 := 75) (by decide +kernel) (by decide +kernel) (by decide +kernel) (by decide +kernel) rfl rfl rfl (by decide +kernel) (by decide) ha_T_199_9 (by decide +kernel) (by decide) (by omega) rfl o6 (fun _ _ h => Or.inr h) h
      · have h := h.2.1 c5
        refine xRn.swIn (tgt := 48) (dflt := 49) (lo := 0) (hi := 3) (offs := #[29, 34, 39, 44]) (len := 29) (off := 29) 0 (by decide +kernel) c5 (by decide) (by decide) (by decide) ?_
        refine xRn.blk (pc1 := 49) (ls1 := [.ref 16, .int p1, .int p2, .ref x1]) (st1 := [.ref x1]) (hp1 := (hL S2 r3)) (ob := []) [(.aload_n 3, 1, 3, 0, 0, 0)] [] (by decide +kernel) rfl xall_nil (xSee_nil _) rfl rfl ?_
        obtain ⟨i8, s9, q10, f11, c12, hd7, h⟩ := h
        refine xRn.blk (pc1 := 52) (ls1 := [.ref 16, .int p1, .int p2, .ref x1]) (st1 := [.int s9]) (hp1 := (hL S2 r3)) (ob := [(x1 : Nat) = x1]) [(.getfield 306, 3, 1, 4, 0, 0)] [(x1, xO 4 [.int i8, .int s9, .int q10, .int f11, .int c12])] (by decide +kernel) rfl (xall_cons rfl xall_nil) (xSee_cons (rl_at hd7) (xne_nil _) (xSee_nil _)) rfl rfl ?_
        exact xRn.iret (by decide +kernel) rfl rfl (Or.inl ⟨_, _, _, rfl, rfl, h⟩)
      · have h := h.2.2.1 c5
        refine xRn.swIn (tgt := 53) (dflt := 49) (lo := 0) (hi := 3) (offs := #[29, 34, 39, 44]) (len := 29) (off := 34) 1 (by decide +kernel) c5 (by decide) (by decide) (by decide) ?_
        refine xRn.blk (pc1 := 54) (ls1 := [.ref 16, .int p1, .int p2, .ref x1]) (st1 := [.ref x1]) (hp1 := (hL S2 r3)) (ob := []) [(.aload_n 3, 1, 3, 0, 0, 0)] [] (by decide +kernel) rfl xall_nil (xSee_nil _) rfl rfl ?_
        obtain ⟨i14, s15, q16, f17, c18, hd13, h⟩ := h
        refine xRn.blk (pc1 := 57) (ls1 := [.ref 16, .int p1, .int p2, .ref x1]) (st1 := [.int q16]) (hp1 := (hL S2 r3)) (ob := [(x1 : Nat) = x1]) [(.getfield 289, 3, 2, 4, 0, 0)] [(x1, xO 4 [.int i14, .int s15, .int q16, .int f17, .int c18])] (by decide +kernel) rfl (xall_cons rfl xall_nil) (xSee_cons (rl_at hd13) (xne_nil _) (xSee_nil _)) rfl rfl ?_
        exact xRn.iret (by decide +kernel) rfl rfl (Or.inl ⟨_, _, _, rfl, rfl, h⟩)
      · have h := h.2.2.2.1 c5
        refine xRn.swIn (tgt := 58) (dflt := 49) (lo := 0) (hi := 3) (offs := #[29, 34, 39, 44]) (len := 29) (off := 39) 2 (by decide +kernel) c5 (by decide) (by decide) (by decide) ?_
        refine xRn.blk (pc1 := 59) (ls1 := [.ref 16, .int p1, .int p2, .ref x1]) (st1 := [.ref x1]) (hp1 := (hL S2 r3)) (ob := []) [(.aload_n 3, 1, 3, 0, 0, 0)] [] (by decide +kernel) rfl xall_nil (xSee_nil _) rfl rfl ?_
        obtain ⟨i20, s21, q22, f23, c24, hd19, h⟩ := h
        refine xRn.blk (pc1 := 62) (ls1 := [.ref 16, .int p1, .int p2, .ref x1]) (st1 := [.int f23]) (hp1 := (hL S2 r3)) (ob := [(x1 : Nat) = x1]) [(.getfield 285, 3, 3, 4, 0, 0)] [(x1, xO 4 [.int i20, .int s21, .int q22, .int f23, .int c24])] (by decide +kernel) rfl (xall_cons rfl xall_nil) (xSee_cons (rl_at hd19) (xne_nil _) (xSee_nil _)) rfl rfl ?_
        exact xRn.iret (by decide +kernel) rfl rfl (Or.inl ⟨_, _, _, rfl, rfl, h⟩)
      · have h := h.2.2.2.2 c5
        refine xRn.swIn (tgt := 63) (dflt := 49) (lo := 0) (hi := 3) (offs := #[29, 34, 39, 44]) (len := 29) (off := 44) 3 (by decide +kernel) c5 (by decide) (by decide) (by decide) ?_
        refine xRn.blk (pc1 := 64) (ls1 := [.ref 16, .int p1, .int p2, .ref x1]) (st1 := [.ref x1]) (hp1 := (hL S2 r3)) (ob := []) [(.aload_n 3, 1, 3, 0, 0, 0)] [] (by decide +kernel) rfl xall_nil (xSee_nil _) rfl rfl ?_
        obtain ⟨i26, s27, q28, f29, c30, hd25, h⟩ := h
        refine xRn.callV (al := []) (st := []) (nx := 67) (by decide +kernel) lk_V_T_order_283_O_state_4_0 (rl_at hd25) rfl (c_O_state (d := d + 4) _ _ (rl_at hd25) h) rfl (Nat.le_of_ble_eq_true rfl) rfl rfl ?_ ?_
        · rintro _ _ ⟨x31, e9, e8, h⟩
          cases e9
          rw [e8]
          show xRn G l _ _ _ 67 [.ref 16, .int p1, .int p2, .ref x1] [.int x31] (hL S2 r3)
          exact xRn.iret (by decide +kernel) rfl rfl (Or.inl ⟨_, _, _, rfl, rfl, h⟩)
        · rintro _ _ ⟨_, e9, _⟩
          cases e9
    · have h := h.2 c4
      obtain ⟨o32, h⟩ := h
      exact xRn.throwL (K := KT) (idx := 323) (ic := 325) (ci := 10) (pc1 := 13) (pc2 := 14) (pc3 := 17) (by decide +kernel) (by decide +kernel) (by decide +kernel) (by decide +kernel) rfl rfl rfl (by decide +kernel) (by decide) ha_T_325_10 (by decide +kernel) (by decide) (by omega) rfl o32 (fun _ _ h => Or.inr h) h
  · rintro _ _ ⟨_, _, _, e9, _⟩
    cases e9
