theorem lk_S_M_length_139_M_within_3 : xlkS xm_M_length 139 xm_M_within 3 := by unfold xlkS; decide +kernel
theorem lk_S_M_octet_139_M_within_3 : xlkS xm_M_octet 139 xm_M_within 3 := by unfold xlkS; decide +kernel
theorem lk_S_M_order_139_M_within_3 : xlkS xm_M_order 139 xm_M_within 3 := by unfold xlkS; decide +kernel
theorem lk_S_M_session_139_M_within_3 : xlkS xm_M_session 139 xm_M_within 3 := by unfold xlkS; decide +kernel
theorem lk_V_M_fill_143_M_fail_6_1 : xlkV xm_M_fill 143 xm_M_fail 6 1 := by unfold xlkV; decide +kernel
theorem lk_V_M_fill_201_M_openOrder_6_1 : xlkV xm_M_fill 201 xm_M_openOrder 6 1 := by unfold xlkV; decide +kernel
theorem lk_V_M_fill_211_M_tell_6_1 : xlkV xm_M_fill 211 xm_M_tell 6 1 := by unfold xlkV; decide +kernel
theorem lk_V_M_length_143_M_fail_6_1 : xlkV xm_M_length 143 xm_M_fail 6 1 := by unfold xlkV; decide +kernel
theorem lk_V_M_octet_143_M_fail_6_1 : xlkV xm_M_octet 143 xm_M_fail 6 1 := by unfold xlkV; decide +kernel
theorem lk_V_M_openOrder_195_M_state_6_1 : xlkV xm_M_openOrder 195 xm_M_state 6 1 := by unfold xlkV; decide +kernel
theorem lk_V_M_order_143_M_fail_6_1 : xlkV xm_M_order 143 xm_M_fail 6 1 := by unfold xlkV; decide +kernel
theorem lk_V_M_order_195_M_state_6_1 : xlkV xm_M_order 195 xm_M_state 6 1 := by unfold xlkV; decide +kernel
theorem lk_V_M_orderMessage_124_M_send_6_5 : xlkV xm_M_orderMessage 124 xm_M_send 6 5 := by unfold xlkV; decide +kernel
theorem lk_V_M_orderMessage_207_M_ordered_6_0 : xlkV xm_M_orderMessage 207 xm_M_ordered 6 0 := by unfold xlkV; decide +kernel
theorem lk_V_M_orderMessage_211_M_tell_6_1 : xlkV xm_M_orderMessage 211 xm_M_tell 6 1 := by unfold xlkV; decide +kernel
theorem lk_V_M_ordered_198_M_isUsed_6_1 : xlkV xm_M_ordered 198 xm_M_isUsed 6 1 := by unfold xlkV; decide +kernel
theorem lk_V_M_ordered_201_M_openOrder_6_1 : xlkV xm_M_ordered 201 xm_M_openOrder 6 1 := by unfold xlkV; decide +kernel
theorem lk_V_M_session_143_M_fail_6_1 : xlkV xm_M_session 143 xm_M_fail 6 1 := by unfold xlkV; decide +kernel
theorem lk_V_M_take_143_M_fail_6_1 : xlkV xm_M_take 143 xm_M_fail 6 1 := by unfold xlkV; decide +kernel
theorem lk_V_M_take_232_M_taken_6_0 : xlkV xm_M_take 232 xm_M_taken 6 0 := by unfold xlkV; decide +kernel
theorem lk_V_M_take_235_M_settle_6_0 : xlkV xm_M_take 235 xm_M_settle 6 0 := by unfold xlkV; decide +kernel
theorem lk_V_M_taken_124_M_send_6_5 : xlkV xm_M_taken 124 xm_M_send 6 5 := by unfold xlkV; decide +kernel
theorem lk_V_M_taken_214_M_good_6_0 : xlkV xm_M_taken 214 xm_M_good 6 0 := by unfold xlkV; decide +kernel
theorem lk_V_M_taken_220_M_leave_6_0 : xlkV xm_M_taken 220 xm_M_leave 6 0 := by unfold xlkV; decide +kernel
theorem lk_V_M_taken_223_M_answer_6_2 : xlkV xm_M_taken 223 xm_M_answer 6 2 := by unfold xlkV; decide +kernel
theorem lk_V_M_taken_226_M_ask_6_0 : xlkV xm_M_taken 226 xm_M_ask 6 0 := by unfold xlkV; decide +kernel
theorem lk_V_M_taken_229_M_orderMessage_6_0 : xlkV xm_M_taken 229 xm_M_orderMessage 6 0 := by unfold xlkV; decide +kernel
theorem lk_V_M_tell_124_M_send_6_5 : xlkV xm_M_tell 124 xm_M_send 6 5 := by unfold xlkV; decide +kernel
theorem lk_V_M_tell_195_M_state_6_1 : xlkV xm_M_tell 195 xm_M_state 6 1 := by unfold xlkV; decide +kernel
theorem lk_V_M_tick_124_M_send_6_5 : xlkV xm_M_tick 124 xm_M_send 6 5 := by unfold xlkV; decide +kernel
theorem lk_V_M_tick_220_M_leave_6_0 : xlkV xm_M_tick 220 xm_M_leave 6 0 := by unfold xlkV; decide +kernel
theorem lk_V_M_tick_226_M_ask_6_0 : xlkV xm_M_tick 226 xm_M_ask 6 0 := by unfold xlkV; decide +kernel
/-! M_isUsed -/
def w_M_isUsed_32 (k4 : XS → List AE → Int32 → Int32 → Int32 → Prop)  (K : Int32 → XS → List AE → Prop) (S : XS) (r : List AE) (v1 : Int32) (v2 : Int32) (v3 : Int32) : Prop :=
  (k4 S r v1 v2 (v3 + 1))
set_option maxRecDepth 100000 in
theorem t_M_isUsed_32 {G : XG} {l : Launch} {d : Nat} {k4 : XS → List AE → Int32 → Int32 → Int32 → Prop} {K : Int32 → XS → List AE → Prop} (hk4 : ∀ (S : XS) (r : List AE) (v1 : Int32) (v2 : Int32) (v3 : Int32), k4 S r v1 v2 v3 → xRn G l (d + 0) xm_M_isUsed (pI K) 4 [.ref 24, .int v1, .int v2, .int v3] [] (hL S r)) (S : XS) (r : List AE) (v1 : Int32) (v2 : Int32) (v3 : Int32) (h : w_M_isUsed_32 k4 K S r v1 v2 v3) : xRn G l (d + 0) xm_M_isUsed (pI K) 32 [.ref 24, .int v1, .int v2, .int v3] [] (hL S r) := by
  refine xRn.blk (pc1 := 35) (ls1 := [.ref 24, .int v1, .int v2, .int (v3 + 1)]) (st1 := []) (hp1 := (hL S r)) (ob := []) [(.iinc 3 1, 3, 3, 0, 0, 1)] [] (by decide +kernel) rfl xall_nil (xSee_nil _) rfl rfl ?_
  refine xRn.goto (tgt := 4) (off := (-31)) (by decide +kernel) (by decide) ?_
  refine xRn.forget (xle_eq (xle_eq (xle_eq (xle_eq xle_nil)))) ?_
  exact hk4 S r v1 v2 (v3 + 1) h
def w_M_isUsed_26 (k4 : XS → List AE → Int32 → Int32 → Int32 → Prop)  (K : Int32 → XS → List AE → Prop) (S : XS) (r : List AE) (v1 : Int32) (v3 : Int32) : Prop :=
  (w_M_isUsed_32 k4 K S r v1 1 v3)
set_option maxRecDepth 100000 in
theorem t_M_isUsed_26 {G : XG} {l : Launch} {d : Nat} {k4 : XS → List AE → Int32 → Int32 → Int32 → Prop} {K : Int32 → XS → List AE → Prop} (hk4 : ∀ (S : XS) (r : List AE) (v1 : Int32) (v2 : Int32) (v3 : Int32), k4 S r v1 v2 v3 → xRn G l (d + 0) xm_M_isUsed (pI K) 4 [.ref 24, .int v1, .int v2, .int v3] [] (hL S r)) (S : XS) (r : List AE) (v1 : Int32) (v3 : Int32) (h : w_M_isUsed_26 k4 K S r v1 v3) : xRn G l (d + 0) xm_M_isUsed (pI K) 26 [.ref 24, .int v1, .null, .int v3] [] (hL S r) := by
  refine xRn.blk (pc1 := 27) (ls1 := [.ref 24, .int v1, .null, .int v3]) (st1 := [.int 1]) (hp1 := (hL S r)) (ob := []) [(.iconst 1, 1, 0, 0, 0, 1)] [] (by decide +kernel) rfl xall_nil (xSee_nil _) rfl rfl ?_
  refine xRn.goto (tgt := 31) (off := 4) (by decide +kernel) (by decide) ?_
  refine xRn.blk (pc1 := 32) (ls1 := [.ref 24, .int v1, .int 1, .int v3]) (st1 := []) (hp1 := (hL S r)) (ob := []) [(.istore_n 2, 1, 2, 0, 0, 0)] [] (by decide +kernel) rfl xall_nil (xSee_nil _) rfl rfl ?_
  refine xRn.forget (xle_eq (xle_eq (xle_eq (xle_eq xle_nil)))) ?_
  exact t_M_isUsed_32  hk4 S r v1 1 v3 h
def w_M_isUsed_4   (K : Int32 → XS → List AE → Prop) : Nat → XS → List AE → Int32 → Int32 → Int32 → Prop
  | 0, _, _, _, _, _ => False
  | n + 1, S, r, v1, v2, v3 => (((gF S 835) ≤ v3 → (narrow .boolean (.int v2) = .int v2 ∧ (K v2 S r))) ∧ (¬ (gF S 835) ≤ v3 → ((¬ v2 = 0 → (w_M_isUsed_26 (fun S r v1 v2 v3 => w_M_isUsed_4 K n S r v1 v2 v3) K S r v1 v3)) ∧ (v2 = 0 → (vp_in v3 520) ∧ ((¬ ((gA S 22) v3.toNatClampNeg) = v1 → (w_M_isUsed_32 (fun S r v1 v2 v3 => w_M_isUsed_4 K n S r v1 v2 v3) K S r v1 0 v3)) ∧ (((gA S 22) v3.toNatClampNeg) = v1 → (w_M_isUsed_26 (fun S r v1 v2 v3 => w_M_isUsed_4 K n S r v1 v2 v3) K S r v1 v3)))))))
set_option maxRecDepth 100000 in
theorem t_M_isUsed_4 {G : XG} {l : Launch} {d : Nat} {K : Int32 → XS → List AE → Prop} : ∀ (n : Nat) (S : XS) (r : List AE) (v1 : Int32) (v2 : Int32) (v3 : Int32), w_M_isUsed_4 K n S r v1 v2 v3 → xRn G l (d + 0) xm_M_isUsed (pI K) 4 [.ref 24, .int v1, .int v2, .int v3] [] (hL S r) := by
  intro n
  induction n with
  | zero => intro S r v1 v2 v3 h; exact h.elim
  | succ n ih =>
    intro S r v1 v2 v3 h
    refine xRn.blk (pc1 := 9) (ls1 := [.ref 24, .int v1, .int v2, .int v3]) (st1 := [.int (gF S 835), .int v3]) (hp1 := (hL S r)) (ob := [(24 : Nat) = 24]) [(.iload_n 3, 1, 3, 0, 0, 0), (.aload_n 0, 1, 0, 0, 0, 0), (.getfield 189, 3, 35, 6, 0, 0)] [(24, xc8 S)] (by decide +kernel) rfl (xall_cons rfl xall_nil) (xSee_cons rfl (xne_nil _) (xSee_nil _)) rfl rfl ?_
    refine xRn.ic_ge (tgt := 38) (nx := 12) (off := 29) (by decide +kernel) (by decide) rfl (fun c1 => ?_) (fun c1 => ?_)
    · have h := h.1 c1
      refine xRn.blk (pc1 := 39) (ls1 := [.ref 24, .int v1, .int v2, .int v3]) (st1 := [.int v2]) (hp1 := (hL S r)) (ob := []) [(.iload_n 2, 1, 2, 0, 0, 0)] [] (by decide +kernel) rfl xall_nil (xSee_nil _) rfl rfl ?_
      obtain ⟨o2, h⟩ := h
      exact xRn.iret (by decide +kernel) rfl o2 ⟨_, _, _, rfl, rfl, h⟩
    · have h := h.2 c1
      refine xRn.blk (pc1 := 13) (ls1 := [.ref 24, .int v1, .int v2, .int v3]) (st1 := [.int v2]) (hp1 := (hL S r)) (ob := []) [(.iload_n 2, 1, 2, 0, 0, 0)] [] (by decide +kernel) rfl xall_nil (xSee_nil _) rfl rfl ?_
      refine xRn.if_ne (tgt := 26) (nx := 16) (off := 13) (by decide +kernel) (by decide) rfl (fun c3 => ?_) (fun c3 => ?_)
      · have h := h.1 c3
        refine xRn.forget (xle_eq (xle_eq (xle_no (xle_eq xle_nil)))) ?_
        exact t_M_isUsed_26  ih S r v1 v3 h
      · have h := h.2 c3
        obtain ⟨o4, h⟩ := h
        refine xRn.blk (pc1 := 23) (ls1 := [.ref 24, .int v1, .int v2, .int v3]) (st1 := [.int v1, .int ((gA S 22) v3.toNatClampNeg)]) (hp1 := (hL S r)) (ob := [(24 : Nat) = 24, (38 : Nat) = 38, vp_in v3 520]) [(.aload_n 0, 1, 0, 0, 0, 0), (.getfield 57, 3, 37, 6, 0, 0), (.iload_n 3, 1, 3, 0, 0, 0), (.iaload, 1, 0, 0, 1, 0), (.iload_n 1, 1, 1, 0, 0, 0)] [(24, xc8 S), (38, xc22 S)] (by decide +kernel) rfl (xall_cons rfl (xall_cons rfl (xall_cons o4 xall_nil))) (xSee_cons rfl (xne_cons (by decide) (xne_nil _)) (xSee_cons rfl (xne_nil _) (xSee_nil _))) rfl rfl ?_
        refine xRn.ic_ne (tgt := 30) (nx := 26) (off := 7) (by decide +kernel) (by decide) rfl (fun c5 => ?_) (fun c5 => ?_)
        · have h := h.1 c5
          refine xRn.blk (pc1 := 32) (ls1 := [.ref 24, .int v1, .int 0, .int v3]) (st1 := []) (hp1 := (hL S r)) (ob := []) [(.iconst 0, 1, 0, 0, 0, 0), (.istore_n 2, 1, 2, 0, 0, 0)] [] (by decide +kernel) rfl xall_nil (xSee_nil _) rfl rfl ?_
          refine xRn.forget (xle_eq (xle_eq (xle_eq (xle_eq xle_nil)))) ?_
          exact t_M_isUsed_32  ih S r v1 0 v3 h
        · have h := h.2 c5
          refine xRn.forget (xle_eq (xle_eq (xle_no (xle_eq xle_nil)))) ?_
          exact t_M_isUsed_26  ih S r v1 v3 h
def w_M_isUsed  (S : XS) (r : List AE) (p1 : Int32) (K : Int32 → XS → List AE → Prop) : Prop :=
  (∃ j, w_M_isUsed_4 K j S r p1 0 0)
set_option maxRecDepth 100000 in
theorem c_M_isUsed {G : XG} {l : Launch} {d : Nat} (S : XS) (r : List AE) (p1 : Int32) {K : Int32 → XS → List AE → Prop} (h : w_M_isUsed  S r p1 K) : xCt G l (d + 0) xm_M_isUsed [.ref 24, .int p1] (hL S r) (pI K) := by
  refine xCt.intro (by decide) (by decide) (List.forall_mem_cons.mpr ⟨rfl, (List.forall_mem_cons.mpr ⟨rfl, (fun _ h => by cases h)⟩)⟩) (Nat.le_of_ble_eq_true rfl) rfl ?_
  show xRn G l _ xm_M_isUsed _ 0 [.ref 24, .int p1, .null, .null] [] (hL S r)
  refine xRn.blk (pc1 := 4) (ls1 := [.ref 24, .int p1, .int 0, .int 0]) (st1 := []) (hp1 := (hL S r)) (ob := []) [(.iconst 0, 1, 0, 0, 0, 0), (.istore_n 2, 1, 2, 0, 0, 0), (.iconst 0, 1, 0, 0, 0, 0), (.istore_n 3, 1, 3, 0, 0, 0)] [] (by decide +kernel) rfl xall_nil (xSee_nil _) rfl rfl ?_
  refine xRn.forget (xle_eq (xle_eq (xle_eq (xle_eq xle_nil)))) ?_
  obtain ⟨n6, h⟩ := h
  exact t_M_isUsed_4   n6 S r p1 0 0 h
/-! M_state -/
def w_M_state  (S : XS) (r : List AE) (p1 : Int32) (K : Int32 → XS → List AE → Prop) : Prop :=
  (vp_in p1 40) ∧ ((((gA S 21) p1.toNatClampNeg) = 0 → (vp_in p1 40) ∧ (vp_in p1 40) ∧ ((¬ ((gA S 20) p1.toNatClampNeg) = ((gA S 19) p1.toNatClampNeg) → (vp_in p1 40) ∧ ((((gA S 20) p1.toNatClampNeg) ≤ 0 → (K 0 S r)) ∧ (¬ ((gA S 20) p1.toNatClampNeg) ≤ 0 → (K 1 S r)))) ∧ (((gA S 20) p1.toNatClampNeg) = ((gA S 19) p1.toNatClampNeg) → (K 2 S r)))) ∧ (¬ ((gA S 21) p1.toNatClampNeg) = 0 → (K 4 S r)))
set_option maxRecDepth 100000 in
theorem c_M_state {G : XG} {l : Launch} {d : Nat} (S : XS) (r : List AE) (p1 : Int32) {K : Int32 → XS → List AE → Prop} (h : w_M_state  S r p1 K) : xCt G l (d + 0) xm_M_state [.ref 24, .int p1] (hL S r) (pI K) := by
  refine xCt.intro (by decide) (by decide) (List.forall_mem_cons.mpr ⟨rfl, (List.forall_mem_cons.mpr ⟨rfl, (fun _ h => by cases h)⟩)⟩) (Nat.le_of_ble_eq_true rfl) rfl ?_
  show xRn G l _ xm_M_state _ 0 [.ref 24, .int p1] [] (hL S r)
  obtain ⟨o1, h⟩ := h
  refine xRn.blk (pc1 := 6) (ls1 := [.ref 24, .int p1]) (st1 := [.int ((gA S 21) p1.toNatClampNeg)]) (hp1 := (hL S r)) (ob := [(24 : Nat) = 24, (37 : Nat) = 37, vp_in p1 40]) [(.aload_n 0, 1, 0, 0, 0, 0), (.getfield 54, 3, 34, 6, 0, 0), (.iload_n 1, 1, 1, 0, 0, 0), (.baload, 1, 0, 0, 1, 0)] [(24, xc8 S), (37, xc21 S)] (by decide +kernel) rfl (xall_cons rfl (xall_cons rfl (xall_cons o1 xall_nil))) (xSee_cons rfl (xne_cons (by decide) (xne_nil _)) (xSee_cons rfl (xne_nil _) (xSee_nil _))) rfl rfl ?_
  refine xRn.if_eq (tgt := 13) (nx := 9) (off := 7) (by decide +kernel) (by decide) rfl (fun c2 => ?_) (fun c2 => ?_)
  · have h := h.1 c2
    obtain ⟨o3, o4, h⟩ := h
    refine xRn.blk (pc1 := 25) (ls1 := [.ref 24, .int p1]) (st1 := [.int ((gA S 19) p1.toNatClampNeg), .int ((gA S 20) p1.toNatClampNeg)]) (hp1 := (hL S r)) (ob := [(24 : Nat) = 24, (36 : Nat) = 36, vp_in p1 40, (24 : Nat) = 24, (35 : Nat) = 35, vp_in p1 40]) [(.aload_n 0, 1, 0, 0, 0, 0), (.getfield 51, 3, 33, 6, 0, 0), (.iload_n 1, 1, 1, 0, 0, 0), (.iaload, 1, 0, 0, 1, 0), (.aload_n 0, 1, 0, 0, 0, 0), (.getfield 48, 3, 32, 6, 0, 0), (.iload_n 1, 1, 1, 0, 0, 0), (.iaload, 1, 0, 0, 2, 0)] [(24, xc8 S), (36, xc20 S), (35, xc19 S)] (by decide +kernel) rfl (xall_cons rfl (xall_cons rfl (xall_cons o3 (xall_cons rfl (xall_cons rfl (xall_cons o4 xall_nil)))))) (xSee_cons rfl (xne_cons (by decide) (xne_cons (by decide) (xne_nil _))) (xSee_cons rfl (xne_cons (by decide) (xne_nil _)) (xSee_cons rfl (xne_nil _) (xSee_nil _)))) rfl rfl ?_
    refine xRn.ic_ne (tgt := 32) (nx := 28) (off := 7) (by decide +kernel) (by decide) rfl (fun c5 => ?_) (fun c5 => ?_)
    · have h := h.1 c5
      obtain ⟨o6, h⟩ := h
      refine xRn.blk (pc1 := 38) (ls1 := [.ref 24, .int p1]) (st1 := [.int ((gA S 20) p1.toNatClampNeg)]) (hp1 := (hL S r)) (ob := [(24 : Nat) = 24, (36 : Nat) = 36, vp_in p1 40]) [(.aload_n 0, 1, 0, 0, 0, 0), (.getfield 51, 3, 33, 6, 0, 0), (.iload_n 1, 1, 1, 0, 0, 0), (.iaload, 1, 0, 0, 1, 0)] [(24, xc8 S), (36, xc20 S)] (by decide +kernel) rfl (xall_cons rfl (xall_cons rfl (xall_cons o6 xall_nil))) (xSee_cons rfl (xne_cons (by decide) (xne_nil _)) (xSee_cons rfl (xne_nil _) (xSee_nil _))) rfl rfl ?_
      refine xRn.if_le (tgt := 45) (nx := 41) (off := 7) (by decide +kernel) (by decide) rfl (fun c7 => ?_) (fun c7 => ?_)
      · have h := h.1 c7
        refine xRn.blk (pc1 := 46) (ls1 := [.ref 24, .int p1]) (st1 := [.int 0]) (hp1 := (hL S r)) (ob := []) [(.iconst 0, 1, 0, 0, 0, 0)] [] (by decide +kernel) rfl xall_nil (xSee_nil _) rfl rfl ?_
        exact xRn.iret (by decide +kernel) rfl rfl ⟨_, _, _, rfl, rfl, h⟩
      · have h := h.2 c7
        refine xRn.blk (pc1 := 42) (ls1 := [.ref 24, .int p1]) (st1 := [.int 1]) (hp1 := (hL S r)) (ob := []) [(.iconst 1, 1, 0, 0, 0, 1)] [] (by decide +kernel) rfl xall_nil (xSee_nil _) rfl rfl ?_
        refine xRn.goto (tgt := 46) (off := 4) (by decide +kernel) (by decide) ?_
        exact xRn.iret (by decide +kernel) rfl rfl ⟨_, _, _, rfl, rfl, h⟩
    · have h := h.2 c5
      refine xRn.blk (pc1 := 29) (ls1 := [.ref 24, .int p1]) (st1 := [.int 2]) (hp1 := (hL S r)) (ob := []) [(.iconst 2, 1, 0, 0, 0, 2)] [] (by decide +kernel) rfl xall_nil (xSee_nil _) rfl rfl ?_
      refine xRn.goto (tgt := 46) (off := 17) (by decide +kernel) (by decide) ?_
      exact xRn.iret (by decide +kernel) rfl rfl ⟨_, _, _, rfl, rfl, h⟩
  · have h := h.2 c2
    refine xRn.blk (pc1 := 10) (ls1 := [.ref 24, .int p1]) (st1 := [.int 4]) (hp1 := (hL S r)) (ob := []) [(.iconst 4, 1, 0, 0, 0, 4)] [] (by decide +kernel) rfl xall_nil (xSee_nil _) rfl rfl ?_
    refine xRn.goto (tgt := 46) (off := 36) (by decide +kernel) (by decide) ?_
    exact xRn.iret (by decide +kernel) rfl rfl ⟨_, _, _, rfl, rfl, h⟩
/-! M_openOrder -/
def w_M_openOrder_37 (k4 : XS → List AE → Int32 → Int32 → Int32 → Prop)  (K : Int32 → XS → List AE → Prop) (S : XS) (r : List AE) (v1 : Int32) (v2 : Int32) (v3 : Int32) : Prop :=
  (k4 S r v1 v2 (v3 + 1))
set_option maxRecDepth 100000 in
theorem t_M_openOrder_37 {G : XG} {l : Launch} {d : Nat} {k4 : XS → List AE → Int32 → Int32 → Int32 → Prop} {K : Int32 → XS → List AE → Prop} (hk4 : ∀ (S : XS) (r : List AE) (v1 : Int32) (v2 : Int32) (v3 : Int32), k4 S r v1 v2 v3 → xRn G l (d + 1) xm_M_openOrder (pI K) 4 [.ref 24, .int v1, .int v2, .int v3] [] (hL S r)) (S : XS) (r : List AE) (v1 : Int32) (v2 : Int32) (v3 : Int32) (h : w_M_openOrder_37 k4 K S r v1 v2 v3) : xRn G l (d + 1) xm_M_openOrder (pI K) 37 [.ref 24, .int v1, .int v2, .int v3] [] (hL S r) := by
  refine xRn.blk (pc1 := 40) (ls1 := [.ref 24, .int v1, .int v2, .int (v3 + 1)]) (st1 := []) (hp1 := (hL S r)) (ob := []) [(.iinc 3 1, 3, 3, 0, 0, 1)] [] (by decide +kernel) rfl xall_nil (xSee_nil _) rfl rfl ?_
  refine xRn.goto (tgt := 4) (off := (-36)) (by decide +kernel) (by decide) ?_
  refine xRn.forget (xle_eq (xle_eq (xle_eq (xle_eq xle_nil)))) ?_
  exact hk4 S r v1 v2 (v3 + 1) h
def w_M_openOrder_35 (k4 : XS → List AE → Int32 → Int32 → Int32 → Prop)  (K : Int32 → XS → List AE → Prop) (S : XS) (r : List AE) (v1 : Int32) (v2 : Int32) (v3 : Int32) : Prop :=
  (w_M_openOrder_37 k4 K S r v1 v2 v3)
set_option maxRecDepth 100000 in
theorem t_M_openOrder_35 {G : XG} {l : Launch} {d : Nat} {k4 : XS → List AE → Int32 → Int32 → Int32 → Prop} {K : Int32 → XS → List AE → Prop} (hk4 : ∀ (S : XS) (r : List AE) (v1 : Int32) (v2 : Int32) (v3 : Int32), k4 S r v1 v2 v3 → xRn G l (d + 1) xm_M_openOrder (pI K) 4 [.ref 24, .int v1, .int v2, .int v3] [] (hL S r)) (S : XS) (r : List AE) (v1 : Int32) (v2 : Int32) (v3 : Int32) (h : w_M_openOrder_35 k4 K S r v1 v2 v3) : xRn G l (d + 1) xm_M_openOrder (pI K) 35 [.ref 24, .int v1, .int v2, .int v3] [] (hL S r) := by
  refine xRn.blk (pc1 := 37) (ls1 := [.ref 24, .int v1, .int v2, .int v3]) (st1 := []) (hp1 := (hL S r)) (ob := []) [(.iload_n 2, 1, 2, 0, 0, 0), (.istore_n 2, 1, 2, 0, 0, 0)] [] (by decide +kernel) rfl xall_nil (xSee_nil _) rfl rfl ?_
  refine xRn.forget (xle_eq (xle_eq (xle_eq (xle_eq xle_nil)))) ?_
  exact t_M_openOrder_37  hk4 S r v1 v2 v3 h
def w_M_openOrder_4   (K : Int32 → XS → List AE → Prop) : Nat → XS → List AE → Int32 → Int32 → Int32 → Prop
  | 0, _, _, _, _, _ => False
  | n + 1, S, r, v1, v2, v3 => (((gF S 829) ≤ v3 → (K v2 S r)) ∧ (¬ (gF S 829) ≤ v3 → (vp_in v3 40) ∧ ((¬ ((gA S 17) v3.toNatClampNeg) = v1 → (w_M_openOrder_35 (fun S r v1 v2 v3 => w_M_openOrder_4 K n S r v1 v2 v3) K S r v1 v2 v3)) ∧ (((gA S 17) v3.toNatClampNeg) = v1 → (w_M_state S r v3 (fun x4 S5 r6 => (((2 : Int32) ≤ x4 → (w_M_openOrder_35 (fun S r v1 v2 v3 => w_M_openOrder_4 K n S r v1 v2 v3) K S5 r6 v1 v2 v3)) ∧ (¬ (2 : Int32) ≤ x4 → (w_M_openOrder_37 (fun S r v1 v2 v3 => w_M_openOrder_4 K n S r v1 v2 v3) K S5 r6 v1 v3 v3)))))))))
set_option maxRecDepth 100000 in
theorem t_M_openOrder_4 {G : XG} {l : Launch} {d : Nat} {K : Int32 → XS → List AE → Prop} : ∀ (n : Nat) (S : XS) (r : List AE) (v1 : Int32) (v2 : Int32) (v3 : Int32), w_M_openOrder_4 K n S r v1 v2 v3 → xRn G l (d + 1) xm_M_openOrder (pI K) 4 [.ref 24, .int v1, .int v2, .int v3] [] (hL S r) := by
  intro n
  induction n with
  | zero => intro S r v1 v2 v3 h; exact h.elim
  | succ n ih =>
    intro S r v1 v2 v3 h
    refine xRn.blk (pc1 := 9) (ls1 := [.ref 24, .int v1, .int v2, .int v3]) (st1 := [.int (gF S 829), .int v3]) (hp1 := (hL S r)) (ob := [(24 : Nat) = 24]) [(.iload_n 3, 1, 3, 0, 0, 0), (.aload_n 0, 1, 0, 0, 0, 0), (.getfield 192, 3, 29, 6, 0, 0)] [(24, xc8 S)] (by decide +kernel) rfl (xall_cons rfl xall_nil) (xSee_cons rfl (xne_nil _) (xSee_nil _)) rfl rfl ?_
    refine xRn.ic_ge (tgt := 43) (nx := 12) (off := 34) (by decide +kernel) (by decide) rfl (fun c1 => ?_) (fun c1 => ?_)
    · have h := h.1 c1
      refine xRn.blk (pc1 := 44) (ls1 := [.ref 24, .int v1, .int v2, .int v3]) (st1 := [.int v2]) (hp1 := (hL S r)) (ob := []) [(.iload_n 2, 1, 2, 0, 0, 0)] [] (by decide +kernel) rfl xall_nil (xSee_nil _) rfl rfl ?_
      exact xRn.iret (by decide +kernel) rfl rfl ⟨_, _, _, rfl, rfl, h⟩
    · have h := h.2 c1
      obtain ⟨o2, h⟩ := h
      refine xRn.blk (pc1 := 19) (ls1 := [.ref 24, .int v1, .int v2, .int v3]) (st1 := [.int v1, .int ((gA S 17) v3.toNatClampNeg)]) (hp1 := (hL S r)) (ob := [(24 : Nat) = 24, (33 : Nat) = 33, vp_in v3 40]) [(.aload_n 0, 1, 0, 0, 0, 0), (.getfield 42, 3, 30, 6, 0, 0), (.iload_n 3, 1, 3, 0, 0, 0), (.iaload, 1, 0, 0, 1, 0), (.iload_n 1, 1, 1, 0, 0, 0)] [(24, xc8 S), (33, xc17 S)] (by decide +kernel) rfl (xall_cons rfl (xall_cons rfl (xall_cons o2 xall_nil))) (xSee_cons rfl (xne_cons (by decide) (xne_nil _)) (xSee_cons rfl (xne_nil _) (xSee_nil _))) rfl rfl ?_
      refine xRn.ic_ne (tgt := 35) (nx := 22) (off := 16) (by decide +kernel) (by decide) rfl (fun c3 => ?_) (fun c3 => ?_)
      · have h := h.1 c3
        refine xRn.forget (xle_eq (xle_eq (xle_eq (xle_eq xle_nil)))) ?_
        exact t_M_openOrder_35  ih S r v1 v2 v3 h
      · have h := h.2 c3
        refine xRn.blk (pc1 := 24) (ls1 := [.ref 24, .int v1, .int v2, .int v3]) (st1 := [.int v3, .ref 24]) (hp1 := (hL S r)) (ob := []) [(.aload_n 0, 1, 0, 0, 0, 0), (.iload_n 3, 1, 3, 0, 0, 0)] [] (by decide +kernel) rfl xall_nil (xSee_nil _) rfl rfl ?_
        refine xRn.callV (al := [.int v3]) (st := []) (nx := 27) (by decide +kernel) lk_V_M_openOrder_195_M_state_6_1 rfl rfl (c_M_state (d := d + 0) S r v3 h) rfl (Nat.le_of_ble_eq_true rfl) rfl rfl ?_ ?_
        · rintro _ _ ⟨x4, S5, r6, e9, rfl, h⟩
          cases e9
          show xRn G l _ _ _ 27 [.ref 24, .int v1, .int v2, .int v3] [.int x4] (hL S5 r6)
          refine xRn.blk (pc1 := 28) (ls1 := [.ref 24, .int v1, .int v2, .int v3]) (st1 := [.int 2, .int x4]) (hp1 := (hL S5 r6)) (ob := []) [(.iconst 2, 1, 0, 0, 0, 2)] [] (by decide +kernel) rfl xall_nil (xSee_nil _) rfl rfl ?_
          refine xRn.ic_ge (tgt := 35) (nx := 31) (off := 7) (by decide +kernel) (by decide) rfl (fun c7 => ?_) (fun c7 => ?_)
          · have h := h.1 c7
            refine xRn.forget (xle_eq (xle_eq (xle_eq (xle_eq xle_nil)))) ?_
            exact t_M_openOrder_35  ih S5 r6 v1 v2 v3 h
          · have h := h.2 c7
            refine xRn.blk (pc1 := 32) (ls1 := [.ref 24, .int v1, .int v2, .int v3]) (st1 := [.int v3]) (hp1 := (hL S5 r6)) (ob := []) [(.iload_n 3, 1, 3, 0, 0, 0)] [] (by decide +kernel) rfl xall_nil (xSee_nil _) rfl rfl ?_
            refine xRn.goto (tgt := 36) (off := 4) (by decide +kernel) (by decide) ?_
            refine xRn.blk (pc1 := 37) (ls1 := [.ref 24, .int v1, .int v3, .int v3]) (st1 := []) (hp1 := (hL S5 r6)) (ob := []) [(.istore_n 2, 1, 2, 0, 0, 0)] [] (by decide +kernel) rfl xall_nil (xSee_nil _) rfl rfl ?_
            refine xRn.forget (xle_eq (xle_eq (xle_eq (xle_eq xle_nil)))) ?_
            exact t_M_openOrder_37  ih S5 r6 v1 v3 v3 h
        · rintro _ _ ⟨_, _, _, e9, _⟩
          cases e9
def w_M_openOrder  (S : XS) (r : List AE) (p1 : Int32) (K : Int32 → XS → List AE → Prop) : Prop :=
  (∃ j, w_M_openOrder_4 K j S r p1 (-1) 0)
set_option maxRecDepth 100000 in
theorem c_M_openOrder {G : XG} {l : Launch} {d : Nat} (S : XS) (r : List AE) (p1 : Int32) {K : Int32 → XS → List AE → Prop} (h : w_M_openOrder  S r p1 K) : xCt G l (d + 1) xm_M_openOrder [.ref 24, .int p1] (hL S r) (pI K) := by
  refine xCt.intro (by decide) (by decide) (List.forall_mem_cons.mpr ⟨rfl, (List.forall_mem_cons.mpr ⟨rfl, (fun _ h => by cases h)⟩)⟩) (Nat.le_of_ble_eq_true rfl) rfl ?_
  show xRn G l _ xm_M_openOrder _ 0 [.ref 24, .int p1, .null, .null] [] (hL S r)
  refine xRn.blk (pc1 := 4) (ls1 := [.ref 24, .int p1, .int (-1), .int 0]) (st1 := []) (hp1 := (hL S r)) (ob := []) [(.iconst (-1), 1, 0, 0, 0, (-1)), (.istore_n 2, 1, 2, 0, 0, 0), (.iconst 0, 1, 0, 0, 0, 0), (.istore_n 3, 1, 3, 0, 0, 0)] [] (by decide +kernel) rfl xall_nil (xSee_nil _) rfl rfl ?_
  refine xRn.forget (xle_eq (xle_eq (xle_eq (xle_eq xle_nil)))) ?_
  obtain ⟨n8, h⟩ := h
  exact t_M_openOrder_4   n8 S r p1 (-1) 0 h
/-! M_tell -/
def w_M_tell  (S : XS) (r : List AE) (p1 : Int32) (K : XS → List AE → Prop) : Prop :=
  (vp_in p1 40) ∧ (w_M_state S r p1 (fun x2 S3 r4 => (vp_in p1 40) ∧ (vp_in p1 40) ∧ ((((gA S3 21) p1.toNatClampNeg) = 0 → (vp_in p1 40) ∧ (vp_in p1 40) ∧ (w_M_send S3 r4 56 ((gA S 17) p1.toNatClampNeg) (48 + x2) ((gA S3 20) p1.toNatClampNeg) (((gA S3 19) p1.toNatClampNeg) - ((gA S3 20) p1.toNatClampNeg)) (fun S11 r12 => (K S11 r12)))) ∧ (¬ ((gA S3 21) p1.toNatClampNeg) = 0 → (w_M_send S3 r4 56 ((gA S 17) p1.toNatClampNeg) (48 + x2) ((gA S3 20) p1.toNatClampNeg) 0 (fun S14 r15 => (K S14 r15)))))))
set_option maxRecDepth 100000 in
theorem c_M_tell {G : XG} {l : Launch} {d : Nat} (S : XS) (r : List AE) (p1 : Int32) {K : XS → List AE → Prop} (h : w_M_tell  S r p1 K) : xCt G l (d + 7) xm_M_tell [.ref 24, .int p1] (hL S r) (pV K) := by
  refine xCt.intro (by decide) (by decide) (List.forall_mem_cons.mpr ⟨rfl, (List.forall_mem_cons.mpr ⟨rfl, (fun _ h => by cases h)⟩)⟩) (Nat.le_of_ble_eq_true rfl) rfl ?_
  show xRn G l _ xm_M_tell _ 0 [.ref 24, .int p1] [] (hL S r)
  obtain ⟨o1, h⟩ := h
  refine xRn.blk (pc1 := 13) (ls1 := [.ref 24, .int p1]) (st1 := [.int p1, .ref 24, .int 48, .int ((gA S 17) p1.toNatClampNeg), .int 56, .ref 24]) (hp1 := (hL S r)) (ob := [(24 : Nat) = 24, (33 : Nat) = 33, vp_in p1 40]) [(.aload_n 0, 1, 0, 0, 0, 0), (.bipush 56, 2, 0, 0, 0, 56), (.aload_n 0, 1, 0, 0, 0, 0), (.getfield 42, 3, 30, 6, 0, 0), (.iload_n 1, 1, 1, 0, 0, 0), (.iaload, 1, 0, 0, 1, 0), (.bipush 48, 2, 0, 0, 0, 48), (.aload_n 0, 1, 0, 0, 0, 0), (.iload_n 1, 1, 1, 0, 0, 0)] [(24, xc8 S), (33, xc17 S)] (by decide +kernel) rfl (xall_cons rfl (xall_cons rfl (xall_cons o1 xall_nil))) (xSee_cons rfl (xne_cons (by decide) (xne_nil _)) (xSee_cons rfl (xne_nil _) (xSee_nil _))) rfl rfl ?_
  refine xRn.callV (al := [.int p1]) (st := [.int 48, .int ((gA S 17) p1.toNatClampNeg), .int 56, .ref 24]) (nx := 16) (by decide +kernel) lk_V_M_tell_195_M_state_6_1 rfl rfl (c_M_state (d := d + 6) S r p1 h) rfl (Nat.le_of_ble_eq_true rfl) rfl rfl ?_ ?_
  · rintro _ _ ⟨x2, S3, r4, e9, rfl, h⟩
    cases e9
    show xRn G l _ _ _ 16 [.ref 24, .int p1] [.int x2, .int 48, .int ((gA S 17) p1.toNatClampNeg), .int 56, .ref 24] (hL S3 r4)
    obtain ⟨o5, o6, h⟩ := h
    refine xRn.blk (pc1 := 29) (ls1 := [.ref 24, .int p1]) (st1 := [.int ((gA S3 21) p1.toNatClampNeg), .int ((gA S3 20) p1.toNatClampNeg), .int (48 + x2), .int ((gA S 17) p1.toNatClampNeg), .int 56, .ref 24]) (hp1 := (hL S3 r4)) (ob := [(24 : Nat) = 24, (36 : Nat) = 36, vp_in p1 40, (24 : Nat) = 24, (37 : Nat) = 37, vp_in p1 40]) [(.iadd, 1, 0, 0, 0, 0), (.aload_n 0, 1, 0, 0, 0, 0), (.getfield 51, 3, 33, 6, 0, 0), (.iload_n 1, 1, 1, 0, 0, 0), (.iaload, 1, 0, 0, 1, 0), (.aload_n 0, 1, 0, 0, 0, 0), (.getfield 54, 3, 34, 6, 0, 0), (.iload_n 1, 1, 1, 0, 0, 0), (.baload, 1, 0, 0, 2, 0)] [(24, xc8 S3), (36, xc20 S3), (37, xc21 S3)] (by decide +kernel) rfl (xall_cons rfl (xall_cons rfl (xall_cons o5 (xall_cons rfl (xall_cons rfl (xall_cons o6 xall_nil)))))) (xSee_cons rfl (xne_cons (by decide) (xne_cons (by decide) (xne_nil _))) (xSee_cons rfl (xne_cons (by decide) (xne_nil _)) (xSee_cons rfl (xne_nil _) (xSee_nil _)))) rfl rfl ?_
    refine xRn.if_eq (tgt := 36) (nx := 32) (off := 7) (by decide +kernel) (by decide) rfl (fun c7 => ?_) (fun c7 => ?_)
    · have h := h.1 c7
      obtain ⟨o8, o9, h⟩ := h
      refine xRn.blk (pc1 := 49) (ls1 := [.ref 24, .int p1]) (st1 := [.int (((gA S3 19) p1.toNatClampNeg) - ((gA S3 20) p1.toNatClampNeg)), .int ((gA S3 20) p1.toNatClampNeg), .int (48 + x2), .int ((gA S 17) p1.toNatClampNeg), .int 56, .ref 24]) (hp1 := (hL S3 r4)) (ob := [(24 : Nat) = 24, (35 : Nat) = 35, vp_in p1 40, (24 : Nat) = 24, (36 : Nat) = 36, vp_in p1 40]) [(.aload_n 0, 1, 0, 0, 0, 0), (.getfield 48, 3, 32, 6, 0, 0), (.iload_n 1, 1, 1, 0, 0, 0), (.iaload, 1, 0, 0, 1, 0), (.aload_n 0, 1, 0, 0, 0, 0), (.getfield 51, 3, 33, 6, 0, 0), (.iload_n 1, 1, 1, 0, 0, 0), (.iaload, 1, 0, 0, 2, 0), (.isub, 1, 0, 0, 0, 0)] [(24, xc8 S3), (35, xc19 S3), (36, xc20 S3)] (by decide +kernel) rfl (xall_cons rfl (xall_cons rfl (xall_cons o8 (xall_cons rfl (xall_cons rfl (xall_cons o9 xall_nil)))))) (xSee_cons rfl (xne_cons (by decide) (xne_cons (by decide) (xne_nil _))) (xSee_cons rfl (xne_cons (by decide) (xne_nil _)) (xSee_cons rfl (xne_nil _) (xSee_nil _)))) rfl rfl ?_
      refine xRn.callV (al := [.int 56, .int ((gA S 17) p1.toNatClampNeg), .int (48 + x2), .int ((gA S3 20) p1.toNatClampNeg), .int (((gA S3 19) p1.toNatClampNeg) - ((gA S3 20) p1.toNatClampNeg))]) (st := []) (nx := 52) (by decide +kernel) lk_V_M_tell_124_M_send_6_5 rfl rfl (c_M_send (d := d + 0) S3 r4 56 ((gA S 17) p1.toNatClampNeg) (48 + x2) ((gA S3 20) p1.toNatClampNeg) (((gA S3 19) p1.toNatClampNeg) - ((gA S3 20) p1.toNatClampNeg)) h) rfl (Nat.le_of_ble_eq_true rfl) rfl rfl ?_ ?_
      · rintro _ _ ⟨S11, r12, e9, rfl, h⟩
        cases e9
        show xRn G l _ _ _ 52 [.ref 24, .int p1] [] (hL S11 r12)
        exact xRn.vret (by decide +kernel) rfl ⟨_, _, rfl, rfl, h⟩
      · rintro _ _ ⟨_, _, e9, _⟩
        cases e9
    · have h := h.2 c7
      refine xRn.blk (pc1 := 33) (ls1 := [.ref 24, .int p1]) (st1 := [.int 0, .int ((gA S3 20) p1.toNatClampNeg), .int (48 + x2), .int ((gA S 17) p1.toNatClampNeg), .int 56, .ref 24]) (hp1 := (hL S3 r4)) (ob := []) [(.iconst 0, 1, 0, 0, 0, 0)] [] (by decide +kernel) rfl xall_nil (xSee_nil _) rfl rfl ?_
      refine xRn.goto (tgt := 49) (off := 16) (by decide +kernel) (by decide) ?_
      refine xRn.callV (al := [.int 56, .int ((gA S 17) p1.toNatClampNeg), .int (48 + x2), .int ((gA S3 20) p1.toNatClampNeg), .int 0]) (st := []) (nx := 52) (by decide +kernel) lk_V_M_tell_124_M_send_6_5 rfl rfl (c_M_send (d := d + 0) S3 r4 56 ((gA S 17) p1.toNatClampNeg) (48 + x2) ((gA S3 20) p1.toNatClampNeg) 0 h) rfl (Nat.le_of_ble_eq_true rfl) rfl rfl ?_ ?_
      · rintro _ _ ⟨S14, r15, e9, rfl, h⟩
        cases e9
        show xRn G l _ _ _ 52 [.ref 24, .int p1] [] (hL S14 r15)
        exact xRn.vret (by decide +kernel) rfl ⟨_, _, rfl, rfl, h⟩
      · rintro _ _ ⟨_, _, e9, _⟩
        cases e9
  · rintro _ _ ⟨_, _, _, e9, _⟩
    cases e9
/-! M_ordered -/
def w_M_ordered_192   (K : Int32 → XS → List AE → Prop) (S : XS) (r : List AE) (v1 : Int32) : Prop :=
  (K v1 S r)
set_option maxRecDepth 100000 in
theorem t_M_ordered_192 {G : XG} {l : Launch} {d : Nat} {K : Int32 → XS → List AE → Prop} (S : XS) (r : List AE) (v1 : Int32) (h : w_M_ordered_192 K S r v1) : xRn G l (d + 2) xm_M_ordered (pI K) 192 [.null, .int v1] [] (hL S r) := by
  refine xRn.blk (pc1 := 193) (ls1 := [.null, .int v1]) (st1 := [.int v1]) (hp1 := (hL S r)) (ob := []) [(.iload_n 1, 1, 1, 0, 0, 0)] [] (by decide +kernel) rfl xall_nil (xSee_nil _) rfl rfl ?_
  exact xRn.iret (by decide +kernel) rfl rfl ⟨_, _, _, rfl, rfl, h⟩
def w_M_ordered_163   (K : Int32 → XS → List AE → Prop) (S : XS) (r : List AE) (v1 : Int32) : Prop :=
  ((¬ (gF S 808) = (70 : Int32) → (vp_in v1 40) ∧ (w_M_ordered_192 K (sA S 19 (upd (gA S 19) v1.toNatClampNeg (gF S 812))) r v1)) ∧ ((gF S 808) = (70 : Int32) → (vp_in v1 40) ∧ (w_M_ordered_192 K (sA S 21 (upd (gA S 21) v1.toNatClampNeg (vp_nar .boolean 1))) r v1)))
set_option maxRecDepth 100000 in
theorem t_M_ordered_163 {G : XG} {l : Launch} {d : Nat} {K : Int32 → XS → List AE → Prop} (S : XS) (r : List AE) (v1 : Int32) (h : w_M_ordered_163 K S r v1) : xRn G l (d + 2) xm_M_ordered (pI K) 163 [.ref 24, .int v1] [] (hL S r) := by
  refine xRn.blk (pc1 := 169) (ls1 := [.ref 24, .int v1]) (st1 := [.int 70, .int (gF S 808)]) (hp1 := (hL S r)) (ob := [(24 : Nat) = 24]) [(.aload_n 0, 1, 0, 0, 0, 0), (.getfield 168, 3, 8, 6, 0, 0), (.bipush 70, 2, 0, 0, 0, 70)] [(24, xc8 S)] (by decide +kernel) rfl (xall_cons rfl xall_nil) (xSee_cons rfl (xne_nil _) (xSee_nil _)) rfl rfl ?_
  refine xRn.ic_ne (tgt := 182) (nx := 172) (off := 13) (by decide +kernel) (by decide) rfl (fun c1 => ?_) (fun c1 => ?_)
  · have h := h.1 c1
    obtain ⟨o2, h⟩ := h
    refine xRn.blk (pc1 := 192) (ls1 := [.ref 24, .int v1]) (st1 := []) (hp1 := (hL (sA S 19 (upd (gA S 19) v1.toNatClampNeg (gF S 812))) r)) (ob := [(24 : Nat) = 24, (24 : Nat) = 24, (35 : Nat) = 35, vp_in v1 40]) [(.aload_n 0, 1, 0, 0, 0, 0), (.getfield 48, 3, 32, 6, 0, 0), (.iload_n 1, 1, 1, 0, 0, 0), (.aload_n 0, 1, 0, 0, 0, 0), (.getfield 183, 3, 12, 6, 0, 0), (.iastore, 1, 0, 0, 1, 0)] [(24, xc8 S), (35, xc19 S)] (by decide +kernel) rfl (xall_cons rfl (xall_cons rfl (xall_cons rfl (xall_cons o2 xall_nil)))) (xSee_cons rfl (xne_cons (by decide) (xne_nil _)) (xSee_cons rfl (xne_nil _) (xSee_nil _))) rfl rfl ?_
    refine xRn.forget (xle_no (xle_eq xle_nil)) ?_
    exact t_M_ordered_192   (sA S 19 (upd (gA S 19) v1.toNatClampNeg (gF S 812))) r v1 h
  · have h := h.2 c1
    obtain ⟨o3, h⟩ := h
    refine xRn.blk (pc1 := 179) (ls1 := [.ref 24, .int v1]) (st1 := []) (hp1 := (hL (sA S 21 (upd (gA S 21) v1.toNatClampNeg (vp_nar .boolean 1))) r)) (ob := [(24 : Nat) = 24, (37 : Nat) = 37, vp_in v1 40]) [(.aload_n 0, 1, 0, 0, 0, 0), (.getfield 54, 3, 34, 6, 0, 0), (.iload_n 1, 1, 1, 0, 0, 0), (.iconst 1, 1, 0, 0, 0, 1), (.bastore, 1, 0, 0, 1, 0)] [(24, xc8 S), (37, xc21 S)] (by decide +kernel) rfl (xall_cons rfl (xall_cons rfl (xall_cons o3 xall_nil))) (xSee_cons rfl (xne_cons (by decide) (xne_nil _)) (xSee_cons rfl (xne_nil _) (xSee_nil _))) rfl rfl ?_
    refine xRn.goto (tgt := 192) (off := 13) (by decide +kernel) (by decide) ?_
    refine xRn.forget (xle_no (xle_eq xle_nil)) ?_
    exact t_M_ordered_192   (sA S 21 (upd (gA S 21) v1.toNatClampNeg (vp_nar .boolean 1))) r v1 h
def w_M_ordered_161   (K : Int32 → XS → List AE → Prop) (S : XS) (r : List AE) : Prop :=
  (K (-1) S r)
set_option maxRecDepth 100000 in
theorem t_M_ordered_161 {G : XG} {l : Launch} {d : Nat} {K : Int32 → XS → List AE → Prop} (S : XS) (r : List AE) (h : w_M_ordered_161 K S r) : xRn G l (d + 2) xm_M_ordered (pI K) 161 [.null, .null] [] (hL S r) := by
  refine xRn.blk (pc1 := 162) (ls1 := [.null, .null]) (st1 := [.int (-1)]) (hp1 := (hL S r)) (ob := []) [(.iconst (-1), 1, 0, 0, 0, (-1))] [] (by decide +kernel) rfl xall_nil (xSee_nil _) rfl rfl ?_
  exact xRn.iret (by decide +kernel) rfl rfl ⟨_, _, _, rfl, rfl, h⟩
def w_M_ordered_61   (K : Int32 → XS → List AE → Prop) (S : XS) (r : List AE) : Prop :=
  (K (-1) S r)
set_option maxRecDepth 100000 in
theorem t_M_ordered_61 {G : XG} {l : Launch} {d : Nat} {K : Int32 → XS → List AE → Prop} (S : XS) (r : List AE) (h : w_M_ordered_61 K S r) : xRn G l (d + 2) xm_M_ordered (pI K) 61 [.null, .null] [] (hL S r) := by
  refine xRn.blk (pc1 := 62) (ls1 := [.null, .null]) (st1 := [.int (-1)]) (hp1 := (hL S r)) (ob := []) [(.iconst (-1), 1, 0, 0, 0, (-1))] [] (by decide +kernel) rfl xall_nil (xSee_nil _) rfl rfl ?_
  exact xRn.iret (by decide +kernel) rfl rfl ⟨_, _, _, rfl, rfl, h⟩
def w_M_ordered_18   (K : Int32 → XS → List AE → Prop) (S : XS) (r : List AE) : Prop :=
  (K (-1) S r)
set_option maxRecDepth 100000 in
theorem t_M_ordered_18 {G : XG} {l : Launch} {d : Nat} {K : Int32 → XS → List AE → Prop} (S : XS) (r : List AE) (h : w_M_ordered_18 K S r) : xRn G l (d + 2) xm_M_ordered (pI K) 18 [.null, .null] [] (hL S r) := by
  refine xRn.blk (pc1 := 19) (ls1 := [.null, .null]) (st1 := [.int (-1)]) (hp1 := (hL S r)) (ob := []) [(.iconst (-1), 1, 0, 0, 0, (-1))] [] (by decide +kernel) rfl xall_nil (xSee_nil _) rfl rfl ?_
  exact xRn.iret (by decide +kernel) rfl rfl ⟨_, _, _, rfl, rfl, h⟩
def w_M_ordered  (S : XS) (r : List AE) (K : Int32 → XS → List AE → Prop) : Prop :=
  (((gF S 810) = 0 → (w_M_ordered_18 K S r)) ∧ (¬ (gF S 810) = 0 → (w_M_isUsed S r (gF S 810) (fun x5 S6 r7 => ((x5 = 0 → ((¬ (gF S6 808) = (68 : Int32) → (w_M_openOrder S6 r7 (gF S6 811) (fun x10 S11 r12 => ((x10 < 0 → (w_M_ordered_161 K S11 r12)) ∧ (¬ x10 < 0 → ((¬ (gF S11 808) = (71 : Int32) → (w_M_ordered_163 K S11 r12 x10)) ∧ ((gF S11 808) = (71 : Int32) → (vp_in x10 40) ∧ ((((gA S11 20) x10.toNatClampNeg) < (gF S11 812) → (w_M_ordered_163 K S11 r12 x10)) ∧ (¬ ((gA S11 20) x10.toNatClampNeg) < (gF S11 812) → (w_M_ordered_161 K S11 r12)))))))))) ∧ ((gF S6 808) = (68 : Int32) → (((gF S6 811) < (1 : Int32) → (w_M_ordered_61 K S6 r7)) ∧ (¬ (gF S6 811) < (1 : Int32) → (((2 : Int32) < (gF S6 811) → (w_M_ordered_61 K S6 r7)) ∧ (¬ (2 : Int32) < (gF S6 811) → (((gF S6 812) = 0 → (w_M_ordered_61 K S6 r7)) ∧ (¬ (gF S6 812) = 0 → ((¬ (gF S6 829) = (40 : Int32) → (vp_in (gF S6 829) 40) ∧ (vp_in (gF S6 829) 40) ∧ (vp_in (gF S6 829) 40) ∧ (vp_in (gF S6 829) 40) ∧ (K (((gF S6 829) + 1) - 1) (sF (sA (sA (sA (sA S6 18 (upd (gA S6 18) (gF S6 829).toNatClampNeg (gF S6 811))) 19 (upd (gA S6 19) (gF S6 829).toNatClampNeg (gF S6 812))) 20 (upd (gA S6 20) (gF S6 829).toNatClampNeg 0)) 21 (upd (gA S6 21) (gF S6 829).toNatClampNeg (vp_nar .boolean 0))) 829 ((gF S6 829) + 1)) r7)) ∧ ((gF S6 829) = (40 : Int32) → (w_M_ordered_61 K S6 r7)))))))))))) ∧ (¬ x5 = 0 → (w_M_ordered_18 K S6 r7)))))))
set_option maxRecDepth 100000 in
theorem c_M_ordered {G : XG} {l : Launch} {d : Nat} (S : XS) (r : List AE) {K : Int32 → XS → List AE → Prop} (h : w_M_ordered  S r K) : xCt G l (d + 2) xm_M_ordered [.ref 24] (hL S r) (pI K) := by
  refine xCt.intro (by decide) (by decide) (List.forall_mem_cons.mpr ⟨rfl, (fun _ h => by cases h)⟩) (Nat.le_of_ble_eq_true rfl) rfl ?_
  show xRn G l _ xm_M_ordered _ 0 [.ref 24, .null] [] (hL S r)
  refine xRn.blk (pc1 := 4) (ls1 := [.ref 24, .null]) (st1 := [.int (gF S 810)]) (hp1 := (hL S r)) (ob := [(24 : Nat) = 24]) [(.aload_n 0, 1, 0, 0, 0, 0), (.getfield 177, 3, 10, 6, 0, 0)] [(24, xc8 S)] (by decide +kernel) rfl (xall_cons rfl xall_nil) (xSee_cons rfl (xne_nil _) (xSee_nil _)) rfl rfl ?_
  refine xRn.if_eq (tgt := 18) (nx := 7) (off := 14) (by decide +kernel) (by decide) rfl (fun c4 => ?_) (fun c4 => ?_)
  · have h := h.1 c4
    refine xRn.forget (xle_no (xle_eq xle_nil)) ?_
    exact t_M_ordered_18   S r h
  · have h := h.2 c4
    refine xRn.blk (pc1 := 12) (ls1 := [.ref 24, .null]) (st1 := [.int (gF S 810), .ref 24]) (hp1 := (hL S r)) (ob := [(24 : Nat) = 24]) [(.aload_n 0, 1, 0, 0, 0, 0), (.aload_n 0, 1, 0, 0, 0, 0), (.getfield 177, 3, 10, 6, 0, 0)] [(24, xc8 S)] (by decide +kernel) rfl (xall_cons rfl xall_nil) (xSee_cons rfl (xne_nil _) (xSee_nil _)) rfl rfl ?_
    refine xRn.callV (al := [.int (gF S 810)]) (st := []) (nx := 15) (by decide +kernel) lk_V_M_ordered_198_M_isUsed_6_1 rfl rfl (c_M_isUsed (d := d + 1) S r (gF S 810) h) rfl (Nat.le_of_ble_eq_true rfl) rfl rfl ?_ ?_
    · rintro _ _ ⟨x5, S6, r7, e9, rfl, h⟩
      cases e9
      show xRn G l _ _ _ 15 [.ref 24, .null] [.int x5] (hL S6 r7)
      refine xRn.if_eq (tgt := 20) (nx := 18) (off := 5) (by decide +kernel) (by decide) rfl (fun c8 => ?_) (fun c8 => ?_)
      · have h := h.1 c8
        refine xRn.blk (pc1 := 26) (ls1 := [.ref 24, .null]) (st1 := [.int 68, .int (gF S6 808)]) (hp1 := (hL S6 r7)) (ob := [(24 : Nat) = 24]) [(.aload_n 0, 1, 0, 0, 0, 0), (.getfield 168, 3, 8, 6, 0, 0), (.bipush 68, 2, 0, 0, 0, 68)] [(24, xc8 S6)] (by decide +kernel) rfl (xall_cons rfl xall_nil) (xSee_cons rfl (xne_nil _) (xSee_nil _)) rfl rfl ?_
        refine xRn.ic_ne (tgt := 126) (nx := 29) (off := 100) (by decide +kernel) (by decide) rfl (fun c9 => ?_) (fun c9 => ?_)
        · have h := h.1 c9
          refine xRn.blk (pc1 := 131) (ls1 := [.ref 24, .null]) (st1 := [.int (gF S6 811), .ref 24]) (hp1 := (hL S6 r7)) (ob := [(24 : Nat) = 24]) [(.aload_n 0, 1, 0, 0, 0, 0), (.aload_n 0, 1, 0, 0, 0, 0), (.getfield 180, 3, 11, 6, 0, 0)] [(24, xc8 S6)] (by decide +kernel) rfl (xall_cons rfl xall_nil) (xSee_cons rfl (xne_nil _) (xSee_nil _)) rfl rfl ?_
          refine xRn.callV (al := [.int (gF S6 811)]) (st := []) (nx := 134) (by decide +kernel) lk_V_M_ordered_201_M_openOrder_6_1 rfl rfl (c_M_openOrder (d := d + 0) S6 r7 (gF S6 811) h) rfl (Nat.le_of_ble_eq_true rfl) rfl rfl ?_ ?_
          · rintro _ _ ⟨x10, S11, r12, e9, rfl, h⟩
            cases e9
            show xRn G l _ _ _ 134 [.ref 24, .null] [.int x10] (hL S11 r12)
            refine xRn.blk (pc1 := 136) (ls1 := [.ref 24, .int x10]) (st1 := [.int x10]) (hp1 := (hL S11 r12)) (ob := []) [(.istore_n 1, 1, 1, 0, 0, 0), (.iload_n 1, 1, 1, 0, 0, 0)] [] (by decide +kernel) rfl xall_nil (xSee_nil _) rfl rfl ?_
            refine xRn.if_lt (tgt := 161) (nx := 139) (off := 25) (by decide +kernel) (by decide) rfl (fun c13 => ?_) (fun c13 => ?_)
            · have h := h.1 c13
              refine xRn.forget (xle_no (xle_no xle_nil)) ?_
              exact t_M_ordered_161   S11 r12 h
            · have h := h.2 c13
              refine xRn.blk (pc1 := 145) (ls1 := [.ref 24, .int x10]) (st1 := [.int 71, .int (gF S11 808)]) (hp1 := (hL S11 r12)) (ob := [(24 : Nat) = 24]) [(.aload_n 0, 1, 0, 0, 0, 0), (.getfield 168, 3, 8, 6, 0, 0), (.bipush 71, 2, 0, 0, 0, 71)] [(24, xc8 S11)] (by decide +kernel) rfl (xall_cons rfl xall_nil) (xSee_cons rfl (xne_nil _) (xSee_nil _)) rfl rfl ?_
              refine xRn.ic_ne (tgt := 163) (nx := 148) (off := 18) (by decide +kernel) (by decide) rfl (fun c14 => ?_) (fun c14 => ?_)
              · have h := h.1 c14
                refine xRn.forget (xle_eq (xle_eq xle_nil)) ?_
                exact t_M_ordered_163   S11 r12 x10 h
              · have h := h.2 c14
                obtain ⟨o15, h⟩ := h
                refine xRn.blk (pc1 := 158) (ls1 := [.ref 24, .int x10]) (st1 := [.int ((gA S11 20) x10.toNatClampNeg), .int (gF S11 812)]) (hp1 := (hL S11 r12)) (ob := [(24 : Nat) = 24, (24 : Nat) = 24, (36 : Nat) = 36, vp_in x10 40]) [(.aload_n 0, 1, 0, 0, 0, 0), (.getfield 183, 3, 12, 6, 0, 0), (.aload_n 0, 1, 0, 0, 0, 0), (.getfield 51, 3, 33, 6, 0, 0), (.iload_n 1, 1, 1, 0, 0, 0), (.iaload, 1, 0, 0, 1, 0)] [(24, xc8 S11), (36, xc20 S11)] (by decide +kernel) rfl (xall_cons rfl (xall_cons rfl (xall_cons rfl (xall_cons o15 xall_nil)))) (xSee_cons rfl (xne_cons (by decide) (xne_nil _)) (xSee_cons rfl (xne_nil _) (xSee_nil _))) rfl rfl ?_
                refine xRn.ic_gt (tgt := 163) (nx := 161) (off := 5) (by decide +kernel) (by decide) rfl (fun c16 => ?_) (fun c16 => ?_)
                · have h := h.1 c16
                  refine xRn.forget (xle_eq (xle_eq xle_nil)) ?_
                  exact t_M_ordered_163   S11 r12 x10 h
                · have h := h.2 c16
                  refine xRn.forget (xle_no (xle_no xle_nil)) ?_
                  exact t_M_ordered_161   S11 r12 h
          · rintro _ _ ⟨_, _, _, e9, _⟩
            cases e9
        · have h := h.2 c9
          refine xRn.blk (pc1 := 34) (ls1 := [.ref 24, .null]) (st1 := [.int 1, .int (gF S6 811)]) (hp1 := (hL S6 r7)) (ob := [(24 : Nat) = 24]) [(.aload_n 0, 1, 0, 0, 0, 0), (.getfield 180, 3, 11, 6, 0, 0), (.iconst 1, 1, 0, 0, 0, 1)] [(24, xc8 S6)] (by decide +kernel) rfl (xall_cons rfl xall_nil) (xSee_cons rfl (xne_nil _) (xSee_nil _)) rfl rfl ?_
          refine xRn.ic_lt (tgt := 61) (nx := 37) (off := 27) (by decide +kernel) (by decide) rfl (fun c17 => ?_) (fun c17 => ?_)
          · have h := h.1 c17
            refine xRn.forget (xle_no (xle_eq xle_nil)) ?_
            exact t_M_ordered_61   S6 r7 h
          · have h := h.2 c17
            refine xRn.blk (pc1 := 42) (ls1 := [.ref 24, .null]) (st1 := [.int 2, .int (gF S6 811)]) (hp1 := (hL S6 r7)) (ob := [(24 : Nat) = 24]) [(.aload_n 0, 1, 0, 0, 0, 0), (.getfield 180, 3, 11, 6, 0, 0), (.iconst 2, 1, 0, 0, 0, 2)] [(24, xc8 S6)] (by decide +kernel) rfl (xall_cons rfl xall_nil) (xSee_cons rfl (xne_nil _) (xSee_nil _)) rfl rfl ?_
            refine xRn.ic_gt (tgt := 61) (nx := 45) (off := 19) (by decide +kernel) (by decide) rfl (fun c18 => ?_) (fun c18 => ?_)
            · have h := h.1 c18
              refine xRn.forget (xle_no (xle_eq xle_nil)) ?_
              exact t_M_ordered_61   S6 r7 h
            · have h := h.2 c18
              refine xRn.blk (pc1 := 49) (ls1 := [.ref 24, .null]) (st1 := [.int (gF S6 812)]) (hp1 := (hL S6 r7)) (ob := [(24 : Nat) = 24]) [(.aload_n 0, 1, 0, 0, 0, 0), (.getfield 183, 3, 12, 6, 0, 0)] [(24, xc8 S6)] (by decide +kernel) rfl (xall_cons rfl xall_nil) (xSee_cons rfl (xne_nil _) (xSee_nil _)) rfl rfl ?_
              refine xRn.if_eq (tgt := 61) (nx := 52) (off := 12) (by decide +kernel) (by decide) rfl (fun c19 => ?_) (fun c19 => ?_)
              · have h := h.1 c19
                refine xRn.forget (xle_no (xle_eq xle_nil)) ?_
                exact t_M_ordered_61   S6 r7 h
              · have h := h.2 c19
                refine xRn.blk (pc1 := 58) (ls1 := [.ref 24, .null]) (st1 := [.int 40, .int (gF S6 829)]) (hp1 := (hL S6 r7)) (ob := [(24 : Nat) = 24]) [(.aload_n 0, 1, 0, 0, 0, 0), (.getfield 192, 3, 29, 6, 0, 0), (.bipush 40, 2, 0, 0, 0, 40)] [(24, xc8 S6)] (by decide +kernel) rfl (xall_cons rfl xall_nil) (xSee_cons rfl (xne_nil _) (xSee_nil _)) rfl rfl ?_
                refine xRn.ic_ne (tgt := 63) (nx := 61) (off := 5) (by decide +kernel) (by decide) rfl (fun c20 => ?_) (fun c20 => ?_)
                · have h := h.1 c20
                  obtain ⟨o21, o22, h⟩ := h
                  refine xRn.blk (pc1 := 98) (ls1 := [.ref 24, .null]) (st1 := [.int 0, .int (gF S6 829), .ref 36]) (hp1 := (hL (sA (sA S6 18 (upd (gA S6 18) (gF S6 829).toNatClampNeg (gF S6 811))) 19 (upd (gA S6 19) (gF S6 829).toNatClampNeg (gF S6 812))) r7)) (ob := [(24 : Nat) = 24, (24 : Nat) = 24, (24 : Nat) = 24, (34 : Nat) = 34, vp_in (gF S6 829) 40, (24 : Nat) = 24, (24 : Nat) = 24, (24 : Nat) = 24, (35 : Nat) = 35, vp_in (gF S6 829) 40, (24 : Nat) = 24, (24 : Nat) = 24]) [(.aload_n 0, 1, 0, 0, 0, 0), (.getfield 45, 3, 31, 6, 0, 0), (.aload_n 0, 1, 0, 0, 0, 0), (.getfield 192, 3, 29, 6, 0, 0), (.aload_n 0, 1, 0, 0, 0, 0), (.getfield 180, 3, 11, 6, 0, 0), (.iastore, 1, 0, 0, 1, 0), (.aload_n 0, 1, 0, 0, 0, 0), (.getfield 48, 3, 32, 6, 0, 0), (.aload_n 0, 1, 0, 0, 0, 0), (.getfield 192, 3, 29, 6, 0, 0), (.aload_n 0, 1, 0, 0, 0, 0), (.getfield 183, 3, 12, 6, 0, 0), (.iastore, 1, 0, 0, 2, 0), (.aload_n 0, 1, 0, 0, 0, 0), (.getfield 51, 3, 33, 6, 0, 0), (.aload_n 0, 1, 0, 0, 0, 0), (.getfield 192, 3, 29, 6, 0, 0), (.iconst 0, 1, 0, 0, 0, 0)] [(24, xc8 S6), (34, xc18 S6), (35, xc19 S6)] (by decide +kernel) rfl (xall_cons rfl (xall_cons rfl (xall_cons rfl (xall_cons rfl (xall_cons o21 (xall_cons rfl (xall_cons rfl (xall_cons rfl (xall_cons rfl (xall_cons o22 (xall_cons rfl (xall_cons rfl xall_nil)))))))))))) (xSee_cons rfl (xne_cons (by decide) (xne_cons (by decide) (xne_nil _))) (xSee_cons rfl (xne_cons (by decide) (xne_nil _)) (xSee_cons rfl (xne_nil _) (xSee_nil _)))) rfl rfl ?_
                  obtain ⟨o23, o24, h⟩ := h
                  refine xRn.blk (pc1 := 116) (ls1 := [.ref 24, .null]) (st1 := [.int ((gF S6 829) + 1), .ref 24]) (hp1 := (hL (sA (sA (sA (sA S6 18 (upd (gA S6 18) (gF S6 829).toNatClampNeg (gF S6 811))) 19 (upd (gA S6 19) (gF S6 829).toNatClampNeg (gF S6 812))) 20 (upd (gA S6 20) (gF S6 829).toNatClampNeg 0)) 21 (upd (gA S6 21) (gF S6 829).toNatClampNeg (vp_nar .boolean 0))) r7)) (ob := [(36 : Nat) = 36, vp_in (gF S6 829) 40, (24 : Nat) = 24, (24 : Nat) = 24, (37 : Nat) = 37, vp_in (gF S6 829) 40, (24 : Nat) = 24]) [(.iastore, 1, 0, 0, 0, 0), (.aload_n 0, 1, 0, 0, 0, 0), (.getfield 54, 3, 34, 6, 1, 0), (.aload_n 0, 1, 0, 0, 0, 0), (.getfield 192, 3, 29, 6, 1, 0), (.iconst 0, 1, 0, 0, 0, 0), (.bastore, 1, 0, 0, 2, 0), (.aload_n 0, 1, 0, 0, 0, 0), (.dup, 1, 0, 0, 0, 0), (.getfield 192, 3, 29, 6, 1, 0), (.iconst 1, 1, 0, 0, 0, 1), (.iadd, 1, 0, 0, 0, 0)] [(36, xc20 (sA (sA S6 18 (upd (gA S6 18) (gF S6 829).toNatClampNeg (gF S6 811))) 19 (upd (gA S6 19) (gF S6 829).toNatClampNeg (gF S6 812)))), (24, xc8 (sA (sA S6 18 (upd (gA S6 18) (gF S6 829).toNatClampNeg (gF S6 811))) 19 (upd (gA S6 19) (gF S6 829).toNatClampNeg (gF S6 812)))), (37, xc21 (sA (sA S6 18 (upd (gA S6 18) (gF S6 829).toNatClampNeg (gF S6 811))) 19 (upd (gA S6 19) (gF S6 829).toNatClampNeg (gF S6 812))))] (by decide +kernel) rfl (xall_cons rfl (xall_cons o23 (xall_cons rfl (xall_cons rfl (xall_cons rfl (xall_cons o24 (xall_cons rfl xall_nil))))))) (xSee_cons rfl (xne_cons (by decide) (xne_cons (by decide) (xne_nil _))) (xSee_cons rfl (xne_cons (by decide) (xne_nil _)) (xSee_cons rfl (xne_nil _) (xSee_nil _)))) rfl rfl ?_
                  refine xRn.blk (pc1 := 125) (ls1 := [.ref 24, .null]) (st1 := [.int (((gF S6 829) + 1) - 1)]) (hp1 := (hL (sF (sA (sA (sA (sA S6 18 (upd (gA S6 18) (gF S6 829).toNatClampNeg (gF S6 811))) 19 (upd (gA S6 19) (gF S6 829).toNatClampNeg (gF S6 812))) 20 (upd (gA S6 20) (gF S6 829).toNatClampNeg 0)) 21 (upd (gA S6 21) (gF S6 829).toNatClampNeg (vp_nar .boolean 0))) 829 ((gF S6 829) + 1)) r7)) (ob := [(24 : Nat) = 24, (24 : Nat) = 24]) [(.putfield 192, 3, 29, 6, 0, 0), (.aload_n 0, 1, 0, 0, 0, 0), (.getfield 192, 3, 29, 6, 0, 0), (.iconst 1, 1, 0, 0, 0, 1), (.isub, 1, 0, 0, 0, 0)] [(24, xc8 (sA (sA (sA (sA S6 18 (upd (gA S6 18) (gF S6 829).toNatClampNeg (gF S6 811))) 19 (upd (gA S6 19) (gF S6 829).toNatClampNeg (gF S6 812))) 20 (upd (gA S6 20) (gF S6 829).toNatClampNeg 0)) 21 (upd (gA S6 21) (gF S6 829).toNatClampNeg (vp_nar .boolean 0))))] (by decide +kernel) rfl (xall_cons rfl (xall_cons rfl xall_nil)) (xSee_cons rfl (xne_nil _) (xSee_nil _)) rfl rfl ?_
                  exact xRn.iret (by decide +kernel) rfl rfl ⟨_, _, _, rfl, rfl, h⟩
                · have h := h.2 c20
                  refine xRn.forget (xle_no (xle_eq xle_nil)) ?_
                  exact t_M_ordered_61   S6 r7 h
      · have h := h.2 c8
        refine xRn.forget (xle_no (xle_eq xle_nil)) ?_
        exact t_M_ordered_18   S6 r7 h
    · rintro _ _ ⟨_, _, _, e9, _⟩
      cases e9
/-! M_orderMessage -/
def w_M_orderMessage  (S : XS) (r : List AE) (K : XS → List AE → Prop) : Prop :=
  (w_M_ordered (sF S 836 ((gF S 836) + 1)) r  (fun x1 S2 r3 => ((0 ≤ x1 → (vp_in x1 40) ∧ (vp_in (gF S2 835) 520) ∧ (w_M_tell (sF (sA (sA S2 17 (upd (gA S2 17) x1.toNatClampNeg (gF S2 810))) 22 (upd (gA S2 22) (gF S2 835).toNatClampNeg (gF S2 810))) 835 ((gF S2 835) + 1)) r3 x1 (fun S8 r9 => (K S8 r9)))) ∧ (¬ 0 ≤ x1 → (w_M_send S2 r3 56 (gF S2 810) 56 0 0 (fun S11 r12 => (K S11 r12)))))))
set_option maxRecDepth 100000 in
theorem c_M_orderMessage {G : XG} {l : Launch} {d : Nat} (S : XS) (r : List AE) {K : XS → List AE → Prop} (h : w_M_orderMessage  S r K) : xCt G l (d + 8) xm_M_orderMessage [.ref 24] (hL S r) (pV K) := by
  refine xCt.intro (by decide) (by decide) (List.forall_mem_cons.mpr ⟨rfl, (fun _ h => by cases h)⟩) (Nat.le_of_ble_eq_true rfl) rfl ?_
  show xRn G l _ xm_M_orderMessage _ 0 [.ref 24, .null] [] (hL S r)
  refine xRn.blk (pc1 := 11) (ls1 := [.ref 24, .null]) (st1 := [.ref 24]) (hp1 := (hL (sF S 836 ((gF S 836) + 1)) r)) (ob := [(24 : Nat) = 24, (24 : Nat) = 24]) [(.aload_n 0, 1, 0, 0, 0, 0), (.dup, 1, 0, 0, 0, 0), (.getfield 204, 3, 36, 6, 0, 0), (.iconst 1, 1, 0, 0, 0, 1), (.iadd, 1, 0, 0, 0, 0), (.putfield 204, 3, 36, 6, 0, 0), (.aload_n 0, 1, 0, 0, 0, 0)] [(24, xc8 S)] (by decide +kernel) rfl (xall_cons rfl (xall_cons rfl xall_nil)) (xSee_cons rfl (xne_nil _) (xSee_nil _)) rfl rfl ?_
  refine xRn.callV (al := []) (st := []) (nx := 14) (by decide +kernel) lk_V_M_orderMessage_207_M_ordered_6_0 rfl rfl (c_M_ordered (d := d + 5) (sF S 836 ((gF S 836) + 1)) r  h) rfl (Nat.le_of_ble_eq_true rfl) rfl rfl ?_ ?_
  · rintro _ _ ⟨x1, S2, r3, e9, rfl, h⟩
    cases e9
    show xRn G l _ _ _ 14 [.ref 24, .null] [.int x1] (hL S2 r3)
    refine xRn.blk (pc1 := 16) (ls1 := [.ref 24, .int x1]) (st1 := [.int x1]) (hp1 := (hL S2 r3)) (ob := []) [(.istore_n 1, 1, 1, 0, 0, 0), (.iload_n 1, 1, 1, 0, 0, 0)] [] (by decide +kernel) rfl xall_nil (xSee_nil _) rfl rfl ?_
    refine xRn.if_ge (tgt := 34) (nx := 19) (off := 18) (by decide +kernel) (by decide) rfl (fun c4 => ?_) (fun c4 => ?_)
    · have h := h.1 c4
      obtain ⟨o5, o6, h⟩ := h
      refine xRn.blk (pc1 := 64) (ls1 := [.ref 24, .int x1]) (st1 := [.int ((gF S2 835) + 1), .ref 24]) (hp1 := (hL (sA (sA S2 17 (upd (gA S2 17) x1.toNatClampNeg (gF S2 810))) 22 (upd (gA S2 22) (gF S2 835).toNatClampNeg (gF S2 810))) r3)) (ob := [(24 : Nat) = 24, (24 : Nat) = 24, (33 : Nat) = 33, vp_in x1 40, (24 : Nat) = 24, (24 : Nat) = 24, (24 : Nat) = 24, (38 : Nat) = 38, vp_in (gF S2 835) 520, (24 : Nat) = 24]) [(.aload_n 0, 1, 0, 0, 0, 0), (.getfield 42, 3, 30, 6, 0, 0), (.iload_n 1, 1, 1, 0, 0, 0), (.aload_n 0, 1, 0, 0, 0, 0), (.getfield 177, 3, 10, 6, 0, 0), (.iastore, 1, 0, 0, 1, 0), (.aload_n 0, 1, 0, 0, 0, 0), (.getfield 57, 3, 37, 6, 0, 0), (.aload_n 0, 1, 0, 0, 0, 0), (.getfield 189, 3, 35, 6, 0, 0), (.aload_n 0, 1, 0, 0, 0, 0), (.getfield 177, 3, 10, 6, 0, 0), (.iastore, 1, 0, 0, 2, 0), (.aload_n 0, 1, 0, 0, 0, 0), (.dup, 1, 0, 0, 0, 0), (.getfield 189, 3, 35, 6, 0, 0), (.iconst 1, 1, 0, 0, 0, 1), (.iadd, 1, 0, 0, 0, 0)] [(24, xc8 S2), (33, xc17 S2), (38, xc22 S2)] (by decide +kernel) rfl (xall_cons rfl (xall_cons rfl (xall_cons rfl (xall_cons o5 (xall_cons rfl (xall_cons rfl (xall_cons rfl (xall_cons rfl (xall_cons o6 (xall_cons rfl xall_nil)))))))))) (xSee_cons rfl (xne_cons (by decide) (xne_cons (by decide) (xne_nil _))) (xSee_cons rfl (xne_cons (by decide) (xne_nil _)) (xSee_cons rfl (xne_nil _) (xSee_nil _)))) rfl rfl ?_
      refine xRn.blk (pc1 := 69) (ls1 := [.ref 24, .int x1]) (st1 := [.int x1, .ref 24]) (hp1 := (hL (sF (sA (sA S2 17 (upd (gA S2 17) x1.toNatClampNeg (gF S2 810))) 22 (upd (gA S2 22) (gF S2 835).toNatClampNeg (gF S2 810))) 835 ((gF S2 835) + 1)) r3)) (ob := [(24 : Nat) = 24]) [(.putfield 189, 3, 35, 6, 0, 0), (.aload_n 0, 1, 0, 0, 0, 0), (.iload_n 1, 1, 1, 0, 0, 0)] [(24, xc8 (sA (sA S2 17 (upd (gA S2 17) x1.toNatClampNeg (gF S2 810))) 22 (upd (gA S2 22) (gF S2 835).toNatClampNeg (gF S2 810))))] (by decide +kernel) rfl (xall_cons rfl xall_nil) (xSee_cons rfl (xne_nil _) (xSee_nil _)) rfl rfl ?_
      refine xRn.callV (al := [.int x1]) (st := []) (nx := 72) (by decide +kernel) lk_V_M_orderMessage_211_M_tell_6_1 rfl rfl (c_M_tell (d := d + 0) (sF (sA (sA S2 17 (upd (gA S2 17) x1.toNatClampNeg (gF S2 810))) 22 (upd (gA S2 22) (gF S2 835).toNatClampNeg (gF S2 810))) 835 ((gF S2 835) + 1)) r3 x1 h) rfl (Nat.le_of_ble_eq_true rfl) rfl rfl ?_ ?_
      · rintro _ _ ⟨S8, r9, e9, rfl, h⟩
        cases e9
        show xRn G l _ _ _ 72 [.ref 24, .int x1] [] (hL S8 r9)
        exact xRn.vret (by decide +kernel) rfl ⟨_, _, rfl, rfl, h⟩
      · rintro _ _ ⟨_, _, e9, _⟩
        cases e9
    · have h := h.2 c4
      refine xRn.blk (pc1 := 30) (ls1 := [.ref 24, .int x1]) (st1 := [.int 0, .int 0, .int 56, .int (gF S2 810), .int 56, .ref 24]) (hp1 := (hL S2 r3)) (ob := [(24 : Nat) = 24]) [(.aload_n 0, 1, 0, 0, 0, 0), (.bipush 56, 2, 0, 0, 0, 56), (.aload_n 0, 1, 0, 0, 0, 0), (.getfield 177, 3, 10, 6, 0, 0), (.bipush 56, 2, 0, 0, 0, 56), (.iconst 0, 1, 0, 0, 0, 0), (.iconst 0, 1, 0, 0, 0, 0)] [(24, xc8 S2)] (by decide +kernel) rfl (xall_cons rfl xall_nil) (xSee_cons rfl (xne_nil _) (xSee_nil _)) rfl rfl ?_
      refine xRn.callV (al := [.int 56, .int (gF S2 810), .int 56, .int 0, .int 0]) (st := []) (nx := 33) (by decide +kernel) lk_V_M_orderMessage_124_M_send_6_5 rfl rfl (c_M_send (d := d + 1) S2 r3 56 (gF S2 810) 56 0 0 h) rfl (Nat.le_of_ble_eq_true rfl) rfl rfl ?_ ?_
      · rintro _ _ ⟨S11, r12, e9, rfl, h⟩
        cases e9
        show xRn G l _ _ _ 33 [.ref 24, .int x1] [] (hL S11 r12)
        exact xRn.vret (by decide +kernel) rfl ⟨_, _, rfl, rfl, h⟩
      · rintro _ _ ⟨_, _, e9, _⟩
        cases e9
  · rintro _ _ ⟨_, _, _, e9, _⟩
    cases e9
/-! M_settle -/
def w_M_settle  (S : XS) (r : List AE) (K : XS → List AE → Prop) : Prop :=
  (((gF S 826) < (gF S 820) → (K (sF S 826 0) r)) ∧ (¬ (gF S 826) < (gF S 820) → ((¬ (gF S 819) = 0 → (K (sF S 826 (gF S 826)) r)) ∧ ((gF S 819) = 0 → (K (sF S 826 0) r)))))
set_option maxRecDepth 100000 in
theorem c_M_settle {G : XG} {l : Launch} {d : Nat} (S : XS) (r : List AE) {K : XS → List AE → Prop} (h : w_M_settle  S r K) : xCt G l (d + 0) xm_M_settle [.ref 24] (hL S r) (pV K) := by
  refine xCt.intro (by decide) (by decide) (List.forall_mem_cons.mpr ⟨rfl, (fun _ h => by cases h)⟩) (Nat.le_of_ble_eq_true rfl) rfl ?_
  show xRn G l _ xm_M_settle _ 0 [.ref 24] [] (hL S r)
  refine xRn.blk (pc1 := 9) (ls1 := [.ref 24]) (st1 := [.int (gF S 826), .int (gF S 820), .ref 24]) (hp1 := (hL S r)) (ob := [(24 : Nat) = 24, (24 : Nat) = 24]) [(.aload_n 0, 1, 0, 0, 0, 0), (.aload_n 0, 1, 0, 0, 0, 0), (.getfield 28, 3, 20, 6, 0, 0), (.aload_n 0, 1, 0, 0, 0, 0), (.getfield 128, 3, 26, 6, 0, 0)] [(24, xc8 S)] (by decide +kernel) rfl (xall_cons rfl (xall_cons rfl xall_nil)) (xSee_cons rfl (xne_nil _) (xSee_nil _)) rfl rfl ?_
  refine xRn.ic_gt (tgt := 19) (nx := 12) (off := 10) (by decide +kernel) (by decide) rfl (fun c1 => ?_) (fun c1 => ?_)
  · have h := h.1 c1
    refine xRn.blk (pc1 := 20) (ls1 := [.ref 24]) (st1 := [.int 0, .ref 24]) (hp1 := (hL S r)) (ob := []) [(.iconst 0, 1, 0, 0, 0, 0)] [] (by decide +kernel) rfl xall_nil (xSee_nil _) rfl rfl ?_
    refine xRn.goto (tgt := 27) (off := 7) (by decide +kernel) (by decide) ?_
    refine xRn.blk (pc1 := 30) (ls1 := [.ref 24]) (st1 := []) (hp1 := (hL (sF S 826 0) r)) (ob := [(24 : Nat) = 24]) [(.putfield 128, 3, 26, 6, 0, 0)] [(24, xc8 S)] (by decide +kernel) rfl (xall_cons rfl xall_nil) (xSee_cons rfl (xne_nil _) (xSee_nil _)) rfl rfl ?_
    exact xRn.vret (by decide +kernel) rfl ⟨_, _, rfl, rfl, h⟩
  · have h := h.2 c1
    refine xRn.blk (pc1 := 16) (ls1 := [.ref 24]) (st1 := [.int (gF S 819), .ref 24]) (hp1 := (hL S r)) (ob := [(24 : Nat) = 24]) [(.aload_n 0, 1, 0, 0, 0, 0), (.getfield 118, 3, 19, 6, 0, 0)] [(24, xc8 S)] (by decide +kernel) rfl (xall_cons rfl xall_nil) (xSee_cons rfl (xne_nil _) (xSee_nil _)) rfl rfl ?_
    refine xRn.if_ne (tgt := 23) (nx := 19) (off := 7) (by decide +kernel) (by decide) rfl (fun c2 => ?_) (fun c2 => ?_)
    · have h := h.1 c2
      refine xRn.blk (pc1 := 30) (ls1 := [.ref 24]) (st1 := []) (hp1 := (hL (sF S 826 (gF S 826)) r)) (ob := [(24 : Nat) = 24, (24 : Nat) = 24]) [(.aload_n 0, 1, 0, 0, 0, 0), (.getfield 128, 3, 26, 6, 0, 0), (.putfield 128, 3, 26, 6, 0, 0)] [(24, xc8 S)] (by decide +kernel) rfl (xall_cons rfl (xall_cons rfl xall_nil)) (xSee_cons rfl (xne_nil _) (xSee_nil _)) rfl rfl ?_
      exact xRn.vret (by decide +kernel) rfl ⟨_, _, rfl, rfl, h⟩
    · have h := h.2 c2
      refine xRn.blk (pc1 := 20) (ls1 := [.ref 24]) (st1 := [.int 0, .ref 24]) (hp1 := (hL S r)) (ob := []) [(.iconst 0, 1, 0, 0, 0, 0)] [] (by decide +kernel) rfl xall_nil (xSee_nil _) rfl rfl ?_
      refine xRn.goto (tgt := 27) (off := 7) (by decide +kernel) (by decide) ?_
      refine xRn.blk (pc1 := 30) (ls1 := [.ref 24]) (st1 := []) (hp1 := (hL (sF S 826 0) r)) (ob := [(24 : Nat) = 24]) [(.putfield 128, 3, 26, 6, 0, 0)] [(24, xc8 S)] (by decide +kernel) rfl (xall_cons rfl xall_nil) (xSee_cons rfl (xne_nil _) (xSee_nil _)) rfl rfl ?_
      exact xRn.vret (by decide +kernel) rfl ⟨_, _, rfl, rfl, h⟩
/-! M_taken -/
def w_M_taken_355   (K : Int32 → XS → List AE → Prop) (S : XS) (r : List AE) : Prop :=
  (K 2 S r)
set_option maxRecDepth 100000 in
theorem t_M_taken_355 {G : XG} {l : Launch} {d : Nat} {K : Int32 → XS → List AE → Prop} (S : XS) (r : List AE) (h : w_M_taken_355 K S r) : xRn G l (d + 9) xm_M_taken (pI K) 355 [.null] [] (hL S r) := by
  refine xRn.blk (pc1 := 356) (ls1 := [.null]) (st1 := [.int 2]) (hp1 := (hL S r)) (ob := []) [(.iconst 2, 1, 0, 0, 0, 2)] [] (by decide +kernel) rfl xall_nil (xSee_nil _) rfl rfl ?_
  exact xRn.iret (by decide +kernel) rfl rfl ⟨_, _, _, rfl, rfl, h⟩
def w_M_taken_351   (K : Int32 → XS → List AE → Prop) (S : XS) (r : List AE) : Prop :=
  (w_M_orderMessage S r  (fun S2 r3 => (w_M_taken_355 K S2 r3)))
set_option maxRecDepth 100000 in
theorem t_M_taken_351 {G : XG} {l : Launch} {d : Nat} {K : Int32 → XS → List AE → Prop} (S : XS) (r : List AE) (h : w_M_taken_351 K S r) : xRn G l (d + 9) xm_M_taken (pI K) 351 [.ref 24] [] (hL S r) := by
  refine xRn.blk (pc1 := 352) (ls1 := [.ref 24]) (st1 := [.ref 24]) (hp1 := (hL S r)) (ob := []) [(.aload_n 0, 1, 0, 0, 0, 0)] [] (by decide +kernel) rfl xall_nil (xSee_nil _) rfl rfl ?_
  refine xRn.callV (al := []) (st := []) (nx := 355) (by decide +kernel) lk_V_M_taken_229_M_orderMessage_6_0 rfl rfl (c_M_orderMessage (d := d + 0) S r  h) rfl (Nat.le_of_ble_eq_true rfl) rfl rfl ?_ ?_
  · rintro _ _ ⟨S2, r3, e9, rfl, h⟩
    cases e9
    show xRn G l _ _ _ 355 [.ref 24] [] (hL S2 r3)
    refine xRn.forget (xle_no xle_nil) ?_
    exact t_M_taken_355   S2 r3 h
  · rintro _ _ ⟨_, _, e9, _⟩
    cases e9
def w_M_taken_324   (K : Int32 → XS → List AE → Prop) (S : XS) (r : List AE) : Prop :=
  (((gF S 808) = (68 : Int32) → (w_M_taken_351 K S r)) ∧ (¬ (gF S 808) = (68 : Int32) → (((gF S 808) = (70 : Int32) → (w_M_taken_351 K S r)) ∧ (¬ (gF S 808) = (70 : Int32) → ((¬ (gF S 808) = (71 : Int32) → (w_M_taken_355 K S r)) ∧ ((gF S 808) = (71 : Int32) → (w_M_taken_351 K S r)))))))
set_option maxRecDepth 100000 in
theorem t_M_taken_324 {G : XG} {l : Launch} {d : Nat} {K : Int32 → XS → List AE → Prop} (S : XS) (r : List AE) (h : w_M_taken_324 K S r) : xRn G l (d + 9) xm_M_taken (pI K) 324 [.ref 24] [] (hL S r) := by
  refine xRn.blk (pc1 := 330) (ls1 := [.ref 24]) (st1 := [.int 68, .int (gF S 808)]) (hp1 := (hL S r)) (ob := [(24 : Nat) = 24]) [(.aload_n 0, 1, 0, 0, 0, 0), (.getfield 168, 3, 8, 6, 0, 0), (.bipush 68, 2, 0, 0, 0, 68)] [(24, xc8 S)] (by decide +kernel) rfl (xall_cons rfl xall_nil) (xSee_cons rfl (xne_nil _) (xSee_nil _)) rfl rfl ?_
  refine xRn.ic_eq (tgt := 351) (nx := 333) (off := 21) (by decide +kernel) (by decide) rfl (fun c4 => ?_) (fun c4 => ?_)
  · have h := h.1 c4
    refine xRn.forget (xle_eq xle_nil) ?_
    exact t_M_taken_351   S r h
  · have h := h.2 c4
    refine xRn.blk (pc1 := 339) (ls1 := [.ref 24]) (st1 := [.int 70, .int (gF S 808)]) (hp1 := (hL S r)) (ob := [(24 : Nat) = 24]) [(.aload_n 0, 1, 0, 0, 0, 0), (.getfield 168, 3, 8, 6, 0, 0), (.bipush 70, 2, 0, 0, 0, 70)] [(24, xc8 S)] (by decide +kernel) rfl (xall_cons rfl xall_nil) (xSee_cons rfl (xne_nil _) (xSee_nil _)) rfl rfl ?_
    refine xRn.ic_eq (tgt := 351) (nx := 342) (off := 12) (by decide +kernel) (by decide) rfl (fun c5 => ?_) (fun c5 => ?_)
    · have h := h.1 c5
      refine xRn.forget (xle_eq xle_nil) ?_
      exact t_M_taken_351   S r h
    · have h := h.2 c5
      refine xRn.blk (pc1 := 348) (ls1 := [.ref 24]) (st1 := [.int 71, .int (gF S 808)]) (hp1 := (hL S r)) (ob := [(24 : Nat) = 24]) [(.aload_n 0, 1, 0, 0, 0, 0), (.getfield 168, 3, 8, 6, 0, 0), (.bipush 71, 2, 0, 0, 0, 71)] [(24, xc8 S)] (by decide +kernel) rfl (xall_cons rfl xall_nil) (xSee_cons rfl (xne_nil _) (xSee_nil _)) rfl rfl ?_
      refine xRn.ic_ne (tgt := 355) (nx := 351) (off := 7) (by decide +kernel) (by decide) rfl (fun c6 => ?_) (fun c6 => ?_)
      · have h := h.1 c6
        refine xRn.forget (xle_no xle_nil) ?_
        exact t_M_taken_355   S r h
      · have h := h.2 c6
        refine xRn.forget (xle_eq xle_nil) ?_
        exact t_M_taken_351   S r h
def w_M_taken_311   (K : Int32 → XS → List AE → Prop) (S : XS) (r : List AE) : Prop :=
  ((¬ (gF S 808) = (53 : Int32) → (w_M_taken_324 K S r)) ∧ ((gF S 808) = (53 : Int32) → (w_M_leave S r  (fun S9 r10 => (w_M_taken_324 K S9 r10)))))
set_option maxRecDepth 100000 in
theorem t_M_taken_311 {G : XG} {l : Launch} {d : Nat} {K : Int32 → XS → List AE → Prop} (S : XS) (r : List AE) (h : w_M_taken_311 K S r) : xRn G l (d + 9) xm_M_taken (pI K) 311 [.ref 24] [] (hL S r) := by
  refine xRn.blk (pc1 := 317) (ls1 := [.ref 24]) (st1 := [.int 53, .int (gF S 808)]) (hp1 := (hL S r)) (ob := [(24 : Nat) = 24]) [(.aload_n 0, 1, 0, 0, 0, 0), (.getfield 168, 3, 8, 6, 0, 0), (.bipush 53, 2, 0, 0, 0, 53)] [(24, xc8 S)] (by decide +kernel) rfl (xall_cons rfl xall_nil) (xSee_cons rfl (xne_nil _) (xSee_nil _)) rfl rfl ?_
  refine xRn.ic_ne (tgt := 324) (nx := 320) (off := 7) (by decide +kernel) (by decide) rfl (fun c7 => ?_) (fun c7 => ?_)
  · have h := h.1 c7
    refine xRn.forget (xle_eq xle_nil) ?_
    exact t_M_taken_324   S r h
  · have h := h.2 c7
    refine xRn.blk (pc1 := 321) (ls1 := [.ref 24]) (st1 := [.ref 24]) (hp1 := (hL S r)) (ob := []) [(.aload_n 0, 1, 0, 0, 0, 0)] [] (by decide +kernel) rfl xall_nil (xSee_nil _) rfl rfl ?_
    refine xRn.callV (al := []) (st := []) (nx := 324) (by decide +kernel) lk_V_M_taken_220_M_leave_6_0 rfl rfl (c_M_leave (d := d + 1) S r  h) rfl (Nat.le_of_ble_eq_true rfl) rfl rfl ?_ ?_
    · rintro _ _ ⟨S9, r10, e9, rfl, h⟩
      cases e9
      show xRn G l _ _ _ 324 [.ref 24] [] (hL S9 r10)
      refine xRn.forget (xle_eq xle_nil) ?_
      exact t_M_taken_324   S9 r10 h
    · rintro _ _ ⟨_, _, e9, _⟩
      cases e9
def w_M_taken_283   (K : Int32 → XS → List AE → Prop) (S : XS) (r : List AE) : Prop :=
  ((¬ (gF S 808) = (52 : Int32) → (w_M_taken_311 K S r)) ∧ ((gF S 808) = (52 : Int32) → (((gF S 810) ≤ (gF S 820) → (w_M_taken_311 K S r)) ∧ (¬ (gF S 810) ≤ (gF S 820) → (w_M_taken_311 K (sF S 820 (gF S 810)) r)))))
set_option maxRecDepth 100000 in
theorem t_M_taken_283 {G : XG} {l : Launch} {d : Nat} {K : Int32 → XS → List AE → Prop} (S : XS) (r : List AE) (h : w_M_taken_283 K S r) : xRn G l (d + 9) xm_M_taken (pI K) 283 [.ref 24] [] (hL S r) := by
  refine xRn.blk (pc1 := 289) (ls1 := [.ref 24]) (st1 := [.int 52, .int (gF S 808)]) (hp1 := (hL S r)) (ob := [(24 : Nat) = 24]) [(.aload_n 0, 1, 0, 0, 0, 0), (.getfield 168, 3, 8, 6, 0, 0), (.bipush 52, 2, 0, 0, 0, 52)] [(24, xc8 S)] (by decide +kernel) rfl (xall_cons rfl xall_nil) (xSee_cons rfl (xne_nil _) (xSee_nil _)) rfl rfl ?_
  refine xRn.ic_ne (tgt := 311) (nx := 292) (off := 22) (by decide +kernel) (by decide) rfl (fun c11 => ?_) (fun c11 => ?_)
  · have h := h.1 c11
    refine xRn.forget (xle_eq xle_nil) ?_
    exact t_M_taken_311   S r h
  · have h := h.2 c11
    refine xRn.blk (pc1 := 300) (ls1 := [.ref 24]) (st1 := [.int (gF S 820), .int (gF S 810)]) (hp1 := (hL S r)) (ob := [(24 : Nat) = 24, (24 : Nat) = 24]) [(.aload_n 0, 1, 0, 0, 0, 0), (.getfield 177, 3, 10, 6, 0, 0), (.aload_n 0, 1, 0, 0, 0, 0), (.getfield 28, 3, 20, 6, 0, 0)] [(24, xc8 S)] (by decide +kernel) rfl (xall_cons rfl (xall_cons rfl xall_nil)) (xSee_cons rfl (xne_nil _) (xSee_nil _)) rfl rfl ?_
    refine xRn.ic_le (tgt := 311) (nx := 303) (off := 11) (by decide +kernel) (by decide) rfl (fun c12 => ?_) (fun c12 => ?_)
    · have h := h.1 c12
      refine xRn.forget (xle_eq xle_nil) ?_
      exact t_M_taken_311   S r h
    · have h := h.2 c12
      refine xRn.blk (pc1 := 311) (ls1 := [.ref 24]) (st1 := []) (hp1 := (hL (sF S 820 (gF S 810)) r)) (ob := [(24 : Nat) = 24, (24 : Nat) = 24]) [(.aload_n 0, 1, 0, 0, 0, 0), (.aload_n 0, 1, 0, 0, 0, 0), (.getfield 177, 3, 10, 6, 0, 0), (.putfield 28, 3, 20, 6, 0, 0)] [(24, xc8 S)] (by decide +kernel) rfl (xall_cons rfl (xall_cons rfl xall_nil)) (xSee_cons rfl (xne_nil _) (xSee_nil _)) rfl rfl ?_
      refine xRn.forget (xle_eq xle_nil) ?_
      exact t_M_taken_311   (sF S 820 (gF S 810)) r h
def w_M_taken_262   (K : Int32 → XS → List AE → Prop) (S : XS) (r : List AE) : Prop :=
  ((¬ (gF S 808) = (50 : Int32) → (w_M_taken_283 K S r)) ∧ ((gF S 808) = (50 : Int32) → (w_M_answer S r (gF S 810) (gF S 811) (fun S15 r16 => (w_M_taken_283 K S15 r16)))))
set_option maxRecDepth 100000 in
theorem t_M_taken_262 {G : XG} {l : Launch} {d : Nat} {K : Int32 → XS → List AE → Prop} (S : XS) (r : List AE) (h : w_M_taken_262 K S r) : xRn G l (d + 9) xm_M_taken (pI K) 262 [.ref 24] [] (hL S r) := by
  refine xRn.blk (pc1 := 268) (ls1 := [.ref 24]) (st1 := [.int 50, .int (gF S 808)]) (hp1 := (hL S r)) (ob := [(24 : Nat) = 24]) [(.aload_n 0, 1, 0, 0, 0, 0), (.getfield 168, 3, 8, 6, 0, 0), (.bipush 50, 2, 0, 0, 0, 50)] [(24, xc8 S)] (by decide +kernel) rfl (xall_cons rfl xall_nil) (xSee_cons rfl (xne_nil _) (xSee_nil _)) rfl rfl ?_
  refine xRn.ic_ne (tgt := 283) (nx := 271) (off := 15) (by decide +kernel) (by decide) rfl (fun c13 => ?_) (fun c13 => ?_)
  · have h := h.1 c13
    refine xRn.forget (xle_eq xle_nil) ?_
    exact t_M_taken_283   S r h
  · have h := h.2 c13
    refine xRn.blk (pc1 := 280) (ls1 := [.ref 24]) (st1 := [.int (gF S 811), .int (gF S 810), .ref 24]) (hp1 := (hL S r)) (ob := [(24 : Nat) = 24, (24 : Nat) = 24]) [(.aload_n 0, 1, 0, 0, 0, 0), (.aload_n 0, 1, 0, 0, 0, 0), (.getfield 177, 3, 10, 6, 0, 0), (.aload_n 0, 1, 0, 0, 0, 0), (.getfield 180, 3, 11, 6, 0, 0)] [(24, xc8 S)] (by decide +kernel) rfl (xall_cons rfl (xall_cons rfl xall_nil)) (xSee_cons rfl (xne_nil _) (xSee_nil _)) rfl rfl ?_
    refine xRn.callV (al := [.int (gF S 810), .int (gF S 811)]) (st := []) (nx := 283) (by decide +kernel) lk_V_M_taken_223_M_answer_6_2 rfl rfl (c_M_answer (d := d + 2) S r (gF S 810) (gF S 811) h) rfl (Nat.le_of_ble_eq_true rfl) rfl rfl ?_ ?_
    · rintro _ _ ⟨S15, r16, e9, rfl, h⟩
      cases e9
      show xRn G l _ _ _ 283 [.ref 24] [] (hL S15 r16)
      refine xRn.forget (xle_eq xle_nil) ?_
      exact t_M_taken_283   S15 r16 h
    · rintro _ _ ⟨_, _, e9, _⟩
      cases e9
def w_M_taken_228   (K : Int32 → XS → List AE → Prop) (S : XS) (r : List AE) : Prop :=
  (K 3 S r)
set_option maxRecDepth 100000 in
theorem t_M_taken_228 {G : XG} {l : Launch} {d : Nat} {K : Int32 → XS → List AE → Prop} (S : XS) (r : List AE) (h : w_M_taken_228 K S r) : xRn G l (d + 9) xm_M_taken (pI K) 228 [.null] [] (hL S r) := by
  refine xRn.blk (pc1 := 229) (ls1 := [.null]) (st1 := [.int 3]) (hp1 := (hL S r)) (ob := []) [(.iconst 3, 1, 0, 0, 0, 3)] [] (by decide +kernel) rfl xall_nil (xSee_nil _) rfl rfl ?_
  exact xRn.iret (by decide +kernel) rfl rfl ⟨_, _, _, rfl, rfl, h⟩
def w_M_taken_195   (K : Int32 → XS → List AE → Prop) (S : XS) (r : List AE) : Prop :=
  (((gF S 819) = 0 → (w_M_taken_228 K (sF S 826 (gF S 826)) r)) ∧ (¬ (gF S 819) = 0 → (((gF S 809) ≤ (gF S 826) → (w_M_taken_228 K (sF S 826 (gF S 826)) r)) ∧ (¬ (gF S 809) ≤ (gF S 826) → (w_M_taken_228 K (sF S 826 (gF S 809)) r)))))
set_option maxRecDepth 100000 in
theorem t_M_taken_195 {G : XG} {l : Launch} {d : Nat} {K : Int32 → XS → List AE → Prop} (S : XS) (r : List AE) (h : w_M_taken_195 K S r) : xRn G l (d + 9) xm_M_taken (pI K) 195 [.ref 24] [] (hL S r) := by
  refine xRn.blk (pc1 := 200) (ls1 := [.ref 24]) (st1 := [.int (gF S 819), .ref 24]) (hp1 := (hL S r)) (ob := [(24 : Nat) = 24]) [(.aload_n 0, 1, 0, 0, 0, 0), (.aload_n 0, 1, 0, 0, 0, 0), (.getfield 118, 3, 19, 6, 0, 0)] [(24, xc8 S)] (by decide +kernel) rfl (xall_cons rfl xall_nil) (xSee_cons rfl (xne_nil _) (xSee_nil _)) rfl rfl ?_
  refine xRn.if_eq (tgt := 221) (nx := 203) (off := 21) (by decide +kernel) (by decide) rfl (fun c17 => ?_) (fun c17 => ?_)
  · have h := h.1 c17
    refine xRn.blk (pc1 := 228) (ls1 := [.ref 24]) (st1 := []) (hp1 := (hL (sF S 826 (gF S 826)) r)) (ob := [(24 : Nat) = 24, (24 : Nat) = 24]) [(.aload_n 0, 1, 0, 0, 0, 0), (.getfield 128, 3, 26, 6, 0, 0), (.putfield 128, 3, 26, 6, 0, 0)] [(24, xc8 S)] (by decide +kernel) rfl (xall_cons rfl (xall_cons rfl xall_nil)) (xSee_cons rfl (xne_nil _) (xSee_nil _)) rfl rfl ?_
    refine xRn.forget (xle_no xle_nil) ?_
    exact t_M_taken_228   (sF S 826 (gF S 826)) r h
  · have h := h.2 c17
    refine xRn.blk (pc1 := 211) (ls1 := [.ref 24]) (st1 := [.int (gF S 826), .int (gF S 809), .ref 24]) (hp1 := (hL S r)) (ob := [(24 : Nat) = 24, (24 : Nat) = 24]) [(.aload_n 0, 1, 0, 0, 0, 0), (.getfield 171, 3, 9, 6, 0, 0), (.aload_n 0, 1, 0, 0, 0, 0), (.getfield 128, 3, 26, 6, 0, 0)] [(24, xc8 S)] (by decide +kernel) rfl (xall_cons rfl (xall_cons rfl xall_nil)) (xSee_cons rfl (xne_nil _) (xSee_nil _)) rfl rfl ?_
    refine xRn.ic_le (tgt := 221) (nx := 214) (off := 10) (by decide +kernel) (by decide) rfl (fun c18 => ?_) (fun c18 => ?_)
    · have h := h.1 c18
      refine xRn.blk (pc1 := 228) (ls1 := [.ref 24]) (st1 := []) (hp1 := (hL (sF S 826 (gF S 826)) r)) (ob := [(24 : Nat) = 24, (24 : Nat) = 24]) [(.aload_n 0, 1, 0, 0, 0, 0), (.getfield 128, 3, 26, 6, 0, 0), (.putfield 128, 3, 26, 6, 0, 0)] [(24, xc8 S)] (by decide +kernel) rfl (xall_cons rfl (xall_cons rfl xall_nil)) (xSee_cons rfl (xne_nil _) (xSee_nil _)) rfl rfl ?_
      refine xRn.forget (xle_no xle_nil) ?_
      exact t_M_taken_228   (sF S 826 (gF S 826)) r h
    · have h := h.2 c18
      refine xRn.blk (pc1 := 218) (ls1 := [.ref 24]) (st1 := [.int (gF S 809), .ref 24]) (hp1 := (hL S r)) (ob := [(24 : Nat) = 24]) [(.aload_n 0, 1, 0, 0, 0, 0), (.getfield 171, 3, 9, 6, 0, 0)] [(24, xc8 S)] (by decide +kernel) rfl (xall_cons rfl xall_nil) (xSee_cons rfl (xne_nil _) (xSee_nil _)) rfl rfl ?_
      refine xRn.goto (tgt := 225) (off := 7) (by decide +kernel) (by decide) ?_
      refine xRn.blk (pc1 := 228) (ls1 := [.ref 24]) (st1 := []) (hp1 := (hL (sF S 826 (gF S 809)) r)) (ob := [(24 : Nat) = 24]) [(.putfield 128, 3, 26, 6, 0, 0)] [(24, xc8 S)] (by decide +kernel) rfl (xall_cons rfl xall_nil) (xSee_cons rfl (xne_nil _) (xSee_nil _)) rfl rfl ?_
      refine xRn.forget (xle_no xle_nil) ?_
      exact t_M_taken_228   (sF S 826 (gF S 809)) r h
def w_M_taken_177   (K : Int32 → XS → List AE → Prop) (S : XS) (r : List AE) : Prop :=
  (((gF S 819) = 0 → (w_M_taken_195 K S r)) ∧ (¬ (gF S 819) = 0 → ((¬ (gF S 826) = 0 → (w_M_taken_195 K S r)) ∧ ((gF S 826) = 0 → (w_M_ask S r  (fun S22 r23 => (w_M_taken_195 K S22 r23)))))))
set_option maxRecDepth 100000 in
theorem t_M_taken_177 {G : XG} {l : Launch} {d : Nat} {K : Int32 → XS → List AE → Prop} (S : XS) (r : List AE) (h : w_M_taken_177 K S r) : xRn G l (d + 9) xm_M_taken (pI K) 177 [.ref 24] [] (hL S r) := by
  refine xRn.blk (pc1 := 181) (ls1 := [.ref 24]) (st1 := [.int (gF S 819)]) (hp1 := (hL S r)) (ob := [(24 : Nat) = 24]) [(.aload_n 0, 1, 0, 0, 0, 0), (.getfield 118, 3, 19, 6, 0, 0)] [(24, xc8 S)] (by decide +kernel) rfl (xall_cons rfl xall_nil) (xSee_cons rfl (xne_nil _) (xSee_nil _)) rfl rfl ?_
  refine xRn.if_eq (tgt := 195) (nx := 184) (off := 14) (by decide +kernel) (by decide) rfl (fun c19 => ?_) (fun c19 => ?_)
  · have h := h.1 c19
    refine xRn.forget (xle_eq xle_nil) ?_
    exact t_M_taken_195   S r h
  · have h := h.2 c19
    refine xRn.blk (pc1 := 188) (ls1 := [.ref 24]) (st1 := [.int (gF S 826)]) (hp1 := (hL S r)) (ob := [(24 : Nat) = 24]) [(.aload_n 0, 1, 0, 0, 0, 0), (.getfield 128, 3, 26, 6, 0, 0)] [(24, xc8 S)] (by decide +kernel) rfl (xall_cons rfl xall_nil) (xSee_cons rfl (xne_nil _) (xSee_nil _)) rfl rfl ?_
    refine xRn.if_ne (tgt := 195) (nx := 191) (off := 7) (by decide +kernel) (by decide) rfl (fun c20 => ?_) (fun c20 => ?_)
    · have h := h.1 c20
      refine xRn.forget (xle_eq xle_nil) ?_
      exact t_M_taken_195   S r h
    · have h := h.2 c20
      refine xRn.blk (pc1 := 192) (ls1 := [.ref 24]) (st1 := [.ref 24]) (hp1 := (hL S r)) (ob := []) [(.aload_n 0, 1, 0, 0, 0, 0)] [] (by decide +kernel) rfl xall_nil (xSee_nil _) rfl rfl ?_
      refine xRn.callV (al := []) (st := []) (nx := 195) (by decide +kernel) lk_V_M_taken_226_M_ask_6_0 rfl rfl (c_M_ask (d := d + 1) S r  h) rfl (Nat.le_of_ble_eq_true rfl) rfl rfl ?_ ?_
      · rintro _ _ ⟨S22, r23, e9, rfl, h⟩
        cases e9
        show xRn G l _ _ _ 195 [.ref 24] [] (hL S22 r23)
        refine xRn.forget (xle_eq xle_nil) ?_
        exact t_M_taken_195   S22 r23 h
      · rintro _ _ ⟨_, _, e9, _⟩
        cases e9
def w_M_taken_164   (K : Int32 → XS → List AE → Prop) (S : XS) (r : List AE) : Prop :=
  ((¬ (gF S 808) = (53 : Int32) → (w_M_taken_177 K S r)) ∧ ((gF S 808) = (53 : Int32) → (w_M_leave S r  (fun S26 r27 => (w_M_taken_177 K S26 r27)))))
set_option maxRecDepth 100000 in
theorem t_M_taken_164 {G : XG} {l : Launch} {d : Nat} {K : Int32 → XS → List AE → Prop} (S : XS) (r : List AE) (h : w_M_taken_164 K S r) : xRn G l (d + 9) xm_M_taken (pI K) 164 [.ref 24] [] (hL S r) := by
  refine xRn.blk (pc1 := 170) (ls1 := [.ref 24]) (st1 := [.int 53, .int (gF S 808)]) (hp1 := (hL S r)) (ob := [(24 : Nat) = 24]) [(.aload_n 0, 1, 0, 0, 0, 0), (.getfield 168, 3, 8, 6, 0, 0), (.bipush 53, 2, 0, 0, 0, 53)] [(24, xc8 S)] (by decide +kernel) rfl (xall_cons rfl xall_nil) (xSee_cons rfl (xne_nil _) (xSee_nil _)) rfl rfl ?_
  refine xRn.ic_ne (tgt := 177) (nx := 173) (off := 7) (by decide +kernel) (by decide) rfl (fun c24 => ?_) (fun c24 => ?_)
  · have h := h.1 c24
    refine xRn.forget (xle_eq xle_nil) ?_
    exact t_M_taken_177   S r h
  · have h := h.2 c24
    refine xRn.blk (pc1 := 174) (ls1 := [.ref 24]) (st1 := [.ref 24]) (hp1 := (hL S r)) (ob := []) [(.aload_n 0, 1, 0, 0, 0, 0)] [] (by decide +kernel) rfl xall_nil (xSee_nil _) rfl rfl ?_
    refine xRn.callV (al := []) (st := []) (nx := 177) (by decide +kernel) lk_V_M_taken_220_M_leave_6_0 rfl rfl (c_M_leave (d := d + 1) S r  h) rfl (Nat.le_of_ble_eq_true rfl) rfl rfl ?_ ?_
    · rintro _ _ ⟨S26, r27, e9, rfl, h⟩
      cases e9
      show xRn G l _ _ _ 177 [.ref 24] [] (hL S26 r27)
      refine xRn.forget (xle_eq xle_nil) ?_
      exact t_M_taken_177   S26 r27 h
    · rintro _ _ ⟨_, _, e9, _⟩
      cases e9
def w_M_taken_132   (K : Int32 → XS → List AE → Prop) (S : XS) (r : List AE) : Prop :=
  (((gF S 809) ≤ (gF S 820) → ((¬ (gF S 808) = (49 : Int32) → (w_M_taken_262 K (sF S 820 ((gF S 820) + 1)) r)) ∧ ((gF S 808) = (49 : Int32) → (w_M_send (sF S 820 ((gF S 820) + 1)) r 48 (gF S 810) 0 0 0 (fun S31 r32 => (w_M_taken_262 K S31 r32)))))) ∧ (¬ (gF S 809) ≤ (gF S 820) → ((¬ (gF S 808) = (50 : Int32) → (w_M_taken_164 K S r)) ∧ ((gF S 808) = (50 : Int32) → (w_M_answer S r (gF S 810) (gF S 811) (fun S35 r36 => (w_M_taken_164 K S35 r36)))))))
set_option maxRecDepth 100000 in
theorem t_M_taken_132 {G : XG} {l : Launch} {d : Nat} {K : Int32 → XS → List AE → Prop} (S : XS) (r : List AE) (h : w_M_taken_132 K S r) : xRn G l (d + 9) xm_M_taken (pI K) 132 [.ref 24] [] (hL S r) := by
  refine xRn.blk (pc1 := 140) (ls1 := [.ref 24]) (st1 := [.int (gF S 820), .int (gF S 809)]) (hp1 := (hL S r)) (ob := [(24 : Nat) = 24, (24 : Nat) = 24]) [(.aload_n 0, 1, 0, 0, 0, 0), (.getfield 171, 3, 9, 6, 0, 0), (.aload_n 0, 1, 0, 0, 0, 0), (.getfield 28, 3, 20, 6, 0, 0)] [(24, xc8 S)] (by decide +kernel) rfl (xall_cons rfl (xall_cons rfl xall_nil)) (xSee_cons rfl (xne_nil _) (xSee_nil _)) rfl rfl ?_
  refine xRn.ic_le (tgt := 230) (nx := 143) (off := 90) (by decide +kernel) (by decide) rfl (fun c28 => ?_) (fun c28 => ?_)
  · have h := h.1 c28
    refine xRn.blk (pc1 := 246) (ls1 := [.ref 24]) (st1 := [.int 49, .int (gF S 808)]) (hp1 := (hL (sF S 820 ((gF S 820) + 1)) r)) (ob := [(24 : Nat) = 24, (24 : Nat) = 24, (24 : Nat) = 24]) [(.aload_n 0, 1, 0, 0, 0, 0), (.dup, 1, 0, 0, 0, 0), (.getfield 28, 3, 20, 6, 0, 0), (.iconst 1, 1, 0, 0, 0, 1), (.iadd, 1, 0, 0, 0, 0), (.putfield 28, 3, 20, 6, 0, 0), (.aload_n 0, 1, 0, 0, 0, 0), (.getfield 168, 3, 8, 6, 0, 0), (.bipush 49, 2, 0, 0, 0, 49)] [(24, xc8 S)] (by decide +kernel) rfl (xall_cons rfl (xall_cons rfl (xall_cons rfl xall_nil))) (xSee_cons rfl (xne_nil _) (xSee_nil _)) rfl rfl ?_
    refine xRn.ic_ne (tgt := 262) (nx := 249) (off := 16) (by decide +kernel) (by decide) rfl (fun c29 => ?_) (fun c29 => ?_)
    · have h := h.1 c29
      refine xRn.forget (xle_eq xle_nil) ?_
      exact t_M_taken_262   (sF S 820 ((gF S 820) + 1)) r h
    · have h := h.2 c29
      refine xRn.blk (pc1 := 259) (ls1 := [.ref 24]) (st1 := [.int 0, .int 0, .int 0, .int (gF S 810), .int 48, .ref 24]) (hp1 := (hL (sF S 820 ((gF S 820) + 1)) r)) (ob := [(24 : Nat) = 24]) [(.aload_n 0, 1, 0, 0, 0, 0), (.bipush 48, 2, 0, 0, 0, 48), (.aload_n 0, 1, 0, 0, 0, 0), (.getfield 177, 3, 10, 6, 0, 0), (.iconst 0, 1, 0, 0, 0, 0), (.iconst 0, 1, 0, 0, 0, 0), (.iconst 0, 1, 0, 0, 0, 0)] [(24, xc8 (sF S 820 ((gF S 820) + 1)))] (by decide +kernel) rfl (xall_cons rfl xall_nil) (xSee_cons rfl (xne_nil _) (xSee_nil _)) rfl rfl ?_
      refine xRn.callV (al := [.int 48, .int (gF S 810), .int 0, .int 0, .int 0]) (st := []) (nx := 262) (by decide +kernel) lk_V_M_taken_124_M_send_6_5 rfl rfl (c_M_send (d := d + 2) (sF S 820 ((gF S 820) + 1)) r 48 (gF S 810) 0 0 0 h) rfl (Nat.le_of_ble_eq_true rfl) rfl rfl ?_ ?_
      · rintro _ _ ⟨S31, r32, e9, rfl, h⟩
        cases e9
        show xRn G l _ _ _ 262 [.ref 24] [] (hL S31 r32)
        refine xRn.forget (xle_eq xle_nil) ?_
        exact t_M_taken_262   S31 r32 h
      · rintro _ _ ⟨_, _, e9, _⟩
        cases e9
  · have h := h.2 c28
    refine xRn.blk (pc1 := 149) (ls1 := [.ref 24]) (st1 := [.int 50, .int (gF S 808)]) (hp1 := (hL S r)) (ob := [(24 : Nat) = 24]) [(.aload_n 0, 1, 0, 0, 0, 0), (.getfield 168, 3, 8, 6, 0, 0), (.bipush 50, 2, 0, 0, 0, 50)] [(24, xc8 S)] (by decide +kernel) rfl (xall_cons rfl xall_nil) (xSee_cons rfl (xne_nil _) (xSee_nil _)) rfl rfl ?_
    refine xRn.ic_ne (tgt := 164) (nx := 152) (off := 15) (by decide +kernel) (by decide) rfl (fun c33 => ?_) (fun c33 => ?_)
    · have h := h.1 c33
      refine xRn.forget (xle_eq xle_nil) ?_
      exact t_M_taken_164   S r h
    · have h := h.2 c33
      refine xRn.blk (pc1 := 161) (ls1 := [.ref 24]) (st1 := [.int (gF S 811), .int (gF S 810), .ref 24]) (hp1 := (hL S r)) (ob := [(24 : Nat) = 24, (24 : Nat) = 24]) [(.aload_n 0, 1, 0, 0, 0, 0), (.aload_n 0, 1, 0, 0, 0, 0), (.getfield 177, 3, 10, 6, 0, 0), (.aload_n 0, 1, 0, 0, 0, 0), (.getfield 180, 3, 11, 6, 0, 0)] [(24, xc8 S)] (by decide +kernel) rfl (xall_cons rfl (xall_cons rfl xall_nil)) (xSee_cons rfl (xne_nil _) (xSee_nil _)) rfl rfl ?_
      refine xRn.callV (al := [.int (gF S 810), .int (gF S 811)]) (st := []) (nx := 164) (by decide +kernel) lk_V_M_taken_223_M_answer_6_2 rfl rfl (c_M_answer (d := d + 2) S r (gF S 810) (gF S 811) h) rfl (Nat.le_of_ble_eq_true rfl) rfl rfl ?_ ?_
      · rintro _ _ ⟨S35, r36, e9, rfl, h⟩
        cases e9
        show xRn G l _ _ _ 164 [.ref 24] [] (hL S35 r36)
        refine xRn.forget (xle_eq xle_nil) ?_
        exact t_M_taken_164   S35 r36 h
      · rintro _ _ ⟨_, _, e9, _⟩
        cases e9
def w_M_taken_76   (K : Int32 → XS → List AE → Prop) (S : XS) (r : List AE) : Prop :=
  (((gF S 820) ≤ (gF S 809) → ((¬ (gF S 819) = 0 → (w_M_taken_132 K S r)) ∧ ((gF S 819) = 0 → (w_M_send (sF (sF S 819 1) 826 0) r 65 (gF S 810) 0 0 0 (fun S40 r41 => (w_M_taken_132 K S40 r41)))))) ∧ (¬ (gF S 820) ≤ (gF S 809) → (((gF S 813) = 0 → (w_M_leave S r  (fun S44 r45 => (K 4 S44 r45)))) ∧ (¬ (gF S 813) = 0 → (K 1 S r)))))
set_option maxRecDepth 100000 in
theorem t_M_taken_76 {G : XG} {l : Launch} {d : Nat} {K : Int32 → XS → List AE → Prop} (S : XS) (r : List AE) (h : w_M_taken_76 K S r) : xRn G l (d + 9) xm_M_taken (pI K) 76 [.ref 24] [] (hL S r) := by
  refine xRn.blk (pc1 := 84) (ls1 := [.ref 24]) (st1 := [.int (gF S 820), .int (gF S 809)]) (hp1 := (hL S r)) (ob := [(24 : Nat) = 24, (24 : Nat) = 24]) [(.aload_n 0, 1, 0, 0, 0, 0), (.getfield 171, 3, 9, 6, 0, 0), (.aload_n 0, 1, 0, 0, 0, 0), (.getfield 28, 3, 20, 6, 0, 0)] [(24, xc8 S)] (by decide +kernel) rfl (xall_cons rfl (xall_cons rfl xall_nil)) (xSee_cons rfl (xne_nil _) (xSee_nil _)) rfl rfl ?_
  refine xRn.ic_ge (tgt := 102) (nx := 87) (off := 18) (by decide +kernel) (by decide) rfl (fun c37 => ?_) (fun c37 => ?_)
  · have h := h.1 c37
    refine xRn.blk (pc1 := 106) (ls1 := [.ref 24]) (st1 := [.int (gF S 819)]) (hp1 := (hL S r)) (ob := [(24 : Nat) = 24]) [(.aload_n 0, 1, 0, 0, 0, 0), (.getfield 118, 3, 19, 6, 0, 0)] [(24, xc8 S)] (by decide +kernel) rfl (xall_cons rfl xall_nil) (xSee_cons rfl (xne_nil _) (xSee_nil _)) rfl rfl ?_
    refine xRn.if_ne (tgt := 132) (nx := 109) (off := 26) (by decide +kernel) (by decide) rfl (fun c38 => ?_) (fun c38 => ?_)
    · have h := h.1 c38
      refine xRn.forget (xle_eq xle_nil) ?_
      exact t_M_taken_132   S r h
    · have h := h.2 c38
      refine xRn.blk (pc1 := 129) (ls1 := [.ref 24]) (st1 := [.int 0, .int 0, .int 0, .int (gF S 810), .int 65, .ref 24]) (hp1 := (hL (sF (sF S 819 1) 826 0) r)) (ob := [(24 : Nat) = 24, narrow .boolean (.int 1) = .int 1 ∧ fits .boolean (.int 1) = true, (24 : Nat) = 24, (24 : Nat) = 24]) [(.aload_n 0, 1, 0, 0, 0, 0), (.iconst 1, 1, 0, 0, 0, 1), (.putfield 118, 3, 19, 6, 0, 0), (.aload_n 0, 1, 0, 0, 0, 0), (.iconst 0, 1, 0, 0, 0, 0), (.putfield 128, 3, 26, 6, 0, 0), (.aload_n 0, 1, 0, 0, 0, 0), (.bipush 65, 2, 0, 0, 0, 65), (.aload_n 0, 1, 0, 0, 0, 0), (.getfield 177, 3, 10, 6, 0, 0), (.iconst 0, 1, 0, 0, 0, 0), (.iconst 0, 1, 0, 0, 0, 0), (.iconst 0, 1, 0, 0, 0, 0)] [(24, xc8 S)] (by decide +kernel) rfl (xall_cons rfl (xall_cons (⟨rfl, rfl⟩) (xall_cons rfl (xall_cons rfl xall_nil)))) (xSee_cons rfl (xne_nil _) (xSee_nil _)) rfl rfl ?_
      refine xRn.callV (al := [.int 65, .int (gF S 810), .int 0, .int 0, .int 0]) (st := []) (nx := 132) (by decide +kernel) lk_V_M_taken_124_M_send_6_5 rfl rfl (c_M_send (d := d + 2) (sF (sF S 819 1) 826 0) r 65 (gF S 810) 0 0 0 h) rfl (Nat.le_of_ble_eq_true rfl) rfl rfl ?_ ?_
      · rintro _ _ ⟨S40, r41, e9, rfl, h⟩
        cases e9
        show xRn G l _ _ _ 132 [.ref 24] [] (hL S40 r41)
        refine xRn.forget (xle_eq xle_nil) ?_
        exact t_M_taken_132   S40 r41 h
      · rintro _ _ ⟨_, _, e9, _⟩
        cases e9
  · have h := h.2 c37
    refine xRn.blk (pc1 := 91) (ls1 := [.ref 24]) (st1 := [.int (gF S 813)]) (hp1 := (hL S r)) (ob := [(24 : Nat) = 24]) [(.aload_n 0, 1, 0, 0, 0, 0), (.getfield 174, 3, 13, 6, 0, 0)] [(24, xc8 S)] (by decide +kernel) rfl (xall_cons rfl xall_nil) (xSee_cons rfl (xne_nil _) (xSee_nil _)) rfl rfl ?_
    refine xRn.if_eq (tgt := 96) (nx := 94) (off := 5) (by decide +kernel) (by decide) rfl (fun c42 => ?_) (fun c42 => ?_)
    · have h := h.1 c42
      refine xRn.blk (pc1 := 97) (ls1 := [.ref 24]) (st1 := [.ref 24]) (hp1 := (hL S r)) (ob := []) [(.aload_n 0, 1, 0, 0, 0, 0)] [] (by decide +kernel) rfl xall_nil (xSee_nil _) rfl rfl ?_
      refine xRn.callV (al := []) (st := []) (nx := 100) (by decide +kernel) lk_V_M_taken_220_M_leave_6_0 rfl rfl (c_M_leave (d := d + 1) S r  h) rfl (Nat.le_of_ble_eq_true rfl) rfl rfl ?_ ?_
      · rintro _ _ ⟨S44, r45, e9, rfl, h⟩
        cases e9
        show xRn G l _ _ _ 100 [.ref 24] [] (hL S44 r45)
        refine xRn.blk (pc1 := 101) (ls1 := [.ref 24]) (st1 := [.int 4]) (hp1 := (hL S44 r45)) (ob := []) [(.iconst 4, 1, 0, 0, 0, 4)] [] (by decide +kernel) rfl xall_nil (xSee_nil _) rfl rfl ?_
        exact xRn.iret (by decide +kernel) rfl rfl ⟨_, _, _, rfl, rfl, h⟩
      · rintro _ _ ⟨_, _, e9, _⟩
        cases e9
    · have h := h.2 c42
      refine xRn.blk (pc1 := 95) (ls1 := [.ref 24]) (st1 := [.int 1]) (hp1 := (hL S r)) (ob := []) [(.iconst 1, 1, 0, 0, 0, 1)] [] (by decide +kernel) rfl xall_nil (xSee_nil _) rfl rfl ?_
      exact xRn.iret (by decide +kernel) rfl rfl ⟨_, _, _, rfl, rfl, h⟩
def w_M_taken_27   (K : Int32 → XS → List AE → Prop) (S : XS) (r : List AE) : Prop :=
  ((¬ (gF S 808) = (52 : Int32) → (w_M_taken_76 K (sF S 823 (gF S 822)) r)) ∧ ((gF S 808) = (52 : Int32) → ((¬ (gF S 811) = (78 : Int32) → (w_M_taken_76 K (sF S 823 (gF S 822)) r)) ∧ ((gF S 811) = (78 : Int32) → (((gF S 820) < (gF S 810) → (K 2 (sF (sF S 823 (gF S 822)) 820 (gF S 810)) r)) ∧ (¬ (gF S 820) < (gF S 810) → (K 1 (sF S 823 (gF S 822)) r)))))))
set_option maxRecDepth 100000 in
theorem t_M_taken_27 {G : XG} {l : Launch} {d : Nat} {K : Int32 → XS → List AE → Prop} (S : XS) (r : List AE) (h : w_M_taken_27 K S r) : xRn G l (d + 9) xm_M_taken (pI K) 27 [.ref 24] [] (hL S r) := by
  refine xRn.blk (pc1 := 41) (ls1 := [.ref 24]) (st1 := [.int 52, .int (gF S 808)]) (hp1 := (hL (sF S 823 (gF S 822)) r)) (ob := [(24 : Nat) = 24, (24 : Nat) = 24, (24 : Nat) = 24]) [(.aload_n 0, 1, 0, 0, 0, 0), (.aload_n 0, 1, 0, 0, 0, 0), (.getfield 112, 3, 22, 6, 0, 0), (.putfield 217, 3, 23, 6, 0, 0), (.aload_n 0, 1, 0, 0, 0, 0), (.getfield 168, 3, 8, 6, 0, 0), (.bipush 52, 2, 0, 0, 0, 52)] [(24, xc8 S)] (by decide +kernel) rfl (xall_cons rfl (xall_cons rfl (xall_cons rfl xall_nil))) (xSee_cons rfl (xne_nil _) (xSee_nil _)) rfl rfl ?_
  refine xRn.ic_ne (tgt := 76) (nx := 44) (off := 35) (by decide +kernel) (by decide) rfl (fun c46 => ?_) (fun c46 => ?_)
  · have h := h.1 c46
    refine xRn.forget (xle_eq xle_nil) ?_
    exact t_M_taken_76   (sF S 823 (gF S 822)) r h
  · have h := h.2 c46
    refine xRn.blk (pc1 := 50) (ls1 := [.ref 24]) (st1 := [.int 78, .int (gF S 811)]) (hp1 := (hL (sF S 823 (gF S 822)) r)) (ob := [(24 : Nat) = 24]) [(.aload_n 0, 1, 0, 0, 0, 0), (.getfield 180, 3, 11, 6, 0, 0), (.bipush 78, 2, 0, 0, 0, 78)] [(24, xc8 (sF S 823 (gF S 822)))] (by decide +kernel) rfl (xall_cons rfl xall_nil) (xSee_cons rfl (xne_nil _) (xSee_nil _)) rfl rfl ?_
    refine xRn.ic_ne (tgt := 76) (nx := 53) (off := 26) (by decide +kernel) (by decide) rfl (fun c47 => ?_) (fun c47 => ?_)
    · have h := h.1 c47
      refine xRn.forget (xle_eq xle_nil) ?_
      exact t_M_taken_76   (sF S 823 (gF S 822)) r h
    · have h := h.2 c47
      refine xRn.blk (pc1 := 61) (ls1 := [.ref 24]) (st1 := [.int (gF S 820), .int (gF S 810)]) (hp1 := (hL (sF S 823 (gF S 822)) r)) (ob := [(24 : Nat) = 24, (24 : Nat) = 24]) [(.aload_n 0, 1, 0, 0, 0, 0), (.getfield 177, 3, 10, 6, 0, 0), (.aload_n 0, 1, 0, 0, 0, 0), (.getfield 28, 3, 20, 6, 0, 0)] [(24, xc8 (sF S 823 (gF S 822)))] (by decide +kernel) rfl (xall_cons rfl (xall_cons rfl xall_nil)) (xSee_cons rfl (xne_nil _) (xSee_nil _)) rfl rfl ?_
      refine xRn.ic_gt (tgt := 66) (nx := 64) (off := 5) (by decide +kernel) (by decide) rfl (fun c48 => ?_) (fun c48 => ?_)
      · have h := h.1 c48
        refine xRn.blk (pc1 := 75) (ls1 := [.ref 24]) (st1 := [.int 2]) (hp1 := (hL (sF (sF S 823 (gF S 822)) 820 (gF S 810)) r)) (ob := [(24 : Nat) = 24, (24 : Nat) = 24]) [(.aload_n 0, 1, 0, 0, 0, 0), (.aload_n 0, 1, 0, 0, 0, 0), (.getfield 177, 3, 10, 6, 0, 0), (.putfield 28, 3, 20, 6, 0, 0), (.iconst 2, 1, 0, 0, 0, 2)] [(24, xc8 (sF S 823 (gF S 822)))] (by decide +kernel) rfl (xall_cons rfl (xall_cons rfl xall_nil)) (xSee_cons rfl (xne_nil _) (xSee_nil _)) rfl rfl ?_
        exact xRn.iret (by decide +kernel) rfl rfl ⟨_, _, _, rfl, rfl, h⟩
      · have h := h.2 c48
        refine xRn.blk (pc1 := 65) (ls1 := [.ref 24]) (st1 := [.int 1]) (hp1 := (hL (sF S 823 (gF S 822)) r)) (ob := []) [(.iconst 1, 1, 0, 0, 0, 1)] [] (by decide +kernel) rfl xall_nil (xSee_nil _) rfl rfl ?_
        exact xRn.iret (by decide +kernel) rfl rfl ⟨_, _, _, rfl, rfl, h⟩
def w_M_taken  (S : XS) (r : List AE) (K : Int32 → XS → List AE → Prop) : Prop :=
  (w_M_good S r  (fun x49 S50 r51 => ((¬ x49 = 0 → ((¬ (gF S50 819) = 0 → (w_M_taken_27 K S50 r51)) ∧ ((gF S50 819) = 0 → (((gF S50 808) = (65 : Int32) → (w_M_taken_27 K S50 r51)) ∧ (¬ (gF S50 808) = (65 : Int32) → (K 1 S50 r51)))))) ∧ (x49 = 0 → (K 0 S50 r51)))))
set_option maxRecDepth 100000 in
theorem c_M_taken {G : XG} {l : Launch} {d : Nat} (S : XS) (r : List AE) {K : Int32 → XS → List AE → Prop} (h : w_M_taken  S r K) : xCt G l (d + 9) xm_M_taken [.ref 24] (hL S r) (pI K) := by
  refine xCt.intro (by decide) (by decide) (List.forall_mem_cons.mpr ⟨rfl, (fun _ h => by cases h)⟩) (Nat.le_of_ble_eq_true rfl) rfl ?_
  show xRn G l _ xm_M_taken _ 0 [.ref 24] [] (hL S r)
  refine xRn.blk (pc1 := 1) (ls1 := [.ref 24]) (st1 := [.ref 24]) (hp1 := (hL S r)) (ob := []) [(.aload_n 0, 1, 0, 0, 0, 0)] [] (by decide +kernel) rfl xall_nil (xSee_nil _) rfl rfl ?_
  refine xRn.callV (al := []) (st := []) (nx := 4) (by decide +kernel) lk_V_M_taken_214_M_good_6_0 rfl rfl (c_M_good (d := d + 5) S r  h) rfl (Nat.le_of_ble_eq_true rfl) rfl rfl ?_ ?_
  · rintro _ _ ⟨x49, S50, r51, e9, rfl, h⟩
    cases e9
    show xRn G l _ _ _ 4 [.ref 24] [.int x49] (hL S50 r51)
    refine xRn.if_ne (tgt := 9) (nx := 7) (off := 5) (by decide +kernel) (by decide) rfl (fun c52 => ?_) (fun c52 => ?_)
    · have h := h.1 c52
      refine xRn.blk (pc1 := 13) (ls1 := [.ref 24]) (st1 := [.int (gF S50 819)]) (hp1 := (hL S50 r51)) (ob := [(24 : Nat) = 24]) [(.aload_n 0, 1, 0, 0, 0, 0), (.getfield 118, 3, 19, 6, 0, 0)] [(24, xc8 S50)] (by decide +kernel) rfl (xall_cons rfl xall_nil) (xSee_cons rfl (xne_nil _) (xSee_nil _)) rfl rfl ?_
      refine xRn.if_ne (tgt := 27) (nx := 16) (off := 14) (by decide +kernel) (by decide) rfl (fun c53 => ?_) (fun c53 => ?_)
      · have h := h.1 c53
        refine xRn.forget (xle_eq xle_nil) ?_
        exact t_M_taken_27   S50 r51 h
      · have h := h.2 c53
        refine xRn.blk (pc1 := 22) (ls1 := [.ref 24]) (st1 := [.int 65, .int (gF S50 808)]) (hp1 := (hL S50 r51)) (ob := [(24 : Nat) = 24]) [(.aload_n 0, 1, 0, 0, 0, 0), (.getfield 168, 3, 8, 6, 0, 0), (.bipush 65, 2, 0, 0, 0, 65)] [(24, xc8 S50)] (by decide +kernel) rfl (xall_cons rfl xall_nil) (xSee_cons rfl (xne_nil _) (xSee_nil _)) rfl rfl ?_
        refine xRn.ic_eq (tgt := 27) (nx := 25) (off := 5) (by decide +kernel) (by decide) rfl (fun c54 => ?_) (fun c54 => ?_)
        · have h := h.1 c54
          refine xRn.forget (xle_eq xle_nil) ?_
          exact t_M_taken_27   S50 r51 h
        · have h := h.2 c54
          refine xRn.blk (pc1 := 26) (ls1 := [.ref 24]) (st1 := [.int 1]) (hp1 := (hL S50 r51)) (ob := []) [(.iconst 1, 1, 0, 0, 0, 1)] [] (by decide +kernel) rfl xall_nil (xSee_nil _) rfl rfl ?_
          exact xRn.iret (by decide +kernel) rfl rfl ⟨_, _, _, rfl, rfl, h⟩
    · have h := h.2 c52
      refine xRn.blk (pc1 := 8) (ls1 := [.ref 24]) (st1 := [.int 0]) (hp1 := (hL S50 r51)) (ob := []) [(.iconst 0, 1, 0, 0, 0, 0)] [] (by decide +kernel) rfl xall_nil (xSee_nil _) rfl rfl ?_
      exact xRn.iret (by decide +kernel) rfl rfl ⟨_, _, _, rfl, rfl, h⟩
  · rintro _ _ ⟨_, _, _, e9, _⟩
    cases e9
/-! M_take -/
def w_M_take  (S : XS) (r : List AE) (K : Int32 → XS → List AE → Prop) : Prop :=
  ((¬ (gF S 801) = 0 → (w_M_taken (sF (sF (sF S 800 0) 801 0) 815 0) r  (fun x2 S3 r4 => (w_M_settle S3 r4  (fun S6 r7 => (K x2 S6 r7)))))) ∧ ((gF S 801) = 0 → (w_M_fail (sF S 800 0) r 1 (fun x8 S9 r10 => (K x8 S9 r10)))))
set_option maxRecDepth 100000 in
theorem c_M_take {G : XG} {l : Launch} {d : Nat} (S : XS) (r : List AE) {K : Int32 → XS → List AE → Prop} (h : w_M_take  S r K) : xCt G l (d + 10) xm_M_take [.ref 24] (hL S r) (pI K) := by
  refine xCt.intro (by decide) (by decide) (List.forall_mem_cons.mpr ⟨rfl, (fun _ h => by cases h)⟩) (Nat.le_of_ble_eq_true rfl) rfl ?_
  show xRn G l _ xm_M_take _ 0 [.ref 24, .null] [] (hL S r)
  refine xRn.blk (pc1 := 9) (ls1 := [.ref 24, .null]) (st1 := [.int (gF S 801)]) (hp1 := (hL (sF S 800 0) r)) (ob := [(24 : Nat) = 24, (24 : Nat) = 24]) [(.aload_n 0, 1, 0, 0, 0, 0), (.iconst 0, 1, 0, 0, 0, 0), (.putfield 60, 3, 0, 6, 0, 0), (.aload_n 0, 1, 0, 0, 0, 0), (.getfield 146, 3, 1, 6, 0, 0)] [(24, xc8 S)] (by decide +kernel) rfl (xall_cons rfl (xall_cons rfl xall_nil)) (xSee_cons rfl (xne_nil _) (xSee_nil _)) rfl rfl ?_
  refine xRn.if_ne (tgt := 18) (nx := 12) (off := 9) (by decide +kernel) (by decide) rfl (fun c1 => ?_) (fun c1 => ?_)
  · have h := h.1 c1
    refine xRn.blk (pc1 := 29) (ls1 := [.ref 24, .null]) (st1 := [.ref 24]) (hp1 := (hL (sF (sF (sF S 800 0) 801 0) 815 0) r)) (ob := [(24 : Nat) = 24, narrow .boolean (.int 0) = .int 0 ∧ fits .boolean (.int 0) = true, (24 : Nat) = 24]) [(.aload_n 0, 1, 0, 0, 0, 0), (.iconst 0, 1, 0, 0, 0, 0), (.putfield 146, 3, 1, 6, 0, 0), (.aload_n 0, 1, 0, 0, 0, 0), (.iconst 0, 1, 0, 0, 0, 0), (.putfield 70, 3, 15, 6, 0, 0), (.aload_n 0, 1, 0, 0, 0, 0)] [(24, xc8 (sF S 800 0))] (by decide +kernel) rfl (xall_cons rfl (xall_cons (⟨rfl, rfl⟩) (xall_cons rfl xall_nil))) (xSee_cons rfl (xne_nil _) (xSee_nil _)) rfl rfl ?_
    refine xRn.callV (al := []) (st := []) (nx := 32) (by decide +kernel) lk_V_M_take_232_M_taken_6_0 rfl rfl (c_M_taken (d := d + 0) (sF (sF (sF S 800 0) 801 0) 815 0) r  h) rfl (Nat.le_of_ble_eq_true rfl) rfl rfl ?_ ?_
    · rintro _ _ ⟨x2, S3, r4, e9, rfl, h⟩
      cases e9
      show xRn G l _ _ _ 32 [.ref 24, .null] [.int x2] (hL S3 r4)
      refine xRn.blk (pc1 := 34) (ls1 := [.ref 24, .int x2]) (st1 := [.ref 24]) (hp1 := (hL S3 r4)) (ob := []) [(.istore_n 1, 1, 1, 0, 0, 0), (.aload_n 0, 1, 0, 0, 0, 0)] [] (by decide +kernel) rfl xall_nil (xSee_nil _) rfl rfl ?_
      refine xRn.callV (al := []) (st := []) (nx := 37) (by decide +kernel) lk_V_M_take_235_M_settle_6_0 rfl rfl (c_M_settle (d := d + 9) S3 r4  h) rfl (Nat.le_of_ble_eq_true rfl) rfl rfl ?_ ?_
      · rintro _ _ ⟨S6, r7, e9, rfl, h⟩
        cases e9
        show xRn G l _ _ _ 37 [.ref 24, .int x2] [] (hL S6 r7)
        refine xRn.blk (pc1 := 38) (ls1 := [.ref 24, .int x2]) (st1 := [.int x2]) (hp1 := (hL S6 r7)) (ob := []) [(.iload_n 1, 1, 1, 0, 0, 0)] [] (by decide +kernel) rfl xall_nil (xSee_nil _) rfl rfl ?_
        exact xRn.iret (by decide +kernel) rfl rfl ⟨_, _, _, rfl, rfl, h⟩
      · rintro _ _ ⟨_, _, e9, _⟩
        cases e9
    · rintro _ _ ⟨_, _, _, e9, _⟩
      cases e9
  · have h := h.2 c1
    refine xRn.blk (pc1 := 14) (ls1 := [.ref 24, .null]) (st1 := [.int 1, .ref 24]) (hp1 := (hL (sF S 800 0) r)) (ob := []) [(.aload_n 0, 1, 0, 0, 0, 0), (.iconst 1, 1, 0, 0, 0, 1)] [] (by decide +kernel) rfl xall_nil (xSee_nil _) rfl rfl ?_
    refine xRn.callV (al := [.int 1]) (st := []) (nx := 17) (by decide +kernel) lk_V_M_take_143_M_fail_6_1 rfl rfl (c_M_fail (d := d + 9) (sF S 800 0) r 1 h) rfl (Nat.le_of_ble_eq_true rfl) rfl rfl ?_ ?_
    · rintro _ _ ⟨x8, S9, r10, e9, rfl, h⟩
      cases e9
      show xRn G l _ _ _ 17 [.ref 24, .null] [.int x8] (hL S9 r10)
      exact xRn.iret (by decide +kernel) rfl rfl ⟨_, _, _, rfl, rfl, h⟩
    · rintro _ _ ⟨_, _, _, e9, _⟩
      cases e9
/-! M_tick -/
def w_M_tick_131   (K : Int32 → XS → List AE → Prop) (S : XS) (r : List AE) : Prop :=
  (K (gF S 822) S r)
set_option maxRecDepth 100000 in
theorem t_M_tick_131 {G : XG} {l : Launch} {d : Nat} {K : Int32 → XS → List AE → Prop} (S : XS) (r : List AE) (h : w_M_tick_131 K S r) : xRn G l (d + 8) xm_M_tick (pI K) 131 [.ref 24] [] (hL S r) := by
  refine xRn.blk (pc1 := 135) (ls1 := [.ref 24]) (st1 := [.int (gF S 822)]) (hp1 := (hL S r)) (ob := [(24 : Nat) = 24]) [(.aload_n 0, 1, 0, 0, 0, 0), (.getfield 112, 3, 22, 6, 0, 0)] [(24, xc8 S)] (by decide +kernel) rfl (xall_cons rfl xall_nil) (xSee_cons rfl (xne_nil _) (xSee_nil _)) rfl rfl ?_
  exact xRn.iret (by decide +kernel) rfl rfl ⟨_, _, _, rfl, rfl, h⟩
def w_M_tick_107   (K : Int32 → XS → List AE → Prop) (S : XS) (r : List AE) : Prop :=
  ((((gF S 822) - (gF S 824)) < (10 : Int32) → (w_M_tick_131 K S r)) ∧ (¬ ((gF S 822) - (gF S 824)) < (10 : Int32) → (w_M_send S r 48 (-1) 0 0 0 (fun S3 r4 => (w_M_tick_131 K S3 r4)))))
set_option maxRecDepth 100000 in
theorem t_M_tick_107 {G : XG} {l : Launch} {d : Nat} {K : Int32 → XS → List AE → Prop} (S : XS) (r : List AE) (h : w_M_tick_107 K S r) : xRn G l (d + 8) xm_M_tick (pI K) 107 [.ref 24] [] (hL S r) := by
  refine xRn.blk (pc1 := 118) (ls1 := [.ref 24]) (st1 := [.int 10, .int ((gF S 822) - (gF S 824))]) (hp1 := (hL S r)) (ob := [(24 : Nat) = 24, (24 : Nat) = 24]) [(.aload_n 0, 1, 0, 0, 0, 0), (.getfield 112, 3, 22, 6, 0, 0), (.aload_n 0, 1, 0, 0, 0, 0), (.getfield 115, 3, 24, 6, 0, 0), (.isub, 1, 0, 0, 0, 0), (.bipush 10, 2, 0, 0, 0, 10)] [(24, xc8 S)] (by decide +kernel) rfl (xall_cons rfl (xall_cons rfl xall_nil)) (xSee_cons rfl (xne_nil _) (xSee_nil _)) rfl rfl ?_
  refine xRn.ic_lt (tgt := 131) (nx := 121) (off := 13) (by decide +kernel) (by decide) rfl (fun c1 => ?_) (fun c1 => ?_)
  · have h := h.1 c1
    refine xRn.forget (xle_eq xle_nil) ?_
    exact t_M_tick_131   S r h
  · have h := h.2 c1
    refine xRn.blk (pc1 := 128) (ls1 := [.ref 24]) (st1 := [.int 0, .int 0, .int 0, .int (-1), .int 48, .ref 24]) (hp1 := (hL S r)) (ob := []) [(.aload_n 0, 1, 0, 0, 0, 0), (.bipush 48, 2, 0, 0, 0, 48), (.iconst (-1), 1, 0, 0, 0, (-1)), (.iconst 0, 1, 0, 0, 0, 0), (.iconst 0, 1, 0, 0, 0, 0), (.iconst 0, 1, 0, 0, 0, 0)] [] (by decide +kernel) rfl xall_nil (xSee_nil _) rfl rfl ?_
    refine xRn.callV (al := [.int 48, .int (-1), .int 0, .int 0, .int 0]) (st := []) (nx := 131) (by decide +kernel) lk_V_M_tick_124_M_send_6_5 rfl rfl (c_M_send (d := d + 1) S r 48 (-1) 0 0 0 h) rfl (Nat.le_of_ble_eq_true rfl) rfl rfl ?_ ?_
    · rintro _ _ ⟨S3, r4, e9, rfl, h⟩
      cases e9
      show xRn G l _ _ _ 131 [.ref 24] [] (hL S3 r4)
      refine xRn.forget (xle_eq xle_nil) ?_
      exact t_M_tick_131   S3 r4 h
    · rintro _ _ ⟨_, _, e9, _⟩
      cases e9
def w_M_tick_82   (K : Int32 → XS → List AE → Prop) (S : XS) (r : List AE) : Prop :=
  (((gF S 826) ≤ 0 → (w_M_tick_107 K S r)) ∧ (¬ (gF S 826) ≤ 0 → ((((gF S 822) - (gF S 825)) < (8 : Int32) → (w_M_tick_107 K S r)) ∧ (¬ ((gF S 822) - (gF S 825)) < (8 : Int32) → (w_M_ask S r  (fun S8 r9 => (w_M_tick_107 K S8 r9)))))))
set_option maxRecDepth 100000 in
theorem t_M_tick_82 {G : XG} {l : Launch} {d : Nat} {K : Int32 → XS → List AE → Prop} (S : XS) (r : List AE) (h : w_M_tick_82 K S r) : xRn G l (d + 8) xm_M_tick (pI K) 82 [.ref 24] [] (hL S r) := by
  refine xRn.blk (pc1 := 86) (ls1 := [.ref 24]) (st1 := [.int (gF S 826)]) (hp1 := (hL S r)) (ob := [(24 : Nat) = 24]) [(.aload_n 0, 1, 0, 0, 0, 0), (.getfield 128, 3, 26, 6, 0, 0)] [(24, xc8 S)] (by decide +kernel) rfl (xall_cons rfl xall_nil) (xSee_cons rfl (xne_nil _) (xSee_nil _)) rfl rfl ?_
  refine xRn.if_le (tgt := 107) (nx := 89) (off := 21) (by decide +kernel) (by decide) rfl (fun c5 => ?_) (fun c5 => ?_)
  · have h := h.1 c5
    refine xRn.forget (xle_eq xle_nil) ?_
    exact t_M_tick_107   S r h
  · have h := h.2 c5
    refine xRn.blk (pc1 := 100) (ls1 := [.ref 24]) (st1 := [.int 8, .int ((gF S 822) - (gF S 825))]) (hp1 := (hL S r)) (ob := [(24 : Nat) = 24, (24 : Nat) = 24]) [(.aload_n 0, 1, 0, 0, 0, 0), (.getfield 112, 3, 22, 6, 0, 0), (.aload_n 0, 1, 0, 0, 0, 0), (.getfield 131, 3, 25, 6, 0, 0), (.isub, 1, 0, 0, 0, 0), (.bipush 8, 2, 0, 0, 0, 8)] [(24, xc8 S)] (by decide +kernel) rfl (xall_cons rfl (xall_cons rfl xall_nil)) (xSee_cons rfl (xne_nil _) (xSee_nil _)) rfl rfl ?_
    refine xRn.ic_lt (tgt := 107) (nx := 103) (off := 7) (by decide +kernel) (by decide) rfl (fun c6 => ?_) (fun c6 => ?_)
    · have h := h.1 c6
      refine xRn.forget (xle_eq xle_nil) ?_
      exact t_M_tick_107   S r h
    · have h := h.2 c6
      refine xRn.blk (pc1 := 104) (ls1 := [.ref 24]) (st1 := [.ref 24]) (hp1 := (hL S r)) (ob := []) [(.aload_n 0, 1, 0, 0, 0, 0)] [] (by decide +kernel) rfl xall_nil (xSee_nil _) rfl rfl ?_
      refine xRn.callV (al := []) (st := []) (nx := 107) (by decide +kernel) lk_V_M_tick_226_M_ask_6_0 rfl rfl (c_M_ask (d := d + 0) S r  h) rfl (Nat.le_of_ble_eq_true rfl) rfl rfl ?_ ?_
      · rintro _ _ ⟨S8, r9, e9, rfl, h⟩
        cases e9
        show xRn G l _ _ _ 107 [.ref 24] [] (hL S8 r9)
        refine xRn.forget (xle_eq xle_nil) ?_
        exact t_M_tick_107   S8 r9 h
      · rintro _ _ ⟨_, _, e9, _⟩
        cases e9
def w_M_tick_48   (K : Int32 → XS → List AE → Prop) (S : XS) (r : List AE) : Prop :=
  (((gF S 819) = 0 → (w_M_tick_131 K S r)) ∧ (¬ (gF S 819) = 0 → ((¬ ((gF S 822) - (gF S 823)) = (12 : Int32) → (w_M_tick_82 K S r)) ∧ (((gF S 822) - (gF S 823)) = (12 : Int32) → (w_M_send S r 49 (gF S 822) 0 0 0 (fun S13 r14 => (w_M_tick_82 K S13 r14)))))))
set_option maxRecDepth 100000 in
theorem t_M_tick_48 {G : XG} {l : Launch} {d : Nat} {K : Int32 → XS → List AE → Prop} (S : XS) (r : List AE) (h : w_M_tick_48 K S r) : xRn G l (d + 8) xm_M_tick (pI K) 48 [.ref 24] [] (hL S r) := by
  refine xRn.blk (pc1 := 52) (ls1 := [.ref 24]) (st1 := [.int (gF S 819)]) (hp1 := (hL S r)) (ob := [(24 : Nat) = 24]) [(.aload_n 0, 1, 0, 0, 0, 0), (.getfield 118, 3, 19, 6, 0, 0)] [(24, xc8 S)] (by decide +kernel) rfl (xall_cons rfl xall_nil) (xSee_cons rfl (xne_nil _) (xSee_nil _)) rfl rfl ?_
  refine xRn.if_eq (tgt := 131) (nx := 55) (off := 79) (by decide +kernel) (by decide) rfl (fun c10 => ?_) (fun c10 => ?_)
  · have h := h.1 c10
    refine xRn.forget (xle_eq xle_nil) ?_
    exact t_M_tick_131   S r h
  · have h := h.2 c10
    refine xRn.blk (pc1 := 66) (ls1 := [.ref 24]) (st1 := [.int 12, .int ((gF S 822) - (gF S 823))]) (hp1 := (hL S r)) (ob := [(24 : Nat) = 24, (24 : Nat) = 24]) [(.aload_n 0, 1, 0, 0, 0, 0), (.getfield 112, 3, 22, 6, 0, 0), (.aload_n 0, 1, 0, 0, 0, 0), (.getfield 217, 3, 23, 6, 0, 0), (.isub, 1, 0, 0, 0, 0), (.bipush 12, 2, 0, 0, 0, 12)] [(24, xc8 S)] (by decide +kernel) rfl (xall_cons rfl (xall_cons rfl xall_nil)) (xSee_cons rfl (xne_nil _) (xSee_nil _)) rfl rfl ?_
    refine xRn.ic_ne (tgt := 82) (nx := 69) (off := 16) (by decide +kernel) (by decide) rfl (fun c11 => ?_) (fun c11 => ?_)
    · have h := h.1 c11
      refine xRn.forget (xle_eq xle_nil) ?_
      exact t_M_tick_82   S r h
    · have h := h.2 c11
      refine xRn.blk (pc1 := 79) (ls1 := [.ref 24]) (st1 := [.int 0, .int 0, .int 0, .int (gF S 822), .int 49, .ref 24]) (hp1 := (hL S r)) (ob := [(24 : Nat) = 24]) [(.aload_n 0, 1, 0, 0, 0, 0), (.bipush 49, 2, 0, 0, 0, 49), (.aload_n 0, 1, 0, 0, 0, 0), (.getfield 112, 3, 22, 6, 0, 0), (.iconst 0, 1, 0, 0, 0, 0), (.iconst 0, 1, 0, 0, 0, 0), (.iconst 0, 1, 0, 0, 0, 0)] [(24, xc8 S)] (by decide +kernel) rfl (xall_cons rfl xall_nil) (xSee_cons rfl (xne_nil _) (xSee_nil _)) rfl rfl ?_
      refine xRn.callV (al := [.int 49, .int (gF S 822), .int 0, .int 0, .int 0]) (st := []) (nx := 82) (by decide +kernel) lk_V_M_tick_124_M_send_6_5 rfl rfl (c_M_send (d := d + 1) S r 49 (gF S 822) 0 0 0 h) rfl (Nat.le_of_ble_eq_true rfl) rfl rfl ?_ ?_
      · rintro _ _ ⟨S13, r14, e9, rfl, h⟩
        cases e9
        show xRn G l _ _ _ 82 [.ref 24] [] (hL S13 r14)
        refine xRn.forget (xle_eq xle_nil) ?_
        exact t_M_tick_82   S13 r14 h
      · rintro _ _ ⟨_, _, e9, _⟩
        cases e9
def w_M_tick  (S : XS) (r : List AE) (K : Int32 → XS → List AE → Prop) : Prop :=
  (((gF S 819) = 0 → (w_M_tick_48 K (sF (sF (sF S 800 0) 815 0) 822 ((gF S 822) + 1)) r)) ∧ (¬ (gF S 819) = 0 → (((((gF S 822) + 1) - (gF S 823)) < (24 : Int32) → (w_M_tick_48 K (sF (sF (sF S 800 0) 815 0) 822 ((gF S 822) + 1)) r)) ∧ (¬ (((gF S 822) + 1) - (gF S 823)) < (24 : Int32) → (w_M_leave (sF (sF (sF S 800 0) 815 0) 822 ((gF S 822) + 1)) r  (fun S18 r19 => (w_M_tick_131 K S18 r19)))))))
set_option maxRecDepth 100000 in
theorem c_M_tick {G : XG} {l : Launch} {d : Nat} (S : XS) (r : List AE) {K : Int32 → XS → List AE → Prop} (h : w_M_tick  S r K) : xCt G l (d + 8) xm_M_tick [.ref 24] (hL S r) (pI K) := by
  refine xCt.intro (by decide) (by decide) (List.forall_mem_cons.mpr ⟨rfl, (fun _ h => by cases h)⟩) (Nat.le_of_ble_eq_true rfl) rfl ?_
  show xRn G l _ xm_M_tick _ 0 [.ref 24] [] (hL S r)
  refine xRn.blk (pc1 := 17) (ls1 := [.ref 24]) (st1 := [.int ((gF S 822) + 1), .ref 24]) (hp1 := (hL (sF (sF S 800 0) 815 0) r)) (ob := [(24 : Nat) = 24, (24 : Nat) = 24, (24 : Nat) = 24]) [(.aload_n 0, 1, 0, 0, 0, 0), (.iconst 0, 1, 0, 0, 0, 0), (.putfield 60, 3, 0, 6, 0, 0), (.aload_n 0, 1, 0, 0, 0, 0), (.iconst 0, 1, 0, 0, 0, 0), (.putfield 70, 3, 15, 6, 0, 0), (.aload_n 0, 1, 0, 0, 0, 0), (.dup, 1, 0, 0, 0, 0), (.getfield 112, 3, 22, 6, 0, 0), (.iconst 1, 1, 0, 0, 0, 1), (.iadd, 1, 0, 0, 0, 0)] [(24, xc8 S)] (by decide +kernel) rfl (xall_cons rfl (xall_cons rfl (xall_cons rfl xall_nil))) (xSee_cons rfl (xne_nil _) (xSee_nil _)) rfl rfl ?_
  refine xRn.blk (pc1 := 24) (ls1 := [.ref 24]) (st1 := [.int (gF S 819)]) (hp1 := (hL (sF (sF (sF S 800 0) 815 0) 822 ((gF S 822) + 1)) r)) (ob := [(24 : Nat) = 24, (24 : Nat) = 24]) [(.putfield 112, 3, 22, 6, 0, 0), (.aload_n 0, 1, 0, 0, 0, 0), (.getfield 118, 3, 19, 6, 0, 0)] [(24, xc8 (sF (sF S 800 0) 815 0))] (by decide +kernel) rfl (xall_cons rfl (xall_cons rfl xall_nil)) (xSee_cons rfl (xne_nil _) (xSee_nil _)) rfl rfl ?_
  refine xRn.if_eq (tgt := 48) (nx := 27) (off := 24) (by decide +kernel) (by decide) rfl (fun c15 => ?_) (fun c15 => ?_)
  · have h := h.1 c15
    refine xRn.forget (xle_eq xle_nil) ?_
    exact t_M_tick_48   (sF (sF (sF S 800 0) 815 0) 822 ((gF S 822) + 1)) r h
  · have h := h.2 c15
    refine xRn.blk (pc1 := 38) (ls1 := [.ref 24]) (st1 := [.int 24, .int (((gF S 822) + 1) - (gF S 823))]) (hp1 := (hL (sF (sF (sF S 800 0) 815 0) 822 ((gF S 822) + 1)) r)) (ob := [(24 : Nat) = 24, (24 : Nat) = 24]) [(.aload_n 0, 1, 0, 0, 0, 0), (.getfield 112, 3, 22, 6, 0, 0), (.aload_n 0, 1, 0, 0, 0, 0), (.getfield 217, 3, 23, 6, 0, 0), (.isub, 1, 0, 0, 0, 0), (.bipush 24, 2, 0, 0, 0, 24)] [(24, xc8 (sF (sF (sF S 800 0) 815 0) 822 ((gF S 822) + 1)))] (by decide +kernel) rfl (xall_cons rfl (xall_cons rfl xall_nil)) (xSee_cons rfl (xne_nil _) (xSee_nil _)) rfl rfl ?_
    refine xRn.ic_lt (tgt := 48) (nx := 41) (off := 10) (by decide +kernel) (by decide) rfl (fun c16 => ?_) (fun c16 => ?_)
    · have h := h.1 c16
      refine xRn.forget (xle_eq xle_nil) ?_
      exact t_M_tick_48   (sF (sF (sF S 800 0) 815 0) 822 ((gF S 822) + 1)) r h
    · have h := h.2 c16
      refine xRn.blk (pc1 := 42) (ls1 := [.ref 24]) (st1 := [.ref 24]) (hp1 := (hL (sF (sF (sF S 800 0) 815 0) 822 ((gF S 822) + 1)) r)) (ob := []) [(.aload_n 0, 1, 0, 0, 0, 0)] [] (by decide +kernel) rfl xall_nil (xSee_nil _) rfl rfl ?_
      refine xRn.callV (al := []) (st := []) (nx := 45) (by decide +kernel) lk_V_M_tick_220_M_leave_6_0 rfl rfl (c_M_leave (d := d + 0) (sF (sF (sF S 800 0) 815 0) 822 ((gF S 822) + 1)) r  h) rfl (Nat.le_of_ble_eq_true rfl) rfl rfl ?_ ?_
      · rintro _ _ ⟨S18, r19, e9, rfl, h⟩
        cases e9
        show xRn G l _ _ _ 45 [.ref 24] [] (hL S18 r19)
        refine xRn.goto (tgt := 131) (off := 86) (by decide +kernel) (by decide) ?_
        refine xRn.forget (xle_eq xle_nil) ?_
        exact t_M_tick_131   S18 r19 h
      · rintro _ _ ⟨_, _, e9, _⟩
        cases e9
/-! M_restart -/
def w_M_restart  (S : XS) (r : List AE) (K : Int32 → XS → List AE → Prop) : Prop :=
  (narrow .boolean (.int (gF S 819)) = .int (gF S 819) ∧ (K (gF S 819) (sF (sF (sF (sF S 800 0) 819 0) 826 0) 815 0) r))
set_option maxRecDepth 100000 in
theorem c_M_restart {G : XG} {l : Launch} {d : Nat} (S : XS) (r : List AE) {K : Int32 → XS → List AE → Prop} (h : w_M_restart  S r K) : xCt G l (d + 0) xm_M_restart [.ref 24] (hL S r) (pI K) := by
  refine xCt.intro (by decide) (by decide) (List.forall_mem_cons.mpr ⟨rfl, (fun _ h => by cases h)⟩) (Nat.le_of_ble_eq_true rfl) rfl ?_
  show xRn G l _ xm_M_restart _ 0 [.ref 24, .null] [] (hL S r)
  refine xRn.blk (pc1 := 17) (ls1 := [.ref 24, .int (gF S 819)]) (st1 := [.int 0, .ref 24]) (hp1 := (hL (sF (sF S 800 0) 819 0) r)) (ob := [(24 : Nat) = 24, (24 : Nat) = 24, (24 : Nat) = 24, narrow .boolean (.int 0) = .int 0 ∧ fits .boolean (.int 0) = true]) [(.aload_n 0, 1, 0, 0, 0, 0), (.iconst 0, 1, 0, 0, 0, 0), (.putfield 60, 3, 0, 6, 0, 0), (.aload_n 0, 1, 0, 0, 0, 0), (.getfield 118, 3, 19, 6, 0, 0), (.istore_n 1, 1, 1, 0, 0, 0), (.aload_n 0, 1, 0, 0, 0, 0), (.iconst 0, 1, 0, 0, 0, 0), (.putfield 118, 3, 19, 6, 0, 0), (.aload_n 0, 1, 0, 0, 0, 0), (.iconst 0, 1, 0, 0, 0, 0)] [(24, xc8 S)] (by decide +kernel) rfl (xall_cons rfl (xall_cons rfl (xall_cons rfl (xall_cons (⟨rfl, rfl⟩) xall_nil)))) (xSee_cons rfl (xne_nil _) (xSee_nil _)) rfl rfl ?_
  refine xRn.blk (pc1 := 26) (ls1 := [.ref 24, .int (gF S 819)]) (st1 := [.int (gF S 819)]) (hp1 := (hL (sF (sF (sF (sF S 800 0) 819 0) 826 0) 815 0) r)) (ob := [(24 : Nat) = 24, (24 : Nat) = 24]) [(.putfield 128, 3, 26, 6, 0, 0), (.aload_n 0, 1, 0, 0, 0, 0), (.iconst 0, 1, 0, 0, 0, 0), (.putfield 70, 3, 15, 6, 0, 0), (.iload_n 1, 1, 1, 0, 0, 0)] [(24, xc8 (sF (sF S 800 0) 819 0))] (by decide +kernel) rfl (xall_cons rfl (xall_cons rfl xall_nil)) (xSee_cons rfl (xne_nil _) (xSee_nil _)) rfl rfl ?_
  obtain ⟨o1, h⟩ := h
  exact xRn.iret (by decide +kernel) rfl o1 ⟨_, _, _, rfl, rfl, h⟩
/-! M_fill -/
def w_M_fill_43   (K : Int32 → XS → List AE → Prop) (S : XS) (r : List AE) : Prop :=
  (w_M_fail S r 2 (fun x1 S2 r3 => (K x1 S2 r3)))
set_option maxRecDepth 100000 in
theorem t_M_fill_43 {G : XG} {l : Launch} {d : Nat} {K : Int32 → XS → List AE → Prop} (S : XS) (r : List AE) (h : w_M_fill_43 K S r) : xRn G l (d + 8) xm_M_fill (pI K) 43 [.ref 24, .null, .null, .null] [] (hL S r) := by
  refine xRn.blk (pc1 := 45) (ls1 := [.ref 24, .null, .null, .null]) (st1 := [.int 2, .ref 24]) (hp1 := (hL S r)) (ob := []) [(.aload_n 0, 1, 0, 0, 0, 0), (.iconst 2, 1, 0, 0, 0, 2)] [] (by decide +kernel) rfl xall_nil (xSee_nil _) rfl rfl ?_
  refine xRn.callV (al := [.int 2]) (st := []) (nx := 48) (by decide +kernel) lk_V_M_fill_143_M_fail_6_1 rfl rfl (c_M_fail (d := d + 7) S r 2 h) rfl (Nat.le_of_ble_eq_true rfl) rfl rfl ?_ ?_
  · rintro _ _ ⟨x1, S2, r3, e9, rfl, h⟩
    cases e9
    show xRn G l _ _ _ 48 [.ref 24, .null, .null, .null] [.int x1] (hL S2 r3)
    exact xRn.iret (by decide +kernel) rfl rfl ⟨_, _, _, rfl, rfl, h⟩
  · rintro _ _ ⟨_, _, _, e9, _⟩
    cases e9
def w_M_fill  (S : XS) (r : List AE) (p1 : Int32) (p2 : Int32) (K : Int32 → XS → List AE → Prop) : Prop :=
  (w_M_openOrder (sF S 800 0) r p1 (fun x4 S5 r6 => ((0 ≤ x4 → ((p2 < (1 : Int32) → (w_M_fill_43 K S5 r6)) ∧ (¬ p2 < (1 : Int32) → (vp_in x4 40) ∧ (vp_in x4 40) ∧ ((p2 ≤ (((gA S5 19) x4.toNatClampNeg) - ((gA S5 20) x4.toNatClampNeg)) → (vp_in x4 40) ∧ (vp_in x4 40) ∧ (w_M_tell (sA (sF S5 815 0) 20 (upd (gA S5 20) x4.toNatClampNeg (((gA S5 20) x4.toNatClampNeg) + p2))) r6 x4 (fun S15 r16 => (vp_in x4 40) ∧ (K ((gA S15 20) x4.toNatClampNeg) S15 r16)))) ∧ (¬ p2 ≤ (((gA S5 19) x4.toNatClampNeg) - ((gA S5 20) x4.toNatClampNeg)) → (w_M_fill_43 K S5 r6)))))) ∧ (¬ 0 ≤ x4 → (w_M_fail S5 r6 1 (fun x18 S19 r20 => (K x18 S19 r20)))))))
set_option maxRecDepth 100000 in
theorem c_M_fill {G : XG} {l : Launch} {d : Nat} (S : XS) (r : List AE) (p1 : Int32) (p2 : Int32) {K : Int32 → XS → List AE → Prop} (h : w_M_fill  S r p1 p2 K) : xCt G l (d + 8) xm_M_fill [.ref 24, .int p1, .int p2] (hL S r) (pI K) := by
  refine xCt.intro (by decide) (by decide) (List.forall_mem_cons.mpr ⟨rfl, (List.forall_mem_cons.mpr ⟨rfl, (List.forall_mem_cons.mpr ⟨rfl, (fun _ h => by cases h)⟩)⟩)⟩) (Nat.le_of_ble_eq_true rfl) rfl ?_
  show xRn G l _ xm_M_fill _ 0 [.ref 24, .int p1, .int p2, .null] [] (hL S r)
  refine xRn.blk (pc1 := 7) (ls1 := [.ref 24, .int p1, .int p2, .null]) (st1 := [.int p1, .ref 24]) (hp1 := (hL (sF S 800 0) r)) (ob := [(24 : Nat) = 24]) [(.aload_n 0, 1, 0, 0, 0, 0), (.iconst 0, 1, 0, 0, 0, 0), (.putfield 60, 3, 0, 6, 0, 0), (.aload_n 0, 1, 0, 0, 0, 0), (.iload_n 1, 1, 1, 0, 0, 0)] [(24, xc8 S)] (by decide +kernel) rfl (xall_cons rfl xall_nil) (xSee_cons rfl (xne_nil _) (xSee_nil _)) rfl rfl ?_
  refine xRn.callV (al := [.int p1]) (st := []) (nx := 10) (by decide +kernel) lk_V_M_fill_201_M_openOrder_6_1 rfl rfl (c_M_openOrder (d := d + 6) (sF S 800 0) r p1 h) rfl (Nat.le_of_ble_eq_true rfl) rfl rfl ?_ ?_
  · rintro _ _ ⟨x4, S5, r6, e9, rfl, h⟩
    cases e9
    show xRn G l _ _ _ 10 [.ref 24, .int p1, .int p2, .null] [.int x4] (hL S5 r6)
    refine xRn.blk (pc1 := 12) (ls1 := [.ref 24, .int p1, .int p2, .int x4]) (st1 := [.int x4]) (hp1 := (hL S5 r6)) (ob := []) [(.istore_n 3, 1, 3, 0, 0, 0), (.iload_n 3, 1, 3, 0, 0, 0)] [] (by decide +kernel) rfl xall_nil (xSee_nil _) rfl rfl ?_
    refine xRn.if_ge (tgt := 21) (nx := 15) (off := 9) (by decide +kernel) (by decide) rfl (fun c7 => ?_) (fun c7 => ?_)
    · have h := h.1 c7
      refine xRn.blk (pc1 := 23) (ls1 := [.ref 24, .int p1, .int p2, .int x4]) (st1 := [.int 1, .int p2]) (hp1 := (hL S5 r6)) (ob := []) [(.iload_n 2, 1, 2, 0, 0, 0), (.iconst 1, 1, 0, 0, 0, 1)] [] (by decide +kernel) rfl xall_nil (xSee_nil _) rfl rfl ?_
      refine xRn.ic_lt (tgt := 43) (nx := 26) (off := 20) (by decide +kernel) (by decide) rfl (fun c8 => ?_) (fun c8 => ?_)
      · have h := h.1 c8
        refine xRn.forget (xle_eq (xle_no (xle_no (xle_no xle_nil)))) ?_
        exact t_M_fill_43   S5 r6 h
      · have h := h.2 c8
        obtain ⟨o9, o10, h⟩ := h
        refine xRn.blk (pc1 := 40) (ls1 := [.ref 24, .int p1, .int p2, .int x4]) (st1 := [.int (((gA S5 19) x4.toNatClampNeg) - ((gA S5 20) x4.toNatClampNeg)), .int p2]) (hp1 := (hL S5 r6)) (ob := [(24 : Nat) = 24, (35 : Nat) = 35, vp_in x4 40, (24 : Nat) = 24, (36 : Nat) = 36, vp_in x4 40]) [(.iload_n 2, 1, 2, 0, 0, 0), (.aload_n 0, 1, 0, 0, 0, 0), (.getfield 48, 3, 32, 6, 0, 0), (.iload_n 3, 1, 3, 0, 0, 0), (.iaload, 1, 0, 0, 1, 0), (.aload_n 0, 1, 0, 0, 0, 0), (.getfield 51, 3, 33, 6, 0, 0), (.iload_n 3, 1, 3, 0, 0, 0), (.iaload, 1, 0, 0, 2, 0), (.isub, 1, 0, 0, 0, 0)] [(24, xc8 S5), (35, xc19 S5), (36, xc20 S5)] (by decide +kernel) rfl (xall_cons rfl (xall_cons rfl (xall_cons o9 (xall_cons rfl (xall_cons rfl (xall_cons o10 xall_nil)))))) (xSee_cons rfl (xne_cons (by decide) (xne_cons (by decide) (xne_nil _))) (xSee_cons rfl (xne_cons (by decide) (xne_nil _)) (xSee_cons rfl (xne_nil _) (xSee_nil _)))) rfl rfl ?_
        refine xRn.ic_le (tgt := 49) (nx := 43) (off := 9) (by decide +kernel) (by decide) rfl (fun c11 => ?_) (fun c11 => ?_)
        · have h := h.1 c11
          obtain ⟨o12, o13, h⟩ := h
          refine xRn.blk (pc1 := 66) (ls1 := [.ref 24, .int p1, .int p2, .int x4]) (st1 := [.int x4, .ref 24]) (hp1 := (hL (sA (sF S5 815 0) 20 (upd (gA S5 20) x4.toNatClampNeg (((gA S5 20) x4.toNatClampNeg) + p2))) r6)) (ob := [(24 : Nat) = 24, (24 : Nat) = 24, (36 : Nat) = 36, vp_in x4 40, (36 : Nat) = 36, vp_in x4 40]) [(.aload_n 0, 1, 0, 0, 0, 0), (.iconst 0, 1, 0, 0, 0, 0), (.putfield 70, 3, 15, 6, 0, 0), (.aload_n 0, 1, 0, 0, 0, 0), (.getfield 51, 3, 33, 6, 0, 0), (.iload_n 3, 1, 3, 0, 0, 0), (.dup2, 1, 0, 0, 0, 0), (.iaload, 1, 0, 0, 1, 0), (.iload_n 2, 1, 2, 0, 0, 0), (.iadd, 1, 0, 0, 0, 0), (.iastore, 1, 0, 0, 1, 0), (.aload_n 0, 1, 0, 0, 0, 0), (.iload_n 3, 1, 3, 0, 0, 0)] [(24, xc8 S5), (36, xc20 S5)] (by decide +kernel) rfl (xall_cons rfl (xall_cons rfl (xall_cons rfl (xall_cons o12 (xall_cons rfl (xall_cons o13 xall_nil)))))) (xSee_cons rfl (xne_cons (by decide) (xne_nil _)) (xSee_cons rfl (xne_nil _) (xSee_nil _))) rfl rfl ?_
          refine xRn.callV (al := [.int x4]) (st := []) (nx := 69) (by decide +kernel) lk_V_M_fill_211_M_tell_6_1 rfl rfl (c_M_tell (d := d + 0) (sA (sF S5 815 0) 20 (upd (gA S5 20) x4.toNatClampNeg (((gA S5 20) x4.toNatClampNeg) + p2))) r6 x4 h) rfl (Nat.le_of_ble_eq_true rfl) rfl rfl ?_ ?_
          · rintro _ _ ⟨S15, r16, e9, rfl, h⟩
            cases e9
            show xRn G l _ _ _ 69 [.ref 24, .int p1, .int p2, .int x4] [] (hL S15 r16)
            obtain ⟨o17, h⟩ := h
            refine xRn.blk (pc1 := 75) (ls1 := [.ref 24, .int p1, .int p2, .int x4]) (st1 := [.int ((gA S15 20) x4.toNatClampNeg)]) (hp1 := (hL S15 r16)) (ob := [(24 : Nat) = 24, (36 : Nat) = 36, vp_in x4 40]) [(.aload_n 0, 1, 0, 0, 0, 0), (.getfield 51, 3, 33, 6, 0, 0), (.iload_n 3, 1, 3, 0, 0, 0), (.iaload, 1, 0, 0, 1, 0)] [(24, xc8 S15), (36, xc20 S15)] (by decide +kernel) rfl (xall_cons rfl (xall_cons rfl (xall_cons o17 xall_nil))) (xSee_cons rfl (xne_cons (by decide) (xne_nil _)) (xSee_cons rfl (xne_nil _) (xSee_nil _))) rfl rfl ?_
            exact xRn.iret (by decide +kernel) rfl rfl ⟨_, _, _, rfl, rfl, h⟩
          · rintro _ _ ⟨_, _, e9, _⟩
            cases e9
        · have h := h.2 c11
          refine xRn.forget (xle_eq (xle_no (xle_no (xle_no xle_nil)))) ?_
          exact t_M_fill_43   S5 r6 h
    · have h := h.2 c7
      refine xRn.blk (pc1 := 17) (ls1 := [.ref 24, .int p1, .int p2, .int x4]) (st1 := [.int 1, .ref 24]) (hp1 := (hL S5 r6)) (ob := []) [(.aload_n 0, 1, 0, 0, 0, 0), (.iconst 1, 1, 0, 0, 0, 1)] [] (by decide +kernel) rfl xall_nil (xSee_nil _) rfl rfl ?_
      refine xRn.callV (al := [.int 1]) (st := []) (nx := 20) (by decide +kernel) lk_V_M_fill_143_M_fail_6_1 rfl rfl (c_M_fail (d := d + 7) S5 r6 1 h) rfl (Nat.le_of_ble_eq_true rfl) rfl rfl ?_ ?_
      · rintro _ _ ⟨x18, S19, r20, e9, rfl, h⟩
        cases e9
        show xRn G l _ _ _ 20 [.ref 24, .int p1, .int p2, .int x4] [.int x18] (hL S19 r20)
        exact xRn.iret (by decide +kernel) rfl rfl ⟨_, _, _, rfl, rfl, h⟩
      · rintro _ _ ⟨_, _, _, e9, _⟩
        cases e9
  · rintro _ _ ⟨_, _, _, e9, _⟩
    cases e9
/-! M_frames -/
def w_M_frames  (S : XS) (r : List AE) (K : Int32 → XS → List AE → Prop) : Prop :=
  (K (gF S 815) (sF S 800 0) r)
set_option maxRecDepth 100000 in
theorem c_M_frames {G : XG} {l : Launch} {d : Nat} (S : XS) (r : List AE) {K : Int32 → XS → List AE → Prop} (h : w_M_frames  S r K) : xCt G l (d + 0) xm_M_frames [.ref 24] (hL S r) (pI K) := by
  refine xCt.intro (by decide) (by decide) (List.forall_mem_cons.mpr ⟨rfl, (fun _ h => by cases h)⟩) (Nat.le_of_ble_eq_true rfl) rfl ?_
  show xRn G l _ xm_M_frames _ 0 [.ref 24] [] (hL S r)
  refine xRn.blk (pc1 := 9) (ls1 := [.ref 24]) (st1 := [.int (gF S 815)]) (hp1 := (hL (sF S 800 0) r)) (ob := [(24 : Nat) = 24, (24 : Nat) = 24]) [(.aload_n 0, 1, 0, 0, 0, 0), (.iconst 0, 1, 0, 0, 0, 0), (.putfield 60, 3, 0, 6, 0, 0), (.aload_n 0, 1, 0, 0, 0, 0), (.getfield 70, 3, 15, 6, 0, 0)] [(24, xc8 S)] (by decide +kernel) rfl (xall_cons rfl (xall_cons rfl xall_nil)) (xSee_cons rfl (xne_nil _) (xSee_nil _)) rfl rfl ?_
  exact xRn.iret (by decide +kernel) rfl rfl ⟨_, _, _, rfl, rfl, h⟩
/-! M_length -/
def w_M_length_34   (K : Int32 → XS → List AE → Prop) (S : XS) (r : List AE) : Prop :=
  (w_M_fail S r 1 (fun x1 S2 r3 => (K x1 S2 r3)))
set_option maxRecDepth 100000 in
theorem t_M_length_34 {G : XG} {l : Launch} {d : Nat} {K : Int32 → XS → List AE → Prop} (S : XS) (r : List AE) (h : w_M_length_34 K S r) : xRn G l (d + 1) xm_M_length (pI K) 34 [.ref 24, .null] [] (hL S r) := by
  refine xRn.blk (pc1 := 36) (ls1 := [.ref 24, .null]) (st1 := [.int 1, .ref 24]) (hp1 := (hL S r)) (ob := []) [(.aload_n 0, 1, 0, 0, 0, 0), (.iconst 1, 1, 0, 0, 0, 1)] [] (by decide +kernel) rfl xall_nil (xSee_nil _) rfl rfl ?_
  refine xRn.callV (al := [.int 1]) (st := []) (nx := 39) (by decide +kernel) lk_V_M_length_143_M_fail_6_1 rfl rfl (c_M_fail (d := d + 0) S r 1 h) rfl (Nat.le_of_ble_eq_true rfl) rfl rfl ?_ ?_
  · rintro _ _ ⟨x1, S2, r3, e9, rfl, h⟩
    cases e9
    show xRn G l _ _ _ 39 [.ref 24, .null] [.int x1] (hL S2 r3)
    exact xRn.iret (by decide +kernel) rfl rfl ⟨_, _, _, rfl, rfl, h⟩
  · rintro _ _ ⟨_, _, _, e9, _⟩
    cases e9
def w_M_length  (S : XS) (r : List AE) (p1 : Int32) (K : Int32 → XS → List AE → Prop) : Prop :=
  (w_M_within p1 0 ((gF S 815) - 1) (fun x4 => ((x4 = 0 → (w_M_length_34 K (sF S 800 0) r)) ∧ (¬ x4 = 0 → (((20 : Int32) ≤ p1 → (w_M_length_34 K (sF S 800 0) r)) ∧ (¬ (20 : Int32) ≤ p1 → (vp_in p1 20) ∧ (K ((gA S 14) p1.toNatClampNeg) (sF S 800 0) r)))))))
set_option maxRecDepth 100000 in
theorem c_M_length {G : XG} {l : Launch} {d : Nat} (S : XS) (r : List AE) (p1 : Int32) {K : Int32 → XS → List AE → Prop} (h : w_M_length  S r p1 K) : xCt G l (d + 1) xm_M_length [.ref 24, .int p1] (hL S r) (pI K) := by
  refine xCt.intro (by decide) (by decide) (List.forall_mem_cons.mpr ⟨rfl, (List.forall_mem_cons.mpr ⟨rfl, (fun _ h => by cases h)⟩)⟩) (Nat.le_of_ble_eq_true rfl) rfl ?_
  show xRn G l _ xm_M_length _ 0 [.ref 24, .int p1] [] (hL S r)
  refine xRn.blk (pc1 := 13) (ls1 := [.ref 24, .int p1]) (st1 := [.int ((gF S 815) - 1), .int 0, .int p1]) (hp1 := (hL (sF S 800 0) r)) (ob := [(24 : Nat) = 24, (24 : Nat) = 24]) [(.aload_n 0, 1, 0, 0, 0, 0), (.iconst 0, 1, 0, 0, 0, 0), (.putfield 60, 3, 0, 6, 0, 0), (.iload_n 1, 1, 1, 0, 0, 0), (.iconst 0, 1, 0, 0, 0, 0), (.aload_n 0, 1, 0, 0, 0, 0), (.getfield 70, 3, 15, 6, 0, 0), (.iconst 1, 1, 0, 0, 0, 1), (.isub, 1, 0, 0, 0, 0)] [(24, xc8 S)] (by decide +kernel) rfl (xall_cons rfl (xall_cons rfl xall_nil)) (xSee_cons rfl (xne_nil _) (xSee_nil _)) rfl rfl ?_
  refine xRn.callS (al := [.int p1, .int 0, .int ((gF S 815) - 1)]) (st := []) (nx := 16) (by decide +kernel) lk_S_M_length_139_M_within_3 rfl (c_M_within (d := d + 0) _ p1 0 ((gF S 815) - 1) h) rfl (Nat.le_of_ble_eq_true rfl) rfl rfl ?_ ?_
  · rintro _ _ ⟨x4, e9, e8, h⟩
    cases e9
    rw [e8]
    show xRn G l _ _ _ 16 [.ref 24, .int p1] [.int x4] (hL (sF S 800 0) r)
    refine xRn.if_eq (tgt := 34) (nx := 19) (off := 18) (by decide +kernel) (by decide) rfl (fun c5 => ?_) (fun c5 => ?_)
    · have h := h.1 c5
      refine xRn.forget (xle_eq (xle_no xle_nil)) ?_
      exact t_M_length_34   (sF S 800 0) r h
    · have h := h.2 c5
      refine xRn.blk (pc1 := 22) (ls1 := [.ref 24, .int p1]) (st1 := [.int 20, .int p1]) (hp1 := (hL (sF S 800 0) r)) (ob := []) [(.iload_n 1, 1, 1, 0, 0, 0), (.bipush 20, 2, 0, 0, 0, 20)] [] (by decide +kernel) rfl xall_nil (xSee_nil _) rfl rfl ?_
      refine xRn.ic_ge (tgt := 34) (nx := 25) (off := 12) (by decide +kernel) (by decide) rfl (fun c6 => ?_) (fun c6 => ?_)
      · have h := h.1 c6
        refine xRn.forget (xle_eq (xle_no xle_nil)) ?_
        exact t_M_length_34   (sF S 800 0) r h
      · have h := h.2 c6
        obtain ⟨o7, h⟩ := h
        refine xRn.blk (pc1 := 31) (ls1 := [.ref 24, .int p1]) (st1 := [.int ((gA S 14) p1.toNatClampNeg)]) (hp1 := (hL (sF S 800 0) r)) (ob := [(24 : Nat) = 24, (30 : Nat) = 30, vp_in p1 20]) [(.aload_n 0, 1, 0, 0, 0, 0), (.getfield 25, 3, 17, 6, 0, 0), (.iload_n 1, 1, 1, 0, 0, 0), (.iaload, 1, 0, 0, 1, 0)] [(24, xc8 (sF S 800 0)), (30, xc14 (sF S 800 0))] (by decide +kernel) rfl (xall_cons rfl (xall_cons rfl (xall_cons o7 xall_nil))) (xSee_cons rfl (xne_cons (by decide) (xne_nil _)) (xSee_cons rfl (xne_nil _) (xSee_nil _))) rfl rfl ?_
        refine xRn.goto (tgt := 39) (off := 8) (by decide +kernel) (by decide) ?_
        exact xRn.iret (by decide +kernel) rfl rfl ⟨_, _, _, rfl, rfl, h⟩
  · rintro _ _ ⟨_, e9, _⟩
    cases e9
/-! M_octet -/
def w_M_octet_55   (K : Int32 → XS → List AE → Prop) (S : XS) (r : List AE) : Prop :=
  (w_M_fail S r 1 (fun x1 S2 r3 => (K x1 S2 r3)))
set_option maxRecDepth 100000 in
theorem t_M_octet_55 {G : XG} {l : Launch} {d : Nat} {K : Int32 → XS → List AE → Prop} (S : XS) (r : List AE) (h : w_M_octet_55 K S r) : xRn G l (d + 1) xm_M_octet (pI K) 55 [.ref 24, .null, .null] [] (hL S r) := by
  refine xRn.blk (pc1 := 57) (ls1 := [.ref 24, .null, .null]) (st1 := [.int 1, .ref 24]) (hp1 := (hL S r)) (ob := []) [(.aload_n 0, 1, 0, 0, 0, 0), (.iconst 1, 1, 0, 0, 0, 1)] [] (by decide +kernel) rfl xall_nil (xSee_nil _) rfl rfl ?_
  refine xRn.callV (al := [.int 1]) (st := []) (nx := 60) (by decide +kernel) lk_V_M_octet_143_M_fail_6_1 rfl rfl (c_M_fail (d := d + 0) S r 1 h) rfl (Nat.le_of_ble_eq_true rfl) rfl rfl ?_ ?_
  · rintro _ _ ⟨x1, S2, r3, e9, rfl, h⟩
    cases e9
    show xRn G l _ _ _ 60 [.ref 24, .null, .null] [.int x1] (hL S2 r3)
    exact xRn.iret (by decide +kernel) rfl rfl ⟨_, _, _, rfl, rfl, h⟩
  · rintro _ _ ⟨_, _, _, e9, _⟩
    cases e9
def w_M_octet  (S : XS) (r : List AE) (p1 : Int32) (p2 : Int32) (K : Int32 → XS → List AE → Prop) : Prop :=
  (w_M_within p1 0 ((gF S 815) - 1) (fun x4 => ((x4 = 0 → (w_M_octet_55 K (sF S 800 0) r)) ∧ (¬ x4 = 0 → (((20 : Int32) ≤ p1 → (w_M_octet_55 K (sF S 800 0) r)) ∧ (¬ (20 : Int32) ≤ p1 → (vp_in p1 20) ∧ (w_M_within p2 0 (((gA S 14) p1.toNatClampNeg) - 1) (fun x8 => ((x8 = 0 → (w_M_octet_55 K (sF S 800 0) r)) ∧ (¬ x8 = 0 → (vp_in ((120 * p1) + p2) 2400) ∧ (K ((gA S 13) ((120 * p1) + p2).toNatClampNeg) (sF S 800 0) r)))))))))))
set_option maxRecDepth 100000 in
theorem c_M_octet {G : XG} {l : Launch} {d : Nat} (S : XS) (r : List AE) (p1 : Int32) (p2 : Int32) {K : Int32 → XS → List AE → Prop} (h : w_M_octet  S r p1 p2 K) : xCt G l (d + 1) xm_M_octet [.ref 24, .int p1, .int p2] (hL S r) (pI K) := by
  refine xCt.intro (by decide) (by decide) (List.forall_mem_cons.mpr ⟨rfl, (List.forall_mem_cons.mpr ⟨rfl, (List.forall_mem_cons.mpr ⟨rfl, (fun _ h => by cases h)⟩)⟩)⟩) (Nat.le_of_ble_eq_true rfl) rfl ?_
  show xRn G l _ xm_M_octet _ 0 [.ref 24, .int p1, .int p2] [] (hL S r)
  refine xRn.blk (pc1 := 13) (ls1 := [.ref 24, .int p1, .int p2]) (st1 := [.int ((gF S 815) - 1), .int 0, .int p1]) (hp1 := (hL (sF S 800 0) r)) (ob := [(24 : Nat) = 24, (24 : Nat) = 24]) [(.aload_n 0, 1, 0, 0, 0, 0), (.iconst 0, 1, 0, 0, 0, 0), (.putfield 60, 3, 0, 6, 0, 0), (.iload_n 1, 1, 1, 0, 0, 0), (.iconst 0, 1, 0, 0, 0, 0), (.aload_n 0, 1, 0, 0, 0, 0), (.getfield 70, 3, 15, 6, 0, 0), (.iconst 1, 1, 0, 0, 0, 1), (.isub, 1, 0, 0, 0, 0)] [(24, xc8 S)] (by decide +kernel) rfl (xall_cons rfl (xall_cons rfl xall_nil)) (xSee_cons rfl (xne_nil _) (xSee_nil _)) rfl rfl ?_
  refine xRn.callS (al := [.int p1, .int 0, .int ((gF S 815) - 1)]) (st := []) (nx := 16) (by decide +kernel) lk_S_M_octet_139_M_within_3 rfl (c_M_within (d := d + 0) _ p1 0 ((gF S 815) - 1) h) rfl (Nat.le_of_ble_eq_true rfl) rfl rfl ?_ ?_
  · rintro _ _ ⟨x4, e9, e8, h⟩
    cases e9
    rw [e8]
    show xRn G l _ _ _ 16 [.ref 24, .int p1, .int p2] [.int x4] (hL (sF S 800 0) r)
    refine xRn.if_eq (tgt := 55) (nx := 19) (off := 39) (by decide +kernel) (by decide) rfl (fun c5 => ?_) (fun c5 => ?_)
    · have h := h.1 c5
      refine xRn.forget (xle_eq (xle_no (xle_no xle_nil))) ?_
      exact t_M_octet_55   (sF S 800 0) r h
    · have h := h.2 c5
      refine xRn.blk (pc1 := 22) (ls1 := [.ref 24, .int p1, .int p2]) (st1 := [.int 20, .int p1]) (hp1 := (hL (sF S 800 0) r)) (ob := []) [(.iload_n 1, 1, 1, 0, 0, 0), (.bipush 20, 2, 0, 0, 0, 20)] [] (by decide +kernel) rfl xall_nil (xSee_nil _) rfl rfl ?_
      refine xRn.ic_ge (tgt := 55) (nx := 25) (off := 33) (by decide +kernel) (by decide) rfl (fun c6 => ?_) (fun c6 => ?_)
      · have h := h.1 c6
        refine xRn.forget (xle_eq (xle_no (xle_no xle_nil))) ?_
        exact t_M_octet_55   (sF S 800 0) r h
      · have h := h.2 c6
        obtain ⟨o7, h⟩ := h
        refine xRn.blk (pc1 := 35) (ls1 := [.ref 24, .int p1, .int p2]) (st1 := [.int (((gA S 14) p1.toNatClampNeg) - 1), .int 0, .int p2]) (hp1 := (hL (sF S 800 0) r)) (ob := [(24 : Nat) = 24, (30 : Nat) = 30, vp_in p1 20]) [(.iload_n 2, 1, 2, 0, 0, 0), (.iconst 0, 1, 0, 0, 0, 0), (.aload_n 0, 1, 0, 0, 0, 0), (.getfield 25, 3, 17, 6, 0, 0), (.iload_n 1, 1, 1, 0, 0, 0), (.iaload, 1, 0, 0, 1, 0), (.iconst 1, 1, 0, 0, 0, 1), (.isub, 1, 0, 0, 0, 0)] [(24, xc8 (sF S 800 0)), (30, xc14 (sF S 800 0))] (by decide +kernel) rfl (xall_cons rfl (xall_cons rfl (xall_cons o7 xall_nil))) (xSee_cons rfl (xne_cons (by decide) (xne_nil _)) (xSee_cons rfl (xne_nil _) (xSee_nil _))) rfl rfl ?_
        refine xRn.callS (al := [.int p2, .int 0, .int (((gA S 14) p1.toNatClampNeg) - 1)]) (st := []) (nx := 38) (by decide +kernel) lk_S_M_octet_139_M_within_3 rfl (c_M_within (d := d + 0) _ p2 0 (((gA S 14) p1.toNatClampNeg) - 1) h) rfl (Nat.le_of_ble_eq_true rfl) rfl rfl ?_ ?_
        · rintro _ _ ⟨x8, e9, e8, h⟩
          cases e9
          rw [e8]
          show xRn G l _ _ _ 38 [.ref 24, .int p1, .int p2] [.int x8] (hL (sF S 800 0) r)
          refine xRn.if_eq (tgt := 55) (nx := 41) (off := 17) (by decide +kernel) (by decide) rfl (fun c9 => ?_) (fun c9 => ?_)
          · have h := h.1 c9
            refine xRn.forget (xle_eq (xle_no (xle_no xle_nil))) ?_
            exact t_M_octet_55   (sF S 800 0) r h
          · have h := h.2 c9
            obtain ⟨o10, h⟩ := h
            refine xRn.blk (pc1 := 52) (ls1 := [.ref 24, .int p1, .int p2]) (st1 := [.int ((gA S 13) ((120 * p1) + p2).toNatClampNeg)]) (hp1 := (hL (sF S 800 0) r)) (ob := [(24 : Nat) = 24, (29 : Nat) = 29, vp_in ((120 * p1) + p2) 2400]) [(.aload_n 0, 1, 0, 0, 0, 0), (.getfield 22, 3, 16, 6, 0, 0), (.bipush 120, 2, 0, 0, 0, 120), (.iload_n 1, 1, 1, 0, 0, 0), (.imul, 1, 0, 0, 0, 0), (.iload_n 2, 1, 2, 0, 0, 0), (.iadd, 1, 0, 0, 0, 0), (.iaload, 1, 0, 0, 1, 0)] [(24, xc8 (sF S 800 0)), (29, xc13 (sF S 800 0))] (by decide +kernel) rfl (xall_cons rfl (xall_cons rfl (xall_cons o10 xall_nil))) (xSee_cons rfl (xne_cons (by decide) (xne_nil _)) (xSee_cons rfl (xne_nil _) (xSee_nil _))) rfl rfl ?_
            refine xRn.goto (tgt := 60) (off := 8) (by decide +kernel) (by decide) ?_
            exact xRn.iret (by decide +kernel) rfl rfl ⟨_, _, _, rfl, rfl, h⟩
        · rintro _ _ ⟨_, e9, _⟩
          cases e9
  · rintro _ _ ⟨_, e9, _⟩
    cases e9
/-! M_session -/
def w_M_session  (S : XS) (r : List AE) (p1 : Int32) (K : Int32 → XS → List AE → Prop) : Prop :=
  (w_M_within p1 0 6 (fun x1 => ((¬ x1 = 0 → (((4 : Int32) ≤ p1 → ((¬ p1 = (4 : Int32) → ((¬ p1 = (5 : Int32) → (K (gF S 836) (sF S 800 0) r)) ∧ (p1 = (5 : Int32) → (K (gF S 829) (sF S 800 0) r)))) ∧ (p1 = (4 : Int32) → (K (gF S 822) (sF S 800 0) r)))) ∧ (¬ (4 : Int32) ≤ p1 → ((¬ p1 = 0 → ((¬ p1 = (1 : Int32) → ((¬ p1 = (2 : Int32) → (((gF S 819) = 0 → (K 0 (sF S 800 0) r)) ∧ (¬ (gF S 819) = 0 → (K 1 (sF S 800 0) r)))) ∧ (p1 = (2 : Int32) → (K (gF S 826) (sF S 800 0) r)))) ∧ (p1 = (1 : Int32) → (K (gF S 821) (sF S 800 0) r)))) ∧ (p1 = 0 → (K (gF S 820) (sF S 800 0) r)))))) ∧ (x1 = 0 → (w_M_fail (sF S 800 0) r 1 (fun x10 S11 r12 => (K x10 S11 r12)))))))
set_option maxRecDepth 100000 in
theorem c_M_session {G : XG} {l : Launch} {d : Nat} (S : XS) (r : List AE) (p1 : Int32) {K : Int32 → XS → List AE → Prop} (h : w_M_session  S r p1 K) : xCt G l (d + 1) xm_M_session [.ref 24, .int p1] (hL S r) (pI K) := by
  refine xCt.intro (by decide) (by decide) (List.forall_mem_cons.mpr ⟨rfl, (List.forall_mem_cons.mpr ⟨rfl, (fun _ h => by cases h)⟩)⟩) (Nat.le_of_ble_eq_true rfl) rfl ?_
  show xRn G l _ xm_M_session _ 0 [.ref 24, .int p1] [] (hL S r)
  refine xRn.blk (pc1 := 9) (ls1 := [.ref 24, .int p1]) (st1 := [.int 6, .int 0, .int p1]) (hp1 := (hL (sF S 800 0) r)) (ob := [(24 : Nat) = 24]) [(.aload_n 0, 1, 0, 0, 0, 0), (.iconst 0, 1, 0, 0, 0, 0), (.putfield 60, 3, 0, 6, 0, 0), (.iload_n 1, 1, 1, 0, 0, 0), (.iconst 0, 1, 0, 0, 0, 0), (.bipush 6, 2, 0, 0, 0, 6)] [(24, xc8 S)] (by decide +kernel) rfl (xall_cons rfl xall_nil) (xSee_cons rfl (xne_nil _) (xSee_nil _)) rfl rfl ?_
  refine xRn.callS (al := [.int p1, .int 0, .int 6]) (st := []) (nx := 12) (by decide +kernel) lk_S_M_session_139_M_within_3 rfl (c_M_within (d := d + 0) _ p1 0 6 h) rfl (Nat.le_of_ble_eq_true rfl) rfl rfl ?_ ?_
  · rintro _ _ ⟨x1, e9, e8, h⟩
    cases e9
    rw [e8]
    show xRn G l _ _ _ 12 [.ref 24, .int p1] [.int x1] (hL (sF S 800 0) r)
    refine xRn.if_ne (tgt := 21) (nx := 15) (off := 9) (by decide +kernel) (by decide) rfl (fun c2 => ?_) (fun c2 => ?_)
    · have h := h.1 c2
      refine xRn.blk (pc1 := 23) (ls1 := [.ref 24, .int p1]) (st1 := [.int 4, .int p1]) (hp1 := (hL (sF S 800 0) r)) (ob := []) [(.iload_n 1, 1, 1, 0, 0, 0), (.iconst 4, 1, 0, 0, 0, 4)] [] (by decide +kernel) rfl xall_nil (xSee_nil _) rfl rfl ?_
      refine xRn.ic_ge (tgt := 74) (nx := 26) (off := 51) (by decide +kernel) (by decide) rfl (fun c3 => ?_) (fun c3 => ?_)
      · have h := h.1 c3
        refine xRn.blk (pc1 := 76) (ls1 := [.ref 24, .int p1]) (st1 := [.int 4, .int p1]) (hp1 := (hL (sF S 800 0) r)) (ob := []) [(.iload_n 1, 1, 1, 0, 0, 0), (.iconst 4, 1, 0, 0, 0, 4)] [] (by decide +kernel) rfl xall_nil (xSee_nil _) rfl rfl ?_
        refine xRn.ic_ne (tgt := 86) (nx := 79) (off := 10) (by decide +kernel) (by decide) rfl (fun c4 => ?_) (fun c4 => ?_)
        · have h := h.1 c4
          refine xRn.blk (pc1 := 88) (ls1 := [.ref 24, .int p1]) (st1 := [.int 5, .int p1]) (hp1 := (hL (sF S 800 0) r)) (ob := []) [(.iload_n 1, 1, 1, 0, 0, 0), (.iconst 5, 1, 0, 0, 0, 5)] [] (by decide +kernel) rfl xall_nil (xSee_nil _) rfl rfl ?_
          refine xRn.ic_ne (tgt := 98) (nx := 91) (off := 10) (by decide +kernel) (by decide) rfl (fun c5 => ?_) (fun c5 => ?_)
          · have h := h.1 c5
            refine xRn.blk (pc1 := 102) (ls1 := [.ref 24, .int p1]) (st1 := [.int (gF S 836)]) (hp1 := (hL (sF S 800 0) r)) (ob := [(24 : Nat) = 24]) [(.aload_n 0, 1, 0, 0, 0, 0), (.getfield 204, 3, 36, 6, 0, 0)] [(24, xc8 (sF S 800 0))] (by decide +kernel) rfl (xall_cons rfl xall_nil) (xSee_cons rfl (xne_nil _) (xSee_nil _)) rfl rfl ?_
            exact xRn.iret (by decide +kernel) rfl rfl ⟨_, _, _, rfl, rfl, h⟩
          · have h := h.2 c5
            refine xRn.blk (pc1 := 95) (ls1 := [.ref 24, .int p1]) (st1 := [.int (gF S 829)]) (hp1 := (hL (sF S 800 0) r)) (ob := [(24 : Nat) = 24]) [(.aload_n 0, 1, 0, 0, 0, 0), (.getfield 192, 3, 29, 6, 0, 0)] [(24, xc8 (sF S 800 0))] (by decide +kernel) rfl (xall_cons rfl xall_nil) (xSee_cons rfl (xne_nil _) (xSee_nil _)) rfl rfl ?_
            refine xRn.goto (tgt := 102) (off := 7) (by decide +kernel) (by decide) ?_
            exact xRn.iret (by decide +kernel) rfl rfl ⟨_, _, _, rfl, rfl, h⟩
        · have h := h.2 c4
          refine xRn.blk (pc1 := 83) (ls1 := [.ref 24, .int p1]) (st1 := [.int (gF S 822)]) (hp1 := (hL (sF S 800 0) r)) (ob := [(24 : Nat) = 24]) [(.aload_n 0, 1, 0, 0, 0, 0), (.getfield 112, 3, 22, 6, 0, 0)] [(24, xc8 (sF S 800 0))] (by decide +kernel) rfl (xall_cons rfl xall_nil) (xSee_cons rfl (xne_nil _) (xSee_nil _)) rfl rfl ?_
          refine xRn.goto (tgt := 102) (off := 19) (by decide +kernel) (by decide) ?_
          exact xRn.iret (by decide +kernel) rfl rfl ⟨_, _, _, rfl, rfl, h⟩
      · have h := h.2 c3
        refine xRn.blk (pc1 := 27) (ls1 := [.ref 24, .int p1]) (st1 := [.int p1]) (hp1 := (hL (sF S 800 0) r)) (ob := []) [(.iload_n 1, 1, 1, 0, 0, 0)] [] (by decide +kernel) rfl xall_nil (xSee_nil _) rfl rfl ?_
        refine xRn.if_ne (tgt := 37) (nx := 30) (off := 10) (by decide +kernel) (by decide) rfl (fun c6 => ?_) (fun c6 => ?_)
        · have h := h.1 c6
          refine xRn.blk (pc1 := 39) (ls1 := [.ref 24, .int p1]) (st1 := [.int 1, .int p1]) (hp1 := (hL (sF S 800 0) r)) (ob := []) [(.iload_n 1, 1, 1, 0, 0, 0), (.iconst 1, 1, 0, 0, 0, 1)] [] (by decide +kernel) rfl xall_nil (xSee_nil _) rfl rfl ?_
          refine xRn.ic_ne (tgt := 49) (nx := 42) (off := 10) (by decide +kernel) (by decide) rfl (fun c7 => ?_) (fun c7 => ?_)
          · have h := h.1 c7
            refine xRn.blk (pc1 := 51) (ls1 := [.ref 24, .int p1]) (st1 := [.int 2, .int p1]) (hp1 := (hL (sF S 800 0) r)) (ob := []) [(.iload_n 1, 1, 1, 0, 0, 0), (.iconst 2, 1, 0, 0, 0, 2)] [] (by decide +kernel) rfl xall_nil (xSee_nil _) rfl rfl ?_
            refine xRn.ic_ne (tgt := 61) (nx := 54) (off := 10) (by decide +kernel) (by decide) rfl (fun c8 => ?_) (fun c8 => ?_)
            · have h := h.1 c8
              refine xRn.blk (pc1 := 65) (ls1 := [.ref 24, .int p1]) (st1 := [.int (gF S 819)]) (hp1 := (hL (sF S 800 0) r)) (ob := [(24 : Nat) = 24]) [(.aload_n 0, 1, 0, 0, 0, 0), (.getfield 118, 3, 19, 6, 0, 0)] [(24, xc8 (sF S 800 0))] (by decide +kernel) rfl (xall_cons rfl xall_nil) (xSee_cons rfl (xne_nil _) (xSee_nil _)) rfl rfl ?_
              refine xRn.if_eq (tgt := 72) (nx := 68) (off := 7) (by decide +kernel) (by decide) rfl (fun c9 => ?_) (fun c9 => ?_)
              · have h := h.1 c9
                refine xRn.blk (pc1 := 73) (ls1 := [.ref 24, .int p1]) (st1 := [.int 0]) (hp1 := (hL (sF S 800 0) r)) (ob := []) [(.iconst 0, 1, 0, 0, 0, 0)] [] (by decide +kernel) rfl xall_nil (xSee_nil _) rfl rfl ?_
                exact xRn.iret (by decide +kernel) rfl rfl ⟨_, _, _, rfl, rfl, h⟩
              · have h := h.2 c9
                refine xRn.blk (pc1 := 69) (ls1 := [.ref 24, .int p1]) (st1 := [.int 1]) (hp1 := (hL (sF S 800 0) r)) (ob := []) [(.iconst 1, 1, 0, 0, 0, 1)] [] (by decide +kernel) rfl xall_nil (xSee_nil _) rfl rfl ?_
                refine xRn.goto (tgt := 73) (off := 4) (by decide +kernel) (by decide) ?_
                exact xRn.iret (by decide +kernel) rfl rfl ⟨_, _, _, rfl, rfl, h⟩
            · have h := h.2 c8
              refine xRn.blk (pc1 := 58) (ls1 := [.ref 24, .int p1]) (st1 := [.int (gF S 826)]) (hp1 := (hL (sF S 800 0) r)) (ob := [(24 : Nat) = 24]) [(.aload_n 0, 1, 0, 0, 0, 0), (.getfield 128, 3, 26, 6, 0, 0)] [(24, xc8 (sF S 800 0))] (by decide +kernel) rfl (xall_cons rfl xall_nil) (xSee_cons rfl (xne_nil _) (xSee_nil _)) rfl rfl ?_
              refine xRn.goto (tgt := 73) (off := 15) (by decide +kernel) (by decide) ?_
              exact xRn.iret (by decide +kernel) rfl rfl ⟨_, _, _, rfl, rfl, h⟩
          · have h := h.2 c7
            refine xRn.blk (pc1 := 46) (ls1 := [.ref 24, .int p1]) (st1 := [.int (gF S 821)]) (hp1 := (hL (sF S 800 0) r)) (ob := [(24 : Nat) = 24]) [(.aload_n 0, 1, 0, 0, 0, 0), (.getfield 32, 3, 21, 6, 0, 0)] [(24, xc8 (sF S 800 0))] (by decide +kernel) rfl (xall_cons rfl xall_nil) (xSee_cons rfl (xne_nil _) (xSee_nil _)) rfl rfl ?_
            refine xRn.goto (tgt := 73) (off := 27) (by decide +kernel) (by decide) ?_
            exact xRn.iret (by decide +kernel) rfl rfl ⟨_, _, _, rfl, rfl, h⟩
        · have h := h.2 c6
          refine xRn.blk (pc1 := 34) (ls1 := [.ref 24, .int p1]) (st1 := [.int (gF S 820)]) (hp1 := (hL (sF S 800 0) r)) (ob := [(24 : Nat) = 24]) [(.aload_n 0, 1, 0, 0, 0, 0), (.getfield 28, 3, 20, 6, 0, 0)] [(24, xc8 (sF S 800 0))] (by decide +kernel) rfl (xall_cons rfl xall_nil) (xSee_cons rfl (xne_nil _) (xSee_nil _)) rfl rfl ?_
          refine xRn.goto (tgt := 73) (off := 39) (by decide +kernel) (by decide) ?_
          exact xRn.iret (by decide +kernel) rfl rfl ⟨_, _, _, rfl, rfl, h⟩
    · have h := h.2 c2
      refine xRn.blk (pc1 := 17) (ls1 := [.ref 24, .int p1]) (st1 := [.int 1, .ref 24]) (hp1 := (hL (sF S 800 0) r)) (ob := []) [(.aload_n 0, 1, 0, 0, 0, 0), (.iconst 1, 1, 0, 0, 0, 1)] [] (by decide +kernel) rfl xall_nil (xSee_nil _) rfl rfl ?_
      refine xRn.callV (al := [.int 1]) (st := []) (nx := 20) (by decide +kernel) lk_V_M_session_143_M_fail_6_1 rfl rfl (c_M_fail (d := d + 0) (sF S 800 0) r 1 h) rfl (Nat.le_of_ble_eq_true rfl) rfl rfl ?_ ?_
      · rintro _ _ ⟨x10, S11, r12, e9, rfl, h⟩
        cases e9
        show xRn G l _ _ _ 20 [.ref 24, .int p1] [.int x10] (hL S11 r12)
        exact xRn.iret (by decide +kernel) rfl rfl ⟨_, _, _, rfl, rfl, h⟩
      · rintro _ _ ⟨_, _, _, e9, _⟩
        cases e9
  · rintro _ _ ⟨_, e9, _⟩
    cases e9
/-! M_order -/
def w_M_order_37 (k10 : XS → List AE → Int32 → Int32 → Int32 → Int32 → Prop)  (K : Int32 → XS → List AE → Prop) (S : XS) (r : List AE) (v1 : Int32) (v2 : Int32) (v3 : Int32) (v4 : Int32) : Prop :=
  (k10 S r v1 v2 v3 (v4 + 1))
set_option maxRecDepth 100000 in
theorem t_M_order_37 {G : XG} {l : Launch} {d : Nat} {k10 : XS → List AE → Int32 → Int32 → Int32 → Int32 → Prop} {K : Int32 → XS → List AE → Prop} (hk10 : ∀ (S : XS) (r : List AE) (v1 : Int32) (v2 : Int32) (v3 : Int32) (v4 : Int32), k10 S r v1 v2 v3 v4 → xRn G l (d + 1) xm_M_order (pI K) 10 [.ref 24, .int v1, .int v2, .int v3, .int v4] [] (hL S r)) (S : XS) (r : List AE) (v1 : Int32) (v2 : Int32) (v3 : Int32) (v4 : Int32) (h : w_M_order_37 k10 K S r v1 v2 v3 v4) : xRn G l (d + 1) xm_M_order (pI K) 37 [.ref 24, .int v1, .int v2, .int v3, .int v4] [] (hL S r) := by
  refine xRn.blk (pc1 := 40) (ls1 := [.ref 24, .int v1, .int v2, .int v3, .int (v4 + 1)]) (st1 := []) (hp1 := (hL S r)) (ob := []) [(.iinc 4 1, 3, 4, 0, 0, 1)] [] (by decide +kernel) rfl xall_nil (xSee_nil _) rfl rfl ?_
  refine xRn.goto (tgt := 10) (off := (-30)) (by decide +kernel) (by decide) ?_
  refine xRn.forget (xle_eq (xle_eq (xle_eq (xle_eq (xle_eq xle_nil))))) ?_
  exact hk10 S r v1 v2 v3 (v4 + 1) h
def w_M_order_10   (K : Int32 → XS → List AE → Prop) : Nat → XS → List AE → Int32 → Int32 → Int32 → Int32 → Prop
  | 0, _, _, _, _, _, _ => False
  | n + 1, S, r, v1, v2, v3, v4 => (((gF S 829) ≤ v4 → ((0 ≤ v3 → (w_M_within v2 0 3 (fun x3 => ((¬ x3 = 0 → ((¬ v2 = 0 → ((¬ v2 = (1 : Int32) → ((¬ v2 = (2 : Int32) → (w_M_state S r v3 (fun x8 S9 r10 => (K x8 S9 r10)))) ∧ (v2 = (2 : Int32) → (vp_in v3 40) ∧ (K ((gA S 20) v3.toNatClampNeg) S r)))) ∧ (v2 = (1 : Int32) → (vp_in v3 40) ∧ (K ((gA S 19) v3.toNatClampNeg) S r)))) ∧ (v2 = 0 → (vp_in v3 40) ∧ (K ((gA S 18) v3.toNatClampNeg) S r)))) ∧ (x3 = 0 → (w_M_fail S r 2 (fun x14 S15 r16 => (K x14 S15 r16)))))))) ∧ (¬ 0 ≤ v3 → (w_M_fail S r 1 (fun x17 S18 r19 => (K x17 S18 r19)))))) ∧ (¬ (gF S 829) ≤ v4 → (vp_in v4 40) ∧ ((¬ ((gA S 17) v4.toNatClampNeg) = v1 → (w_M_order_37 (fun S r v1 v2 v3 v4 => w_M_order_10 K n S r v1 v2 v3 v4) K S r v1 v2 v3 v4)) ∧ (((gA S 17) v4.toNatClampNeg) = v1 → (w_M_order_37 (fun S r v1 v2 v3 v4 => w_M_order_10 K n S r v1 v2 v3 v4) K S r v1 v2 v4 v4)))))
set_option maxRecDepth 100000 in
theorem t_M_order_10 {G : XG} {l : Launch} {d : Nat} {K : Int32 → XS → List AE → Prop} : ∀ (n : Nat) (S : XS) (r : List AE) (v1 : Int32) (v2 : Int32) (v3 : Int32) (v4 : Int32), w_M_order_10 K n S r v1 v2 v3 v4 → xRn G l (d + 1) xm_M_order (pI K) 10 [.ref 24, .int v1, .int v2, .int v3, .int v4] [] (hL S r) := by
  intro n
  induction n with
  | zero => intro S r v1 v2 v3 v4 h; exact h.elim
  | succ n ih =>
    intro S r v1 v2 v3 v4 h
    refine xRn.blk (pc1 := 16) (ls1 := [.ref 24, .int v1, .int v2, .int v3, .int v4]) (st1 := [.int (gF S 829), .int v4]) (hp1 := (hL S r)) (ob := [(24 : Nat) = 24]) [(.iload 4, 2, 4, 0, 0, 0), (.aload_n 0, 1, 0, 0, 0, 0), (.getfield 192, 3, 29, 6, 0, 0)] [(24, xc8 S)] (by decide +kernel) rfl (xall_cons rfl xall_nil) (xSee_cons rfl (xne_nil _) (xSee_nil _)) rfl rfl ?_
    refine xRn.ic_ge (tgt := 43) (nx := 19) (off := 27) (by decide +kernel) (by decide) rfl (fun c1 => ?_) (fun c1 => ?_)
    · have h := h.1 c1
      refine xRn.blk (pc1 := 44) (ls1 := [.ref 24, .int v1, .int v2, .int v3, .int v4]) (st1 := [.int v3]) (hp1 := (hL S r)) (ob := []) [(.iload_n 3, 1, 3, 0, 0, 0)] [] (by decide +kernel) rfl xall_nil (xSee_nil _) rfl rfl ?_
      refine xRn.if_ge (tgt := 53) (nx := 47) (off := 9) (by decide +kernel) (by decide) rfl (fun c2 => ?_) (fun c2 => ?_)
      · have h := h.1 c2
        refine xRn.blk (pc1 := 56) (ls1 := [.ref 24, .int v1, .int v2, .int v3, .int v4]) (st1 := [.int 3, .int 0, .int v2]) (hp1 := (hL S r)) (ob := []) [(.iload_n 2, 1, 2, 0, 0, 0), (.iconst 0, 1, 0, 0, 0, 0), (.iconst 3, 1, 0, 0, 0, 3)] [] (by decide +kernel) rfl xall_nil (xSee_nil _) rfl rfl ?_
        refine xRn.callS (al := [.int v2, .int 0, .int 3]) (st := []) (nx := 59) (by decide +kernel) lk_S_M_order_139_M_within_3 rfl (c_M_within (d := d + 0) _ v2 0 3 h) rfl (Nat.le_of_ble_eq_true rfl) rfl rfl ?_ ?_
        · rintro _ _ ⟨x3, e9, e8, h⟩
          cases e9
          rw [e8]
          show xRn G l _ _ _ 59 [.ref 24, .int v1, .int v2, .int v3, .int v4] [.int x3] (hL S r)
          refine xRn.if_ne (tgt := 68) (nx := 62) (off := 9) (by decide +kernel) (by decide) rfl (fun c4 => ?_) (fun c4 => ?_)
          · have h := h.1 c4
            refine xRn.blk (pc1 := 69) (ls1 := [.ref 24, .int v1, .int v2, .int v3, .int v4]) (st1 := [.int v2]) (hp1 := (hL S r)) (ob := []) [(.iload_n 2, 1, 2, 0, 0, 0)] [] (by decide +kernel) rfl xall_nil (xSee_nil _) rfl rfl ?_
            refine xRn.if_ne (tgt := 81) (nx := 72) (off := 12) (by decide +kernel) (by decide) rfl (fun c5 => ?_) (fun c5 => ?_)
            · have h := h.1 c5
              refine xRn.blk (pc1 := 83) (ls1 := [.ref 24, .int v1, .int v2, .int v3, .int v4]) (st1 := [.int 1, .int v2]) (hp1 := (hL S r)) (ob := []) [(.iload_n 2, 1, 2, 0, 0, 0), (.iconst 1, 1, 0, 0, 0, 1)] [] (by decide +kernel) rfl xall_nil (xSee_nil _) rfl rfl ?_
              refine xRn.ic_ne (tgt := 95) (nx := 86) (off := 12) (by decide +kernel) (by decide) rfl (fun c6 => ?_) (fun c6 => ?_)
              · have h := h.1 c6
                refine xRn.blk (pc1 := 97) (ls1 := [.ref 24, .int v1, .int v2, .int v3, .int v4]) (st1 := [.int 2, .int v2]) (hp1 := (hL S r)) (ob := []) [(.iload_n 2, 1, 2, 0, 0, 0), (.iconst 2, 1, 0, 0, 0, 2)] [] (by decide +kernel) rfl xall_nil (xSee_nil _) rfl rfl ?_
                refine xRn.ic_ne (tgt := 109) (nx := 100) (off := 12) (by decide +kernel) (by decide) rfl (fun c7 => ?_) (fun c7 => ?_)
                · have h := h.1 c7
                  refine xRn.blk (pc1 := 111) (ls1 := [.ref 24, .int v1, .int v2, .int v3, .int v4]) (st1 := [.int v3, .ref 24]) (hp1 := (hL S r)) (ob := []) [(.aload_n 0, 1, 0, 0, 0, 0), (.iload_n 3, 1, 3, 0, 0, 0)] [] (by decide +kernel) rfl xall_nil (xSee_nil _) rfl rfl ?_
                  refine xRn.callV (al := [.int v3]) (st := []) (nx := 114) (by decide +kernel) lk_V_M_order_195_M_state_6_1 rfl rfl (c_M_state (d := d + 0) S r v3 h) rfl (Nat.le_of_ble_eq_true rfl) rfl rfl ?_ ?_
                  · rintro _ _ ⟨x8, S9, r10, e9, rfl, h⟩
                    cases e9
                    show xRn G l _ _ _ 114 [.ref 24, .int v1, .int v2, .int v3, .int v4] [.int x8] (hL S9 r10)
                    exact xRn.iret (by decide +kernel) rfl rfl ⟨_, _, _, rfl, rfl, h⟩
                  · rintro _ _ ⟨_, _, _, e9, _⟩
                    cases e9
                · have h := h.2 c7
                  obtain ⟨o11, h⟩ := h
                  refine xRn.blk (pc1 := 106) (ls1 := [.ref 24, .int v1, .int v2, .int v3, .int v4]) (st1 := [.int ((gA S 20) v3.toNatClampNeg)]) (hp1 := (hL S r)) (ob := [(24 : Nat) = 24, (36 : Nat) = 36, vp_in v3 40]) [(.aload_n 0, 1, 0, 0, 0, 0), (.getfield 51, 3, 33, 6, 0, 0), (.iload_n 3, 1, 3, 0, 0, 0), (.iaload, 1, 0, 0, 1, 0)] [(24, xc8 S), (36, xc20 S)] (by decide +kernel) rfl (xall_cons rfl (xall_cons rfl (xall_cons o11 xall_nil))) (xSee_cons rfl (xne_cons (by decide) (xne_nil _)) (xSee_cons rfl (xne_nil _) (xSee_nil _))) rfl rfl ?_
                  refine xRn.goto (tgt := 114) (off := 8) (by decide +kernel) (by decide) ?_
                  exact xRn.iret (by decide +kernel) rfl rfl ⟨_, _, _, rfl, rfl, h⟩
              · have h := h.2 c6
                obtain ⟨o12, h⟩ := h
                refine xRn.blk (pc1 := 92) (ls1 := [.ref 24, .int v1, .int v2, .int v3, .int v4]) (st1 := [.int ((gA S 19) v3.toNatClampNeg)]) (hp1 := (hL S r)) (ob := [(24 : Nat) = 24, (35 : Nat) = 35, vp_in v3 40]) [(.aload_n 0, 1, 0, 0, 0, 0), (.getfield 48, 3, 32, 6, 0, 0), (.iload_n 3, 1, 3, 0, 0, 0), (.iaload, 1, 0, 0, 1, 0)] [(24, xc8 S), (35, xc19 S)] (by decide +kernel) rfl (xall_cons rfl (xall_cons rfl (xall_cons o12 xall_nil))) (xSee_cons rfl (xne_cons (by decide) (xne_nil _)) (xSee_cons rfl (xne_nil _) (xSee_nil _))) rfl rfl ?_
                refine xRn.goto (tgt := 114) (off := 22) (by decide +kernel) (by decide) ?_
                exact xRn.iret (by decide +kernel) rfl rfl ⟨_, _, _, rfl, rfl, h⟩
            · have h := h.2 c5
              obtain ⟨o13, h⟩ := h
              refine xRn.blk (pc1 := 78) (ls1 := [.ref 24, .int v1, .int v2, .int v3, .int v4]) (st1 := [.int ((gA S 18) v3.toNatClampNeg)]) (hp1 := (hL S r)) (ob := [(24 : Nat) = 24, (34 : Nat) = 34, vp_in v3 40]) [(.aload_n 0, 1, 0, 0, 0, 0), (.getfield 45, 3, 31, 6, 0, 0), (.iload_n 3, 1, 3, 0, 0, 0), (.iaload, 1, 0, 0, 1, 0)] [(24, xc8 S), (34, xc18 S)] (by decide +kernel) rfl (xall_cons rfl (xall_cons rfl (xall_cons o13 xall_nil))) (xSee_cons rfl (xne_cons (by decide) (xne_nil _)) (xSee_cons rfl (xne_nil _) (xSee_nil _))) rfl rfl ?_
              refine xRn.goto (tgt := 114) (off := 36) (by decide +kernel) (by decide) ?_
              exact xRn.iret (by decide +kernel) rfl rfl ⟨_, _, _, rfl, rfl, h⟩
          · have h := h.2 c4
            refine xRn.blk (pc1 := 64) (ls1 := [.ref 24, .int v1, .int v2, .int v3, .int v4]) (st1 := [.int 2, .ref 24]) (hp1 := (hL S r)) (ob := []) [(.aload_n 0, 1, 0, 0, 0, 0), (.iconst 2, 1, 0, 0, 0, 2)] [] (by decide +kernel) rfl xall_nil (xSee_nil _) rfl rfl ?_
            refine xRn.callV (al := [.int 2]) (st := []) (nx := 67) (by decide +kernel) lk_V_M_order_143_M_fail_6_1 rfl rfl (c_M_fail (d := d + 0) S r 2 h) rfl (Nat.le_of_ble_eq_true rfl) rfl rfl ?_ ?_
            · rintro _ _ ⟨x14, S15, r16, e9, rfl, h⟩
              cases e9
              show xRn G l _ _ _ 67 [.ref 24, .int v1, .int v2, .int v3, .int v4] [.int x14] (hL S15 r16)
              exact xRn.iret (by decide +kernel) rfl rfl ⟨_, _, _, rfl, rfl, h⟩
            · rintro _ _ ⟨_, _, _, e9, _⟩
              cases e9
        · rintro _ _ ⟨_, e9, _⟩
          cases e9
      · have h := h.2 c2
        refine xRn.blk (pc1 := 49) (ls1 := [.ref 24, .int v1, .int v2, .int v3, .int v4]) (st1 := [.int 1, .ref 24]) (hp1 := (hL S r)) (ob := []) [(.aload_n 0, 1, 0, 0, 0, 0), (.iconst 1, 1, 0, 0, 0, 1)] [] (by decide +kernel) rfl xall_nil (xSee_nil _) rfl rfl ?_
        refine xRn.callV (al := [.int 1]) (st := []) (nx := 52) (by decide +kernel) lk_V_M_order_143_M_fail_6_1 rfl rfl (c_M_fail (d := d + 0) S r 1 h) rfl (Nat.le_of_ble_eq_true rfl) rfl rfl ?_ ?_
        · rintro _ _ ⟨x17, S18, r19, e9, rfl, h⟩
          cases e9
          show xRn G l _ _ _ 52 [.ref 24, .int v1, .int v2, .int v3, .int v4] [.int x17] (hL S18 r19)
          exact xRn.iret (by decide +kernel) rfl rfl ⟨_, _, _, rfl, rfl, h⟩
        · rintro _ _ ⟨_, _, _, e9, _⟩
          cases e9
    · have h := h.2 c1
      obtain ⟨o20, h⟩ := h
      refine xRn.blk (pc1 := 27) (ls1 := [.ref 24, .int v1, .int v2, .int v3, .int v4]) (st1 := [.int v1, .int ((gA S 17) v4.toNatClampNeg)]) (hp1 := (hL S r)) (ob := [(24 : Nat) = 24, (33 : Nat) = 33, vp_in v4 40]) [(.aload_n 0, 1, 0, 0, 0, 0), (.getfield 42, 3, 30, 6, 0, 0), (.iload 4, 2, 4, 0, 0, 0), (.iaload, 1, 0, 0, 1, 0), (.iload_n 1, 1, 1, 0, 0, 0)] [(24, xc8 S), (33, xc17 S)] (by decide +kernel) rfl (xall_cons rfl (xall_cons rfl (xall_cons o20 xall_nil))) (xSee_cons rfl (xne_cons (by decide) (xne_nil _)) (xSee_cons rfl (xne_nil _) (xSee_nil _))) rfl rfl ?_
      refine xRn.ic_ne (tgt := 35) (nx := 30) (off := 8) (by decide +kernel) (by decide) rfl (fun c21 => ?_) (fun c21 => ?_)
      · have h := h.1 c21
        refine xRn.blk (pc1 := 37) (ls1 := [.ref 24, .int v1, .int v2, .int v3, .int v4]) (st1 := []) (hp1 := (hL S r)) (ob := []) [(.iload_n 3, 1, 3, 0, 0, 0), (.istore_n 3, 1, 3, 0, 0, 0)] [] (by decide +kernel) rfl xall_nil (xSee_nil _) rfl rfl ?_
        refine xRn.forget (xle_eq (xle_eq (xle_eq (xle_eq (xle_eq xle_nil))))) ?_
        exact t_M_order_37  ih S r v1 v2 v3 v4 h
      · have h := h.2 c21
        refine xRn.blk (pc1 := 32) (ls1 := [.ref 24, .int v1, .int v2, .int v3, .int v4]) (st1 := [.int v4]) (hp1 := (hL S r)) (ob := []) [(.iload 4, 2, 4, 0, 0, 0)] [] (by decide +kernel) rfl xall_nil (xSee_nil _) rfl rfl ?_
        refine xRn.goto (tgt := 36) (off := 4) (by decide +kernel) (by decide) ?_
        refine xRn.blk (pc1 := 37) (ls1 := [.ref 24, .int v1, .int v2, .int v4, .int v4]) (st1 := []) (hp1 := (hL S r)) (ob := []) [(.istore_n 3, 1, 3, 0, 0, 0)] [] (by decide +kernel) rfl xall_nil (xSee_nil _) rfl rfl ?_
        refine xRn.forget (xle_eq (xle_eq (xle_eq (xle_eq (xle_eq xle_nil))))) ?_
        exact t_M_order_37  ih S r v1 v2 v4 v4 h
def w_M_order  (S : XS) (r : List AE) (p1 : Int32) (p2 : Int32) (K : Int32 → XS → List AE → Prop) : Prop :=
  (∃ j, w_M_order_10 K j (sF S 800 0) r p1 p2 (-1) 0)
set_option maxRecDepth 100000 in
theorem c_M_order {G : XG} {l : Launch} {d : Nat} (S : XS) (r : List AE) (p1 : Int32) (p2 : Int32) {K : Int32 → XS → List AE → Prop} (h : w_M_order  S r p1 p2 K) : xCt G l (d + 1) xm_M_order [.ref 24, .int p1, .int p2] (hL S r) (pI K) := by
  refine xCt.intro (by decide) (by decide) (List.forall_mem_cons.mpr ⟨rfl, (List.forall_mem_cons.mpr ⟨rfl, (List.forall_mem_cons.mpr ⟨rfl, (fun _ h => by cases h)⟩)⟩)⟩) (Nat.le_of_ble_eq_true rfl) rfl ?_
  show xRn G l _ xm_M_order _ 0 [.ref 24, .int p1, .int p2, .null, .null] [] (hL S r)
  refine xRn.blk (pc1 := 10) (ls1 := [.ref 24, .int p1, .int p2, .int (-1), .int 0]) (st1 := []) (hp1 := (hL (sF S 800 0) r)) (ob := [(24 : Nat) = 24]) [(.aload_n 0, 1, 0, 0, 0, 0), (.iconst 0, 1, 0, 0, 0, 0), (.putfield 60, 3, 0, 6, 0, 0), (.iconst (-1), 1, 0, 0, 0, (-1)), (.istore_n 3, 1, 3, 0, 0, 0), (.iconst 0, 1, 0, 0, 0, 0), (.istore 4, 2, 4, 0, 0, 0)] [(24, xc8 S)] (by decide +kernel) rfl (xall_cons rfl xall_nil) (xSee_cons rfl (xne_nil _) (xSee_nil _)) rfl rfl ?_
  refine xRn.forget (xle_eq (xle_eq (xle_eq (xle_eq (xle_eq xle_nil))))) ?_
  obtain ⟨n22, h⟩ := h
  exact t_M_order_10   n22 (sF S 800 0) r p1 p2 (-1) 0 h
