theorem lk_S_M_body_83_M_places_1 : xlkS xm_M_body 83 xm_M_places 1 := by unfold xlkS; decide +kernel
theorem lk_S_M_body_87_M_name_2 : xlkS xm_M_body 87 xm_M_name 2 := by unfold xlkS; decide +kernel
theorem lk_S_M_body_91_M_room_2 : xlkS xm_M_body 91 xm_M_room 2 := by unfold xlkS; decide +kernel
theorem lk_S_M_make_91_M_room_2 : xlkS xm_M_make 91 xm_M_room 2 := by unfold xlkS; decide +kernel
theorem lk_V_M_answer_121_M_goes_6_7 : xlkV xm_M_answer 121 xm_M_goes 6 7 := by unfold xlkV; decide +kernel
theorem lk_V_M_ask_124_M_send_6_5 : xlkV xm_M_ask 124 xm_M_send 6 5 := by unfold xlkV; decide +kernel
theorem lk_V_M_body_94_M_letter_6_2 : xlkV xm_M_body 94 xm_M_letter 6 2 := by unfold xlkV; decide +kernel
theorem lk_V_M_body_98_M_field_6_2 : xlkV xm_M_body 98 xm_M_field 6 2 := by unfold xlkV; decide +kernel
theorem lk_V_M_digits_76_M_put_6_1 : xlkV xm_M_digits 76 xm_M_put 6 1 := by unfold xlkV; decide +kernel
theorem lk_V_M_field_76_M_put_6_1 : xlkV xm_M_field 76 xm_M_put 6 1 := by unfold xlkV; decide +kernel
theorem lk_V_M_field_80_M_digits_6_1 : xlkV xm_M_field 80 xm_M_digits 6 1 := by unfold xlkV; decide +kernel
theorem lk_V_M_goes_108_M_make_6_7 : xlkV xm_M_goes 108 xm_M_make 6 7 := by unfold xlkV; decide +kernel
theorem lk_V_M_leave_124_M_send_6_5 : xlkV xm_M_leave 124 xm_M_send 6 5 := by unfold xlkV; decide +kernel
theorem lk_V_M_letter_76_M_put_6_1 : xlkV xm_M_letter 76 xm_M_put 6 1 := by unfold xlkV; decide +kernel
theorem lk_V_M_letter_80_M_digits_6_1 : xlkV xm_M_letter 80 xm_M_digits 6 1 := by unfold xlkV; decide +kernel
theorem lk_V_M_make_101_M_body_6_6 : xlkV xm_M_make 101 xm_M_body 6 6 := by unfold xlkV; decide +kernel
theorem lk_V_M_make_105_M_byteAt_6_1 : xlkV xm_M_make 105 xm_M_byteAt 6 1 := by unfold xlkV; decide +kernel
theorem lk_V_M_make_76_M_put_6_1 : xlkV xm_M_make 76 xm_M_put 6 1 := by unfold xlkV; decide +kernel
theorem lk_V_M_make_80_M_digits_6_1 : xlkV xm_M_make 80 xm_M_digits 6 1 := by unfold xlkV; decide +kernel
theorem lk_V_M_make_94_M_letter_6_2 : xlkV xm_M_make 94 xm_M_letter 6 2 := by unfold xlkV; decide +kernel
theorem lk_V_M_make_98_M_field_6_2 : xlkV xm_M_make 98 xm_M_field 6 2 := by unfold xlkV; decide +kernel
theorem lk_V_M_send_121_M_goes_6_7 : xlkV xm_M_send 121 xm_M_goes 6 7 := by unfold xlkV; decide +kernel
/-! M_thrown -/
def w_M_thrown  (S : XS) (r : List AE) (K : Int32 → XS → List AE → Prop) : Prop :=
  (K (gF S 800) S r)
set_option maxRecDepth 100000 in
theorem c_M_thrown {G : XG} {l : Launch} {d : Nat} (S : XS) (r : List AE) {K : Int32 → XS → List AE → Prop} (h : w_M_thrown  S r K) : xCt G l (d + 0) xm_M_thrown [.ref 24] (hL S r) (pI K) := by
  refine xCt.intro (by decide) (by decide) (List.forall_mem_cons.mpr ⟨rfl, (fun _ h => by cases h)⟩) (Nat.le_of_ble_eq_true rfl) rfl ?_
  show xRn G l _ xm_M_thrown _ 0 [.ref 24] [] (hL S r)
  refine xRn.blk (pc1 := 4) (ls1 := [.ref 24]) (st1 := [.int (gF S 800)]) (hp1 := (hL S r)) (ob := [(24 : Nat) = 24]) [(.aload_n 0, 1, 0, 0, 0, 0), (.getfield 60, 3, 0, 6, 0, 0)] [(24, xc8 S)] (by decide +kernel) rfl (xall_cons rfl xall_nil) (xSee_cons rfl (xne_nil _) (xSee_nil _)) rfl rfl ?_
  exact xRn.iret (by decide +kernel) rfl rfl ⟨_, _, _, rfl, rfl, h⟩
/-! M_fail -/
def w_M_fail  (S : XS) (r : List AE) (p1 : Int32) (K : Int32 → XS → List AE → Prop) : Prop :=
  (K 0 (sF S 800 p1) r)
set_option maxRecDepth 100000 in
theorem c_M_fail {G : XG} {l : Launch} {d : Nat} (S : XS) (r : List AE) (p1 : Int32) {K : Int32 → XS → List AE → Prop} (h : w_M_fail  S r p1 K) : xCt G l (d + 0) xm_M_fail [.ref 24, .int p1] (hL S r) (pI K) := by
  refine xCt.intro (by decide) (by decide) (List.forall_mem_cons.mpr ⟨rfl, (List.forall_mem_cons.mpr ⟨rfl, (fun _ h => by cases h)⟩)⟩) (Nat.le_of_ble_eq_true rfl) rfl ?_
  show xRn G l _ xm_M_fail _ 0 [.ref 24, .int p1] [] (hL S r)
  refine xRn.blk (pc1 := 6) (ls1 := [.ref 24, .int p1]) (st1 := [.int 0]) (hp1 := (hL (sF S 800 p1) r)) (ob := [(24 : Nat) = 24]) [(.aload_n 0, 1, 0, 0, 0, 0), (.iload_n 1, 1, 1, 0, 0, 0), (.putfield 60, 3, 0, 6, 0, 0), (.iconst 0, 1, 0, 0, 0, 0)] [(24, xc8 S)] (by decide +kernel) rfl (xall_cons rfl xall_nil) (xSee_cons rfl (xne_nil _) (xSee_nil _)) rfl rfl ?_
  exact xRn.iret (by decide +kernel) rfl rfl ⟨_, _, _, rfl, rfl, h⟩
/-! M_put -/
def w_M_put_57   (K : XS → List AE → Prop) (S : XS) (r : List AE) : Prop :=
  (K (sF S 818 ((gF S 818) + 1)) r)
set_option maxRecDepth 100000 in
theorem t_M_put_57 {G : XG} {l : Launch} {d : Nat} {K : XS → List AE → Prop} (S : XS) (r : List AE) (h : w_M_put_57 K S r) : xRn G l (d + 0) xm_M_put (pV K) 57 [.ref 24, .null] [] (hL S r) := by
  refine xRn.blk (pc1 := 67) (ls1 := [.ref 24, .null]) (st1 := []) (hp1 := (hL (sF S 818 ((gF S 818) + 1)) r)) (ob := [(24 : Nat) = 24, (24 : Nat) = 24]) [(.aload_n 0, 1, 0, 0, 0, 0), (.dup, 1, 0, 0, 0, 0), (.getfield 73, 3, 18, 6, 0, 0), (.iconst 1, 1, 0, 0, 0, 1), (.iadd, 1, 0, 0, 0, 0), (.putfield 73, 3, 18, 6, 0, 0)] [(24, xc8 S)] (by decide +kernel) rfl (xall_cons rfl (xall_cons rfl xall_nil)) (xSee_cons rfl (xne_nil _) (xSee_nil _)) rfl rfl ?_
  exact xRn.vret (by decide +kernel) rfl ⟨_, _, rfl, rfl, h⟩
def w_M_put  (S : XS) (r : List AE) (p1 : Int32) (K : XS → List AE → Prop) : Prop :=
  (((gF S 838) = 0 → (((20 : Int32) ≤ (gF S 815) → (w_M_put_57 K S r)) ∧ (¬ (20 : Int32) ≤ (gF S 815) → (vp_in ((120 * (gF S 815)) + (gF S 818)) 2400) ∧ (w_M_put_57 K (sA S 13 (upd (gA S 13) ((120 * (gF S 815)) + (gF S 818)).toNatClampNeg p1)) r)))) ∧ (¬ (gF S 838) = 0 → (vp_in (gF S 802) 120) ∧ (K (sF (sA S 9 (upd (gA S 9) (gF S 802).toNatClampNeg p1)) 802 ((gF S 802) + 1)) r)))
set_option maxRecDepth 100000 in
theorem c_M_put {G : XG} {l : Launch} {d : Nat} (S : XS) (r : List AE) (p1 : Int32) {K : XS → List AE → Prop} (h : w_M_put  S r p1 K) : xCt G l (d + 0) xm_M_put [.ref 24, .int p1] (hL S r) (pV K) := by
  refine xCt.intro (by decide) (by decide) (List.forall_mem_cons.mpr ⟨rfl, (List.forall_mem_cons.mpr ⟨rfl, (fun _ h => by cases h)⟩)⟩) (Nat.le_of_ble_eq_true rfl) rfl ?_
  show xRn G l _ xm_M_put _ 0 [.ref 24, .int p1] [] (hL S r)
  refine xRn.blk (pc1 := 4) (ls1 := [.ref 24, .int p1]) (st1 := [.int (gF S 838)]) (hp1 := (hL S r)) (ob := [(24 : Nat) = 24]) [(.aload_n 0, 1, 0, 0, 0, 0), (.getfield 63, 3, 38, 6, 0, 0)] [(24, xc8 S)] (by decide +kernel) rfl (xall_cons rfl xall_nil) (xSee_cons rfl (xne_nil _) (xSee_nil _)) rfl rfl ?_
  refine xRn.if_eq (tgt := 30) (nx := 7) (off := 26) (by decide +kernel) (by decide) rfl (fun c1 => ?_) (fun c1 => ?_)
  · have h := h.1 c1
    refine xRn.blk (pc1 := 36) (ls1 := [.ref 24, .int p1]) (st1 := [.int 20, .int (gF S 815)]) (hp1 := (hL S r)) (ob := [(24 : Nat) = 24]) [(.aload_n 0, 1, 0, 0, 0, 0), (.getfield 70, 3, 15, 6, 0, 0), (.bipush 20, 2, 0, 0, 0, 20)] [(24, xc8 S)] (by decide +kernel) rfl (xall_cons rfl xall_nil) (xSee_cons rfl (xne_nil _) (xSee_nil _)) rfl rfl ?_
    refine xRn.ic_ge (tgt := 57) (nx := 39) (off := 21) (by decide +kernel) (by decide) rfl (fun c2 => ?_) (fun c2 => ?_)
    · have h := h.1 c2
      refine xRn.forget (xle_eq (xle_no xle_nil)) ?_
      exact t_M_put_57   S r h
    · have h := h.2 c2
      obtain ⟨o3, h⟩ := h
      refine xRn.blk (pc1 := 57) (ls1 := [.ref 24, .int p1]) (st1 := []) (hp1 := (hL (sA S 13 (upd (gA S 13) ((120 * (gF S 815)) + (gF S 818)).toNatClampNeg p1)) r)) (ob := [(24 : Nat) = 24, (24 : Nat) = 24, (24 : Nat) = 24, (29 : Nat) = 29, vp_in ((120 * (gF S 815)) + (gF S 818)) 2400]) [(.aload_n 0, 1, 0, 0, 0, 0), (.getfield 22, 3, 16, 6, 0, 0), (.bipush 120, 2, 0, 0, 0, 120), (.aload_n 0, 1, 0, 0, 0, 0), (.getfield 70, 3, 15, 6, 0, 0), (.imul, 1, 0, 0, 0, 0), (.aload_n 0, 1, 0, 0, 0, 0), (.getfield 73, 3, 18, 6, 0, 0), (.iadd, 1, 0, 0, 0, 0), (.iload_n 1, 1, 1, 0, 0, 0), (.iastore, 1, 0, 0, 1, 0)] [(24, xc8 S), (29, xc13 S)] (by decide +kernel) rfl (xall_cons rfl (xall_cons rfl (xall_cons rfl (xall_cons rfl (xall_cons o3 xall_nil))))) (xSee_cons rfl (xne_cons (by decide) (xne_nil _)) (xSee_cons rfl (xne_nil _) (xSee_nil _))) rfl rfl ?_
      refine xRn.forget (xle_eq (xle_no xle_nil)) ?_
      exact t_M_put_57   (sA S 13 (upd (gA S 13) ((120 * (gF S 815)) + (gF S 818)).toNatClampNeg p1)) r h
  · have h := h.2 c1
    obtain ⟨o4, h⟩ := h
    refine xRn.blk (pc1 := 27) (ls1 := [.ref 24, .int p1]) (st1 := []) (hp1 := (hL (sF (sA S 9 (upd (gA S 9) (gF S 802).toNatClampNeg p1)) 802 ((gF S 802) + 1)) r)) (ob := [(24 : Nat) = 24, (24 : Nat) = 24, (25 : Nat) = 25, vp_in (gF S 802) 120, (24 : Nat) = 24, (24 : Nat) = 24]) [(.aload_n 0, 1, 0, 0, 0, 0), (.getfield 7, 3, 3, 6, 0, 0), (.aload_n 0, 1, 0, 0, 0, 0), (.getfield 67, 3, 2, 6, 0, 0), (.iload_n 1, 1, 1, 0, 0, 0), (.iastore, 1, 0, 0, 1, 0), (.aload_n 0, 1, 0, 0, 0, 0), (.dup, 1, 0, 0, 0, 0), (.getfield 67, 3, 2, 6, 0, 0), (.iconst 1, 1, 0, 0, 0, 1), (.iadd, 1, 0, 0, 0, 0), (.putfield 67, 3, 2, 6, 0, 0)] [(24, xc8 S), (25, xc9 S)] (by decide +kernel) rfl (xall_cons rfl (xall_cons rfl (xall_cons rfl (xall_cons o4 (xall_cons rfl (xall_cons rfl xall_nil)))))) (xSee_cons rfl (xne_cons (by decide) (xne_nil _)) (xSee_cons rfl (xne_nil _) (xSee_nil _))) rfl rfl ?_
    refine xRn.goto (tgt := 67) (off := 40) (by decide +kernel) (by decide) ?_
    exact xRn.vret (by decide +kernel) rfl ⟨_, _, rfl, rfl, h⟩
/-! M_digits -/
def w_M_digits_20   (K : XS → List AE → Prop) : Nat → XS → List AE → Int32 → Int32 → Prop
  | 0, _, _, _, _ => False
  | n + 1, S, r, v1, v3 => ((v3 ≤ 0 → (K S r)) ∧ (¬ v3 ≤ 0 → (¬ v3 = 0) ∧ (w_M_put S r (48 + ((v1 / v3) - (v1 / v3) / 10 * 10)) (fun S4 r5 => (w_M_digits_20 K n S4 r5 v1 (v3 / 10))))))
set_option maxRecDepth 100000 in
theorem t_M_digits_20 {G : XG} {l : Launch} {d : Nat} {K : XS → List AE → Prop} : ∀ (n : Nat) (S : XS) (r : List AE) (v1 : Int32) (v3 : Int32), w_M_digits_20 K n S r v1 v3 → xRn G l (d + 1) xm_M_digits (pV K) 20 [.ref 24, .int v1, .null, .int v3] [] (hL S r) := by
  intro n
  induction n with
  | zero => intro S r v1 v3 h; exact h.elim
  | succ n ih =>
    intro S r v1 v3 h
    refine xRn.blk (pc1 := 21) (ls1 := [.ref 24, .int v1, .null, .int v3]) (st1 := [.int v3]) (hp1 := (hL S r)) (ob := []) [(.iload_n 3, 1, 3, 0, 0, 0)] [] (by decide +kernel) rfl xall_nil (xSee_nil _) rfl rfl ?_
    refine xRn.if_le (tgt := 45) (nx := 24) (off := 24) (by decide +kernel) (by decide) rfl (fun c1 => ?_) (fun c1 => ?_)
    · have h := h.1 c1
      exact xRn.vret (by decide +kernel) rfl ⟨_, _, rfl, rfl, h⟩
    · have h := h.2 c1
      obtain ⟨o2, h⟩ := h
      refine xRn.blk (pc1 := 34) (ls1 := [.ref 24, .int v1, .null, .int v3]) (st1 := [.int (48 + ((v1 / v3) - (v1 / v3) / 10 * 10)), .ref 24]) (hp1 := (hL S r)) (ob := [¬ v3 = 0, ¬ (10 : Int32) = 0]) [(.aload_n 0, 1, 0, 0, 0, 0), (.bipush 48, 2, 0, 0, 0, 48), (.iload_n 1, 1, 1, 0, 0, 0), (.iload_n 3, 1, 3, 0, 0, 0), (.idiv, 1, 0, 0, 0, 0), (.bipush 10, 2, 0, 0, 0, 10), (.irem, 1, 0, 0, 0, 0), (.iadd, 1, 0, 0, 0, 0)] [] (by decide +kernel) rfl (xall_cons o2 (xall_cons (by decide) xall_nil)) (xSee_nil _) rfl rfl ?_
      refine xRn.callV (al := [.int (48 + ((v1 / v3) - (v1 / v3) / 10 * 10))]) (st := []) (nx := 37) (by decide +kernel) lk_V_M_digits_76_M_put_6_1 rfl rfl (c_M_put (d := d + 0) S r (48 + ((v1 / v3) - (v1 / v3) / 10 * 10)) h) rfl (Nat.le_of_ble_eq_true rfl) rfl rfl ?_ ?_
      · rintro _ _ ⟨S4, r5, e9, rfl, h⟩
        cases e9
        show xRn G l _ _ _ 37 [.ref 24, .int v1, .null, .int v3] [] (hL S4 r5)
        refine xRn.blk (pc1 := 42) (ls1 := [.ref 24, .int v1, .null, .int (v3 / 10)]) (st1 := []) (hp1 := (hL S4 r5)) (ob := [¬ (10 : Int32) = 0]) [(.iload_n 3, 1, 3, 0, 0, 0), (.bipush 10, 2, 0, 0, 0, 10), (.idiv, 1, 0, 0, 0, 0), (.istore_n 3, 1, 3, 0, 0, 0)] [] (by decide +kernel) rfl (xall_cons (by decide) xall_nil) (xSee_nil _) rfl rfl ?_
        refine xRn.goto (tgt := 20) (off := (-22)) (by decide +kernel) (by decide) ?_
        refine xRn.forget (xle_eq (xle_eq (xle_eq (xle_eq xle_nil)))) ?_
        exact ih S4 r5 v1 (v3 / 10) h
      · rintro _ _ ⟨_, _, e9, _⟩
        cases e9
def w_M_digits_2   (K : XS → List AE → Prop) : Nat → XS → List AE → Int32 → Int32 → Prop
  | 0, _, _, _, _ => False
  | n + 1, S, r, v1, v2 => (¬ v2 = 0) ∧ (((v1 / v2) ≤ (9 : Int32) → (∃ j, w_M_digits_20 K j S r v1 v2)) ∧ (¬ (v1 / v2) ≤ (9 : Int32) → (w_M_digits_2 K n S r v1 (v2 * 10))))
set_option maxRecDepth 100000 in
theorem t_M_digits_2 {G : XG} {l : Launch} {d : Nat} {K : XS → List AE → Prop} : ∀ (n : Nat) (S : XS) (r : List AE) (v1 : Int32) (v2 : Int32), w_M_digits_2 K n S r v1 v2 → xRn G l (d + 1) xm_M_digits (pV K) 2 [.ref 24, .int v1, .int v2, .null] [] (hL S r) := by
  intro n
  induction n with
  | zero => intro S r v1 v2 h; exact h.elim
  | succ n ih =>
    intro S r v1 v2 h
    obtain ⟨o6, h⟩ := h
    refine xRn.blk (pc1 := 7) (ls1 := [.ref 24, .int v1, .int v2, .null]) (st1 := [.int 9, .int (v1 / v2)]) (hp1 := (hL S r)) (ob := [¬ v2 = 0]) [(.iload_n 1, 1, 1, 0, 0, 0), (.iload_n 2, 1, 2, 0, 0, 0), (.idiv, 1, 0, 0, 0, 0), (.bipush 9, 2, 0, 0, 0, 9)] [] (by decide +kernel) rfl (xall_cons o6 xall_nil) (xSee_nil _) rfl rfl ?_
    refine xRn.ic_le (tgt := 18) (nx := 10) (off := 11) (by decide +kernel) (by decide) rfl (fun c7 => ?_) (fun c7 => ?_)
    · have h := h.1 c7
      refine xRn.blk (pc1 := 20) (ls1 := [.ref 24, .int v1, .int v2, .int v2]) (st1 := []) (hp1 := (hL S r)) (ob := []) [(.iload_n 2, 1, 2, 0, 0, 0), (.istore_n 3, 1, 3, 0, 0, 0)] [] (by decide +kernel) rfl xall_nil (xSee_nil _) rfl rfl ?_
      refine xRn.forget (xle_eq (xle_eq (xle_no (xle_eq xle_nil)))) ?_
      obtain ⟨n8, h⟩ := h
      exact t_M_digits_20   n8 S r v1 v2 h
    · have h := h.2 c7
      refine xRn.blk (pc1 := 15) (ls1 := [.ref 24, .int v1, .int (v2 * 10), .null]) (st1 := []) (hp1 := (hL S r)) (ob := []) [(.iload_n 2, 1, 2, 0, 0, 0), (.bipush 10, 2, 0, 0, 0, 10), (.imul, 1, 0, 0, 0, 0), (.istore_n 2, 1, 2, 0, 0, 0)] [] (by decide +kernel) rfl xall_nil (xSee_nil _) rfl rfl ?_
      refine xRn.goto (tgt := 2) (off := (-13)) (by decide +kernel) (by decide) ?_
      refine xRn.forget (xle_eq (xle_eq (xle_eq (xle_eq xle_nil)))) ?_
      exact ih S r v1 (v2 * 10) h
def w_M_digits  (S : XS) (r : List AE) (p1 : Int32) (K : XS → List AE → Prop) : Prop :=
  (∃ j, w_M_digits_2 K j S r p1 1)
set_option maxRecDepth 100000 in
theorem c_M_digits {G : XG} {l : Launch} {d : Nat} (S : XS) (r : List AE) (p1 : Int32) {K : XS → List AE → Prop} (h : w_M_digits  S r p1 K) : xCt G l (d + 1) xm_M_digits [.ref 24, .int p1] (hL S r) (pV K) := by
  refine xCt.intro (by decide) (by decide) (List.forall_mem_cons.mpr ⟨rfl, (List.forall_mem_cons.mpr ⟨rfl, (fun _ h => by cases h)⟩)⟩) (Nat.le_of_ble_eq_true rfl) rfl ?_
  show xRn G l _ xm_M_digits _ 0 [.ref 24, .int p1, .null, .null] [] (hL S r)
  refine xRn.blk (pc1 := 2) (ls1 := [.ref 24, .int p1, .int 1, .null]) (st1 := []) (hp1 := (hL S r)) (ob := []) [(.iconst 1, 1, 0, 0, 0, 1), (.istore_n 2, 1, 2, 0, 0, 0)] [] (by decide +kernel) rfl xall_nil (xSee_nil _) rfl rfl ?_
  refine xRn.forget (xle_eq (xle_eq (xle_eq (xle_eq xle_nil)))) ?_
  obtain ⟨n9, h⟩ := h
  exact t_M_digits_2   n9 S r p1 1 h
/-! M_field -/
def w_M_field  (S : XS) (r : List AE) (p1 : Int32) (p2 : Int32) (K : XS → List AE → Prop) : Prop :=
  (w_M_digits S r p1 (fun S2 r3 => (w_M_put S2 r3 61 (fun S5 r6 => (w_M_digits S5 r6 p2 (fun S8 r9 => (w_M_put S8 r9 1 (fun S11 r12 => (K S11 r12)))))))))
set_option maxRecDepth 100000 in
theorem c_M_field {G : XG} {l : Launch} {d : Nat} (S : XS) (r : List AE) (p1 : Int32) (p2 : Int32) {K : XS → List AE → Prop} (h : w_M_field  S r p1 p2 K) : xCt G l (d + 2) xm_M_field [.ref 24, .int p1, .int p2] (hL S r) (pV K) := by
  refine xCt.intro (by decide) (by decide) (List.forall_mem_cons.mpr ⟨rfl, (List.forall_mem_cons.mpr ⟨rfl, (List.forall_mem_cons.mpr ⟨rfl, (fun _ h => by cases h)⟩)⟩)⟩) (Nat.le_of_ble_eq_true rfl) rfl ?_
  show xRn G l _ xm_M_field _ 0 [.ref 24, .int p1, .int p2] [] (hL S r)
  refine xRn.blk (pc1 := 2) (ls1 := [.ref 24, .int p1, .int p2]) (st1 := [.int p1, .ref 24]) (hp1 := (hL S r)) (ob := []) [(.aload_n 0, 1, 0, 0, 0, 0), (.iload_n 1, 1, 1, 0, 0, 0)] [] (by decide +kernel) rfl xall_nil (xSee_nil _) rfl rfl ?_
  refine xRn.callV (al := [.int p1]) (st := []) (nx := 5) (by decide +kernel) lk_V_M_field_80_M_digits_6_1 rfl rfl (c_M_digits (d := d + 0) S r p1 h) rfl (Nat.le_of_ble_eq_true rfl) rfl rfl ?_ ?_
  · rintro _ _ ⟨S2, r3, e9, rfl, h⟩
    cases e9
    show xRn G l _ _ _ 5 [.ref 24, .int p1, .int p2] [] (hL S2 r3)
    refine xRn.blk (pc1 := 8) (ls1 := [.ref 24, .int p1, .int p2]) (st1 := [.int 61, .ref 24]) (hp1 := (hL S2 r3)) (ob := []) [(.aload_n 0, 1, 0, 0, 0, 0), (.bipush 61, 2, 0, 0, 0, 61)] [] (by decide +kernel) rfl xall_nil (xSee_nil _) rfl rfl ?_
    refine xRn.callV (al := [.int 61]) (st := []) (nx := 11) (by decide +kernel) lk_V_M_field_76_M_put_6_1 rfl rfl (c_M_put (d := d + 1) S2 r3 61 h) rfl (Nat.le_of_ble_eq_true rfl) rfl rfl ?_ ?_
    · rintro _ _ ⟨S5, r6, e9, rfl, h⟩
      cases e9
      show xRn G l _ _ _ 11 [.ref 24, .int p1, .int p2] [] (hL S5 r6)
      refine xRn.blk (pc1 := 13) (ls1 := [.ref 24, .int p1, .int p2]) (st1 := [.int p2, .ref 24]) (hp1 := (hL S5 r6)) (ob := []) [(.aload_n 0, 1, 0, 0, 0, 0), (.iload_n 2, 1, 2, 0, 0, 0)] [] (by decide +kernel) rfl xall_nil (xSee_nil _) rfl rfl ?_
      refine xRn.callV (al := [.int p2]) (st := []) (nx := 16) (by decide +kernel) lk_V_M_field_80_M_digits_6_1 rfl rfl (c_M_digits (d := d + 0) S5 r6 p2 h) rfl (Nat.le_of_ble_eq_true rfl) rfl rfl ?_ ?_
      · rintro _ _ ⟨S8, r9, e9, rfl, h⟩
        cases e9
        show xRn G l _ _ _ 16 [.ref 24, .int p1, .int p2] [] (hL S8 r9)
        refine xRn.blk (pc1 := 18) (ls1 := [.ref 24, .int p1, .int p2]) (st1 := [.int 1, .ref 24]) (hp1 := (hL S8 r9)) (ob := []) [(.aload_n 0, 1, 0, 0, 0, 0), (.iconst 1, 1, 0, 0, 0, 1)] [] (by decide +kernel) rfl xall_nil (xSee_nil _) rfl rfl ?_
        refine xRn.callV (al := [.int 1]) (st := []) (nx := 21) (by decide +kernel) lk_V_M_field_76_M_put_6_1 rfl rfl (c_M_put (d := d + 1) S8 r9 1 h) rfl (Nat.le_of_ble_eq_true rfl) rfl rfl ?_ ?_
        · rintro _ _ ⟨S11, r12, e9, rfl, h⟩
          cases e9
          show xRn G l _ _ _ 21 [.ref 24, .int p1, .int p2] [] (hL S11 r12)
          exact xRn.vret (by decide +kernel) rfl ⟨_, _, rfl, rfl, h⟩
        · rintro _ _ ⟨_, _, e9, _⟩
          cases e9
      · rintro _ _ ⟨_, _, e9, _⟩
        cases e9
    · rintro _ _ ⟨_, _, e9, _⟩
      cases e9
  · rintro _ _ ⟨_, _, e9, _⟩
    cases e9
/-! M_letter -/
def w_M_letter  (S : XS) (r : List AE) (p1 : Int32) (p2 : Int32) (K : XS → List AE → Prop) : Prop :=
  (w_M_digits S r p1 (fun S2 r3 => (w_M_put S2 r3 61 (fun S5 r6 => (w_M_put S5 r6 p2 (fun S8 r9 => (w_M_put S8 r9 1 (fun S11 r12 => (K S11 r12)))))))))
set_option maxRecDepth 100000 in
theorem c_M_letter {G : XG} {l : Launch} {d : Nat} (S : XS) (r : List AE) (p1 : Int32) (p2 : Int32) {K : XS → List AE → Prop} (h : w_M_letter  S r p1 p2 K) : xCt G l (d + 2) xm_M_letter [.ref 24, .int p1, .int p2] (hL S r) (pV K) := by
  refine xCt.intro (by decide) (by decide) (List.forall_mem_cons.mpr ⟨rfl, (List.forall_mem_cons.mpr ⟨rfl, (List.forall_mem_cons.mpr ⟨rfl, (fun _ h => by cases h)⟩)⟩)⟩) (Nat.le_of_ble_eq_true rfl) rfl ?_
  show xRn G l _ xm_M_letter _ 0 [.ref 24, .int p1, .int p2] [] (hL S r)
  refine xRn.blk (pc1 := 2) (ls1 := [.ref 24, .int p1, .int p2]) (st1 := [.int p1, .ref 24]) (hp1 := (hL S r)) (ob := []) [(.aload_n 0, 1, 0, 0, 0, 0), (.iload_n 1, 1, 1, 0, 0, 0)] [] (by decide +kernel) rfl xall_nil (xSee_nil _) rfl rfl ?_
  refine xRn.callV (al := [.int p1]) (st := []) (nx := 5) (by decide +kernel) lk_V_M_letter_80_M_digits_6_1 rfl rfl (c_M_digits (d := d + 0) S r p1 h) rfl (Nat.le_of_ble_eq_true rfl) rfl rfl ?_ ?_
  · rintro _ _ ⟨S2, r3, e9, rfl, h⟩
    cases e9
    show xRn G l _ _ _ 5 [.ref 24, .int p1, .int p2] [] (hL S2 r3)
    refine xRn.blk (pc1 := 8) (ls1 := [.ref 24, .int p1, .int p2]) (st1 := [.int 61, .ref 24]) (hp1 := (hL S2 r3)) (ob := []) [(.aload_n 0, 1, 0, 0, 0, 0), (.bipush 61, 2, 0, 0, 0, 61)] [] (by decide +kernel) rfl xall_nil (xSee_nil _) rfl rfl ?_
    refine xRn.callV (al := [.int 61]) (st := []) (nx := 11) (by decide +kernel) lk_V_M_letter_76_M_put_6_1 rfl rfl (c_M_put (d := d + 1) S2 r3 61 h) rfl (Nat.le_of_ble_eq_true rfl) rfl rfl ?_ ?_
    · rintro _ _ ⟨S5, r6, e9, rfl, h⟩
      cases e9
      show xRn G l _ _ _ 11 [.ref 24, .int p1, .int p2] [] (hL S5 r6)
      refine xRn.blk (pc1 := 13) (ls1 := [.ref 24, .int p1, .int p2]) (st1 := [.int p2, .ref 24]) (hp1 := (hL S5 r6)) (ob := []) [(.aload_n 0, 1, 0, 0, 0, 0), (.iload_n 2, 1, 2, 0, 0, 0)] [] (by decide +kernel) rfl xall_nil (xSee_nil _) rfl rfl ?_
      refine xRn.callV (al := [.int p2]) (st := []) (nx := 16) (by decide +kernel) lk_V_M_letter_76_M_put_6_1 rfl rfl (c_M_put (d := d + 1) S5 r6 p2 h) rfl (Nat.le_of_ble_eq_true rfl) rfl rfl ?_ ?_
      · rintro _ _ ⟨S8, r9, e9, rfl, h⟩
        cases e9
        show xRn G l _ _ _ 16 [.ref 24, .int p1, .int p2] [] (hL S8 r9)
        refine xRn.blk (pc1 := 18) (ls1 := [.ref 24, .int p1, .int p2]) (st1 := [.int 1, .ref 24]) (hp1 := (hL S8 r9)) (ob := []) [(.aload_n 0, 1, 0, 0, 0, 0), (.iconst 1, 1, 0, 0, 0, 1)] [] (by decide +kernel) rfl xall_nil (xSee_nil _) rfl rfl ?_
        refine xRn.callV (al := [.int 1]) (st := []) (nx := 21) (by decide +kernel) lk_V_M_letter_76_M_put_6_1 rfl rfl (c_M_put (d := d + 1) S8 r9 1 h) rfl (Nat.le_of_ble_eq_true rfl) rfl rfl ?_ ?_
        · rintro _ _ ⟨S11, r12, e9, rfl, h⟩
          cases e9
          show xRn G l _ _ _ 21 [.ref 24, .int p1, .int p2] [] (hL S11 r12)
          exact xRn.vret (by decide +kernel) rfl ⟨_, _, rfl, rfl, h⟩
        · rintro _ _ ⟨_, _, e9, _⟩
          cases e9
      · rintro _ _ ⟨_, _, e9, _⟩
        cases e9
    · rintro _ _ ⟨_, _, e9, _⟩
      cases e9
  · rintro _ _ ⟨_, _, e9, _⟩
    cases e9
/-! M_byteAt -/
def w_M_byteAt  (S : XS) (r : List AE) (p1 : Int32) (K : Int32 → XS → List AE → Prop) : Prop :=
  (((gF S 838) = 0 → (((20 : Int32) ≤ (gF S 815) → (K 0 S r)) ∧ (¬ (20 : Int32) ≤ (gF S 815) → (vp_in ((120 * (gF S 815)) + p1) 2400) ∧ (K ((gA S 13) ((120 * (gF S 815)) + p1).toNatClampNeg) S r)))) ∧ (¬ (gF S 838) = 0 → (vp_in p1 120) ∧ (K ((gA S 9) p1.toNatClampNeg) S r)))
set_option maxRecDepth 100000 in
theorem c_M_byteAt {G : XG} {l : Launch} {d : Nat} (S : XS) (r : List AE) (p1 : Int32) {K : Int32 → XS → List AE → Prop} (h : w_M_byteAt  S r p1 K) : xCt G l (d + 0) xm_M_byteAt [.ref 24, .int p1] (hL S r) (pI K) := by
  refine xCt.intro (by decide) (by decide) (List.forall_mem_cons.mpr ⟨rfl, (List.forall_mem_cons.mpr ⟨rfl, (fun _ h => by cases h)⟩)⟩) (Nat.le_of_ble_eq_true rfl) rfl ?_
  show xRn G l _ xm_M_byteAt _ 0 [.ref 24, .int p1] [] (hL S r)
  refine xRn.blk (pc1 := 4) (ls1 := [.ref 24, .int p1]) (st1 := [.int (gF S 838)]) (hp1 := (hL S r)) (ob := [(24 : Nat) = 24]) [(.aload_n 0, 1, 0, 0, 0, 0), (.getfield 63, 3, 38, 6, 0, 0)] [(24, xc8 S)] (by decide +kernel) rfl (xall_cons rfl xall_nil) (xSee_cons rfl (xne_nil _) (xSee_nil _)) rfl rfl ?_
  refine xRn.if_eq (tgt := 16) (nx := 7) (off := 12) (by decide +kernel) (by decide) rfl (fun c1 => ?_) (fun c1 => ?_)
  · have h := h.1 c1
    refine xRn.blk (pc1 := 22) (ls1 := [.ref 24, .int p1]) (st1 := [.int 20, .int (gF S 815)]) (hp1 := (hL S r)) (ob := [(24 : Nat) = 24]) [(.aload_n 0, 1, 0, 0, 0, 0), (.getfield 70, 3, 15, 6, 0, 0), (.bipush 20, 2, 0, 0, 0, 20)] [(24, xc8 S)] (by decide +kernel) rfl (xall_cons rfl xall_nil) (xSee_cons rfl (xne_nil _) (xSee_nil _)) rfl rfl ?_
    refine xRn.ic_ge (tgt := 42) (nx := 25) (off := 20) (by decide +kernel) (by decide) rfl (fun c2 => ?_) (fun c2 => ?_)
    · have h := h.1 c2
      refine xRn.blk (pc1 := 43) (ls1 := [.ref 24, .int p1]) (st1 := [.int 0]) (hp1 := (hL S r)) (ob := []) [(.iconst 0, 1, 0, 0, 0, 0)] [] (by decide +kernel) rfl xall_nil (xSee_nil _) rfl rfl ?_
      exact xRn.iret (by decide +kernel) rfl rfl ⟨_, _, _, rfl, rfl, h⟩
    · have h := h.2 c2
      obtain ⟨o3, h⟩ := h
      refine xRn.blk (pc1 := 39) (ls1 := [.ref 24, .int p1]) (st1 := [.int ((gA S 13) ((120 * (gF S 815)) + p1).toNatClampNeg)]) (hp1 := (hL S r)) (ob := [(24 : Nat) = 24, (24 : Nat) = 24, (29 : Nat) = 29, vp_in ((120 * (gF S 815)) + p1) 2400]) [(.aload_n 0, 1, 0, 0, 0, 0), (.getfield 22, 3, 16, 6, 0, 0), (.bipush 120, 2, 0, 0, 0, 120), (.aload_n 0, 1, 0, 0, 0, 0), (.getfield 70, 3, 15, 6, 0, 0), (.imul, 1, 0, 0, 0, 0), (.iload_n 1, 1, 1, 0, 0, 0), (.iadd, 1, 0, 0, 0, 0), (.iaload, 1, 0, 0, 1, 0)] [(24, xc8 S), (29, xc13 S)] (by decide +kernel) rfl (xall_cons rfl (xall_cons rfl (xall_cons rfl (xall_cons o3 xall_nil)))) (xSee_cons rfl (xne_cons (by decide) (xne_nil _)) (xSee_cons rfl (xne_nil _) (xSee_nil _))) rfl rfl ?_
      refine xRn.goto (tgt := 43) (off := 4) (by decide +kernel) (by decide) ?_
      exact xRn.iret (by decide +kernel) rfl rfl ⟨_, _, _, rfl, rfl, h⟩
  · have h := h.2 c1
    obtain ⟨o4, h⟩ := h
    refine xRn.blk (pc1 := 13) (ls1 := [.ref 24, .int p1]) (st1 := [.int ((gA S 9) p1.toNatClampNeg)]) (hp1 := (hL S r)) (ob := [(24 : Nat) = 24, (25 : Nat) = 25, vp_in p1 120]) [(.aload_n 0, 1, 0, 0, 0, 0), (.getfield 7, 3, 3, 6, 0, 0), (.iload_n 1, 1, 1, 0, 0, 0), (.iaload, 1, 0, 0, 1, 0)] [(24, xc8 S), (25, xc9 S)] (by decide +kernel) rfl (xall_cons rfl (xall_cons rfl (xall_cons o4 xall_nil))) (xSee_cons rfl (xne_cons (by decide) (xne_nil _)) (xSee_cons rfl (xne_nil _) (xSee_nil _))) rfl rfl ?_
    refine xRn.goto (tgt := 43) (off := 30) (by decide +kernel) (by decide) ?_
    exact xRn.iret (by decide +kernel) rfl rfl ⟨_, _, _, rfl, rfl, h⟩
/-! M_body -/
def w_M_body_161 (k6 : XS → List AE → Int32 → Int32 → Int32 → Int32 → Int32 → Int32 → Int32 → Int32 → Prop)  (K : Int32 → XS → List AE → Prop) (S : XS) (r : List AE) (v1 : Int32) (v2 : Int32) (v3 : Int32) (v4 : Int32) (v5 : Int32) (v6 : Int32) (v7 : Int32) (v8 : Int32) : Prop :=
  (k6 S r v1 v2 v3 v4 v5 v6 v7 (v8 + 1))
set_option maxRecDepth 100000 in
theorem t_M_body_161 {G : XG} {l : Launch} {d : Nat} {k6 : XS → List AE → Int32 → Int32 → Int32 → Int32 → Int32 → Int32 → Int32 → Int32 → Prop} {K : Int32 → XS → List AE → Prop} (hk6 : ∀ (S : XS) (r : List AE) (v1 : Int32) (v2 : Int32) (v3 : Int32) (v4 : Int32) (v5 : Int32) (v6 : Int32) (v7 : Int32) (v8 : Int32), k6 S r v1 v2 v3 v4 v5 v6 v7 v8 → xRn G l (d + 3) xm_M_body (pI K) 6 [.ref 24, .int v1, .int v2, .int v3, .int v4, .int v5, .int v6, .int v7, .int v8, .null, .null, .null] [] (hL S r)) (S : XS) (r : List AE) (v1 : Int32) (v2 : Int32) (v3 : Int32) (v4 : Int32) (v5 : Int32) (v6 : Int32) (v7 : Int32) (v8 : Int32) (h : w_M_body_161 k6 K S r v1 v2 v3 v4 v5 v6 v7 v8) : xRn G l (d + 3) xm_M_body (pI K) 161 [.ref 24, .int v1, .int v2, .int v3, .int v4, .int v5, .int v6, .int v7, .int v8, .null, .null, .null] [] (hL S r) := by
  refine xRn.blk (pc1 := 164) (ls1 := [.ref 24, .int v1, .int v2, .int v3, .int v4, .int v5, .int v6, .int v7, .int (v8 + 1), .null, .null, .null]) (st1 := []) (hp1 := (hL S r)) (ob := []) [(.iinc 8 1, 3, 8, 0, 0, 1)] [] (by decide +kernel) rfl xall_nil (xSee_nil _) rfl rfl ?_
  refine xRn.goto (tgt := 6) (off := (-158)) (by decide +kernel) (by decide) ?_
  refine xRn.forget (xle_eq (xle_eq (xle_eq (xle_eq (xle_eq (xle_eq (xle_eq (xle_eq (xle_eq (xle_eq (xle_eq (xle_eq xle_nil)))))))))))) ?_
  exact hk6 S r v1 v2 v3 v4 v5 v6 v7 (v8 + 1) h
def w_M_body_143 (k6 : XS → List AE → Int32 → Int32 → Int32 → Int32 → Int32 → Int32 → Int32 → Int32 → Prop)  (K : Int32 → XS → List AE → Prop) (S : XS) (r : List AE) (v1 : Int32) (v2 : Int32) (v3 : Int32) (v4 : Int32) (v5 : Int32) (v6 : Int32) (v7 : Int32) (v8 : Int32) (v9 : Int32) (v10 : Int32) (v11 : Int32) : Prop :=
  ((v6 = 0 → (w_M_body_161 k6 K S r v1 v2 v3 v4 v5 v6 v7 v8)) ∧ (¬ v6 = 0 → ((¬ v11 = 0 → (w_M_body_161 k6 K S r v1 v2 v3 v4 v5 v6 v7 v8)) ∧ (v11 = 0 → (w_M_field S r v9 v10 (fun S4 r5 => (w_M_body_161 k6 K S4 r5 v1 v2 v3 v4 v5 v6 v7 v8)))))))
set_option maxRecDepth 100000 in
theorem t_M_body_143 {G : XG} {l : Launch} {d : Nat} {k6 : XS → List AE → Int32 → Int32 → Int32 → Int32 → Int32 → Int32 → Int32 → Int32 → Prop} {K : Int32 → XS → List AE → Prop} (hk6 : ∀ (S : XS) (r : List AE) (v1 : Int32) (v2 : Int32) (v3 : Int32) (v4 : Int32) (v5 : Int32) (v6 : Int32) (v7 : Int32) (v8 : Int32), k6 S r v1 v2 v3 v4 v5 v6 v7 v8 → xRn G l (d + 3) xm_M_body (pI K) 6 [.ref 24, .int v1, .int v2, .int v3, .int v4, .int v5, .int v6, .int v7, .int v8, .null, .null, .null] [] (hL S r)) (S : XS) (r : List AE) (v1 : Int32) (v2 : Int32) (v3 : Int32) (v4 : Int32) (v5 : Int32) (v6 : Int32) (v7 : Int32) (v8 : Int32) (v9 : Int32) (v10 : Int32) (v11 : Int32) (h : w_M_body_143 k6 K S r v1 v2 v3 v4 v5 v6 v7 v8 v9 v10 v11) : xRn G l (d + 3) xm_M_body (pI K) 143 [.ref 24, .int v1, .int v2, .int v3, .int v4, .int v5, .int v6, .int v7, .int v8, .int v9, .int v10, .int v11] [] (hL S r) := by
  refine xRn.blk (pc1 := 145) (ls1 := [.ref 24, .int v1, .int v2, .int v3, .int v4, .int v5, .int v6, .int v7, .int v8, .int v9, .int v10, .int v11]) (st1 := [.int v6]) (hp1 := (hL S r)) (ob := []) [(.iload 6, 2, 6, 0, 0, 0)] [] (by decide +kernel) rfl xall_nil (xSee_nil _) rfl rfl ?_
  refine xRn.if_eq (tgt := 161) (nx := 148) (off := 16) (by decide +kernel) (by decide) rfl (fun c1 => ?_) (fun c1 => ?_)
  · have h := h.1 c1
    refine xRn.forget (xle_eq (xle_eq (xle_eq (xle_eq (xle_eq (xle_eq (xle_eq (xle_eq (xle_eq (xle_no (xle_no (xle_no xle_nil)))))))))))) ?_
    exact t_M_body_161  hk6 S r v1 v2 v3 v4 v5 v6 v7 v8 h
  · have h := h.2 c1
    refine xRn.blk (pc1 := 150) (ls1 := [.ref 24, .int v1, .int v2, .int v3, .int v4, .int v5, .int v6, .int v7, .int v8, .int v9, .int v10, .int v11]) (st1 := [.int v11]) (hp1 := (hL S r)) (ob := []) [(.iload 11, 2, 11, 0, 0, 0)] [] (by decide +kernel) rfl xall_nil (xSee_nil _) rfl rfl ?_
    refine xRn.if_ne (tgt := 161) (nx := 153) (off := 11) (by decide +kernel) (by decide) rfl (fun c2 => ?_) (fun c2 => ?_)
    · have h := h.1 c2
      refine xRn.forget (xle_eq (xle_eq (xle_eq (xle_eq (xle_eq (xle_eq (xle_eq (xle_eq (xle_eq (xle_no (xle_no (xle_no xle_nil)))))))))))) ?_
      exact t_M_body_161  hk6 S r v1 v2 v3 v4 v5 v6 v7 v8 h
    · have h := h.2 c2
      refine xRn.blk (pc1 := 158) (ls1 := [.ref 24, .int v1, .int v2, .int v3, .int v4, .int v5, .int v6, .int v7, .int v8, .int v9, .int v10, .int v11]) (st1 := [.int v10, .int v9, .ref 24]) (hp1 := (hL S r)) (ob := []) [(.aload_n 0, 1, 0, 0, 0, 0), (.iload 9, 2, 9, 0, 0, 0), (.iload 10, 2, 10, 0, 0, 0)] [] (by decide +kernel) rfl xall_nil (xSee_nil _) rfl rfl ?_
      refine xRn.callV (al := [.int v9, .int v10]) (st := []) (nx := 161) (by decide +kernel) lk_V_M_body_98_M_field_6_2 rfl rfl (c_M_field (d := d + 0) S r v9 v10 h) rfl (Nat.le_of_ble_eq_true rfl) rfl rfl ?_ ?_
      · rintro _ _ ⟨S4, r5, e9, rfl, h⟩
        cases e9
        show xRn G l _ _ _ 161 [.ref 24, .int v1, .int v2, .int v3, .int v4, .int v5, .int v6, .int v7, .int v8, .int v9, .int v10, .int v11] [] (hL S4 r5)
        refine xRn.forget (xle_eq (xle_eq (xle_eq (xle_eq (xle_eq (xle_eq (xle_eq (xle_eq (xle_eq (xle_no (xle_no (xle_no xle_nil)))))))))))) ?_
        exact t_M_body_161  hk6 S4 r5 v1 v2 v3 v4 v5 v6 v7 v8 h
      · rintro _ _ ⟨_, _, e9, _⟩
        cases e9
def w_M_body_125 (k6 : XS → List AE → Int32 → Int32 → Int32 → Int32 → Int32 → Int32 → Int32 → Int32 → Prop)  (K : Int32 → XS → List AE → Prop) (S : XS) (r : List AE) (v1 : Int32) (v2 : Int32) (v3 : Int32) (v4 : Int32) (v5 : Int32) (v6 : Int32) (v7 : Int32) (v8 : Int32) (v9 : Int32) (v10 : Int32) (v11 : Int32) : Prop :=
  ((v6 = 0 → (w_M_body_143 k6 K S r v1 v2 v3 v4 v5 v6 v7 v8 v9 v10 v11)) ∧ (¬ v6 = 0 → ((v11 = 0 → (w_M_body_143 k6 K S r v1 v2 v3 v4 v5 v6 v7 v8 v9 v10 v11)) ∧ (¬ v11 = 0 → (w_M_letter S r v9 v10 (fun S9 r10 => (w_M_body_143 k6 K S9 r10 v1 v2 v3 v4 v5 v6 v7 v8 v9 v10 v11)))))))
set_option maxRecDepth 100000 in
theorem t_M_body_125 {G : XG} {l : Launch} {d : Nat} {k6 : XS → List AE → Int32 → Int32 → Int32 → Int32 → Int32 → Int32 → Int32 → Int32 → Prop} {K : Int32 → XS → List AE → Prop} (hk6 : ∀ (S : XS) (r : List AE) (v1 : Int32) (v2 : Int32) (v3 : Int32) (v4 : Int32) (v5 : Int32) (v6 : Int32) (v7 : Int32) (v8 : Int32), k6 S r v1 v2 v3 v4 v5 v6 v7 v8 → xRn G l (d + 3) xm_M_body (pI K) 6 [.ref 24, .int v1, .int v2, .int v3, .int v4, .int v5, .int v6, .int v7, .int v8, .null, .null, .null] [] (hL S r)) (S : XS) (r : List AE) (v1 : Int32) (v2 : Int32) (v3 : Int32) (v4 : Int32) (v5 : Int32) (v6 : Int32) (v7 : Int32) (v8 : Int32) (v9 : Int32) (v10 : Int32) (v11 : Int32) (h : w_M_body_125 k6 K S r v1 v2 v3 v4 v5 v6 v7 v8 v9 v10 v11) : xRn G l (d + 3) xm_M_body (pI K) 125 [.ref 24, .int v1, .int v2, .int v3, .int v4, .int v5, .int v6, .int v7, .int v8, .int v9, .int v10, .int v11] [] (hL S r) := by
  refine xRn.blk (pc1 := 127) (ls1 := [.ref 24, .int v1, .int v2, .int v3, .int v4, .int v5, .int v6, .int v7, .int v8, .int v9, .int v10, .int v11]) (st1 := [.int v6]) (hp1 := (hL S r)) (ob := []) [(.iload 6, 2, 6, 0, 0, 0)] [] (by decide +kernel) rfl xall_nil (xSee_nil _) rfl rfl ?_
  refine xRn.if_eq (tgt := 143) (nx := 130) (off := 16) (by decide +kernel) (by decide) rfl (fun c6 => ?_) (fun c6 => ?_)
  · have h := h.1 c6
    refine xRn.forget (xle_eq (xle_eq (xle_eq (xle_eq (xle_eq (xle_eq (xle_eq (xle_eq (xle_eq (xle_eq (xle_eq (xle_eq xle_nil)))))))))))) ?_
    exact t_M_body_143  hk6 S r v1 v2 v3 v4 v5 v6 v7 v8 v9 v10 v11 h
  · have h := h.2 c6
    refine xRn.blk (pc1 := 132) (ls1 := [.ref 24, .int v1, .int v2, .int v3, .int v4, .int v5, .int v6, .int v7, .int v8, .int v9, .int v10, .int v11]) (st1 := [.int v11]) (hp1 := (hL S r)) (ob := []) [(.iload 11, 2, 11, 0, 0, 0)] [] (by decide +kernel) rfl xall_nil (xSee_nil _) rfl rfl ?_
    refine xRn.if_eq (tgt := 143) (nx := 135) (off := 11) (by decide +kernel) (by decide) rfl (fun c7 => ?_) (fun c7 => ?_)
    · have h := h.1 c7
      refine xRn.forget (xle_eq (xle_eq (xle_eq (xle_eq (xle_eq (xle_eq (xle_eq (xle_eq (xle_eq (xle_eq (xle_eq (xle_eq xle_nil)))))))))))) ?_
      exact t_M_body_143  hk6 S r v1 v2 v3 v4 v5 v6 v7 v8 v9 v10 v11 h
    · have h := h.2 c7
      refine xRn.blk (pc1 := 140) (ls1 := [.ref 24, .int v1, .int v2, .int v3, .int v4, .int v5, .int v6, .int v7, .int v8, .int v9, .int v10, .int v11]) (st1 := [.int v10, .int v9, .ref 24]) (hp1 := (hL S r)) (ob := []) [(.aload_n 0, 1, 0, 0, 0, 0), (.iload 9, 2, 9, 0, 0, 0), (.iload 10, 2, 10, 0, 0, 0)] [] (by decide +kernel) rfl xall_nil (xSee_nil _) rfl rfl ?_
      refine xRn.callV (al := [.int v9, .int v10]) (st := []) (nx := 143) (by decide +kernel) lk_V_M_body_94_M_letter_6_2 rfl rfl (c_M_letter (d := d + 0) S r v9 v10 h) rfl (Nat.le_of_ble_eq_true rfl) rfl rfl ?_ ?_
      · rintro _ _ ⟨S9, r10, e9, rfl, h⟩
        cases e9
        show xRn G l _ _ _ 143 [.ref 24, .int v1, .int v2, .int v3, .int v4, .int v5, .int v6, .int v7, .int v8, .int v9, .int v10, .int v11] [] (hL S9 r10)
        refine xRn.forget (xle_eq (xle_eq (xle_eq (xle_eq (xle_eq (xle_eq (xle_eq (xle_eq (xle_eq (xle_eq (xle_eq (xle_eq xle_nil)))))))))))) ?_
        exact t_M_body_143  hk6 S9 r10 v1 v2 v3 v4 v5 v6 v7 v8 v9 v10 v11 h
      · rintro _ _ ⟨_, _, e9, _⟩
        cases e9
def w_M_body_95   (K : Int32 → XS → List AE → Prop) (S : XS) (r : List AE) (v7 : Int32) : Prop :=
  (K v7 S r)
set_option maxRecDepth 100000 in
theorem t_M_body_95 {G : XG} {l : Launch} {d : Nat} {K : Int32 → XS → List AE → Prop} (S : XS) (r : List AE) (v7 : Int32) (h : w_M_body_95 K S r v7) : xRn G l (d + 3) xm_M_body (pI K) 95 [.null, .null, .null, .null, .null, .null, .null, .int v7, .null, .null, .null, .null] [] (hL S r) := by
  refine xRn.blk (pc1 := 97) (ls1 := [.null, .null, .null, .null, .null, .null, .null, .int v7, .null, .null, .null, .null]) (st1 := [.int v7]) (hp1 := (hL S r)) (ob := []) [(.iload 7, 2, 7, 0, 0, 0)] [] (by decide +kernel) rfl xall_nil (xSee_nil _) rfl rfl ?_
  exact xRn.iret (by decide +kernel) rfl rfl ⟨_, _, _, rfl, rfl, h⟩
def w_M_body_85 (k6 : XS → List AE → Int32 → Int32 → Int32 → Int32 → Int32 → Int32 → Int32 → Int32 → Prop)  (K : Int32 → XS → List AE → Prop) (S : XS) (r : List AE) (v1 : Int32) (v2 : Int32) (v3 : Int32) (v4 : Int32) (v5 : Int32) (v6 : Int32) (v7 : Int32) (v8 : Int32) (v9 : Int32) (v10 : Int32) (v11 : Int32) : Prop :=
  ((v9 = 0 → (w_M_body_95 K S r v7)) ∧ (¬ v9 = 0 → ((0 ≤ v10 → ((v11 = 0 → (w_M_room v9 v10 (fun x14 => (w_M_body_125 k6 K S r v1 v2 v3 v4 v5 v6 (v7 + x14) v8 v9 v10 v11)))) ∧ (¬ v11 = 0 → (w_M_places v9 (fun x15 => (w_M_body_125 k6 K S r v1 v2 v3 v4 v5 v6 (v7 + (x15 + 3)) v8 v9 v10 v11)))))) ∧ (¬ 0 ≤ v10 → (w_M_body_95 K S r v7)))))
set_option maxRecDepth 100000 in
theorem t_M_body_85 {G : XG} {l : Launch} {d : Nat} {k6 : XS → List AE → Int32 → Int32 → Int32 → Int32 → Int32 → Int32 → Int32 → Int32 → Prop} {K : Int32 → XS → List AE → Prop} (hk6 : ∀ (S : XS) (r : List AE) (v1 : Int32) (v2 : Int32) (v3 : Int32) (v4 : Int32) (v5 : Int32) (v6 : Int32) (v7 : Int32) (v8 : Int32), k6 S r v1 v2 v3 v4 v5 v6 v7 v8 → xRn G l (d + 3) xm_M_body (pI K) 6 [.ref 24, .int v1, .int v2, .int v3, .int v4, .int v5, .int v6, .int v7, .int v8, .null, .null, .null] [] (hL S r)) (S : XS) (r : List AE) (v1 : Int32) (v2 : Int32) (v3 : Int32) (v4 : Int32) (v5 : Int32) (v6 : Int32) (v7 : Int32) (v8 : Int32) (v9 : Int32) (v10 : Int32) (v11 : Int32) (h : w_M_body_85 k6 K S r v1 v2 v3 v4 v5 v6 v7 v8 v9 v10 v11) : xRn G l (d + 3) xm_M_body (pI K) 85 [.ref 24, .int v1, .int v2, .int v3, .int v4, .int v5, .int v6, .int v7, .int v8, .int v9, .int v10, .int v11] [] (hL S r) := by
  refine xRn.blk (pc1 := 87) (ls1 := [.ref 24, .int v1, .int v2, .int v3, .int v4, .int v5, .int v6, .int v7, .int v8, .int v9, .int v10, .int v11]) (st1 := [.int v9]) (hp1 := (hL S r)) (ob := []) [(.iload 9, 2, 9, 0, 0, 0)] [] (by decide +kernel) rfl xall_nil (xSee_nil _) rfl rfl ?_
  refine xRn.if_eq (tgt := 95) (nx := 90) (off := 8) (by decide +kernel) (by decide) rfl (fun c11 => ?_) (fun c11 => ?_)
  · have h := h.1 c11
    refine xRn.forget (xle_no (xle_no (xle_no (xle_no (xle_no (xle_no (xle_no (xle_eq (xle_no (xle_no (xle_no (xle_no xle_nil)))))))))))) ?_
    exact t_M_body_95   S r v7 h
  · have h := h.2 c11
    refine xRn.blk (pc1 := 92) (ls1 := [.ref 24, .int v1, .int v2, .int v3, .int v4, .int v5, .int v6, .int v7, .int v8, .int v9, .int v10, .int v11]) (st1 := [.int v10]) (hp1 := (hL S r)) (ob := []) [(.iload 10, 2, 10, 0, 0, 0)] [] (by decide +kernel) rfl xall_nil (xSee_nil _) rfl rfl ?_
    refine xRn.if_ge (tgt := 98) (nx := 95) (off := 6) (by decide +kernel) (by decide) rfl (fun c12 => ?_) (fun c12 => ?_)
    · have h := h.1 c12
      refine xRn.blk (pc1 := 102) (ls1 := [.ref 24, .int v1, .int v2, .int v3, .int v4, .int v5, .int v6, .int v7, .int v8, .int v9, .int v10, .int v11]) (st1 := [.int v11, .int v7]) (hp1 := (hL S r)) (ob := []) [(.iload 7, 2, 7, 0, 0, 0), (.iload 11, 2, 11, 0, 0, 0)] [] (by decide +kernel) rfl xall_nil (xSee_nil _) rfl rfl ?_
      refine xRn.if_eq (tgt := 115) (nx := 105) (off := 13) (by decide +kernel) (by decide) rfl (fun c13 => ?_) (fun c13 => ?_)
      · have h := h.1 c13
        refine xRn.blk (pc1 := 119) (ls1 := [.ref 24, .int v1, .int v2, .int v3, .int v4, .int v5, .int v6, .int v7, .int v8, .int v9, .int v10, .int v11]) (st1 := [.int v10, .int v9, .int v7]) (hp1 := (hL S r)) (ob := []) [(.iload 9, 2, 9, 0, 0, 0), (.iload 10, 2, 10, 0, 0, 0)] [] (by decide +kernel) rfl xall_nil (xSee_nil _) rfl rfl ?_
        refine xRn.callS (al := [.int v9, .int v10]) (st := [.int v7]) (nx := 122) (by decide +kernel) lk_S_M_body_91_M_room_2 rfl (c_M_room (d := d + 1) _ v9 v10 h) rfl (Nat.le_of_ble_eq_true rfl) rfl rfl ?_ ?_
        · rintro _ _ ⟨x14, e9, e8, h⟩
          cases e9
          rw [e8]
          show xRn G l _ _ _ 122 [.ref 24, .int v1, .int v2, .int v3, .int v4, .int v5, .int v6, .int v7, .int v8, .int v9, .int v10, .int v11] [.int x14, .int v7] (hL S r)
          refine xRn.blk (pc1 := 125) (ls1 := [.ref 24, .int v1, .int v2, .int v3, .int v4, .int v5, .int v6, .int (v7 + x14), .int v8, .int v9, .int v10, .int v11]) (st1 := []) (hp1 := (hL S r)) (ob := []) [(.iadd, 1, 0, 0, 0, 0), (.istore 7, 2, 7, 0, 0, 0)] [] (by decide +kernel) rfl xall_nil (xSee_nil _) rfl rfl ?_
          refine xRn.forget (xle_eq (xle_eq (xle_eq (xle_eq (xle_eq (xle_eq (xle_eq (xle_eq (xle_eq (xle_eq (xle_eq (xle_eq xle_nil)))))))))))) ?_
          exact t_M_body_125  hk6 S r v1 v2 v3 v4 v5 v6 (v7 + x14) v8 v9 v10 v11 h
        · rintro _ _ ⟨_, e9, _⟩
          cases e9
      · have h := h.2 c13
        refine xRn.blk (pc1 := 107) (ls1 := [.ref 24, .int v1, .int v2, .int v3, .int v4, .int v5, .int v6, .int v7, .int v8, .int v9, .int v10, .int v11]) (st1 := [.int v9, .int v7]) (hp1 := (hL S r)) (ob := []) [(.iload 9, 2, 9, 0, 0, 0)] [] (by decide +kernel) rfl xall_nil (xSee_nil _) rfl rfl ?_
        refine xRn.callS (al := [.int v9]) (st := [.int v7]) (nx := 110) (by decide +kernel) lk_S_M_body_83_M_places_1 rfl (c_M_places (d := d + 2) _ v9 h) rfl (Nat.le_of_ble_eq_true rfl) rfl rfl ?_ ?_
        · rintro _ _ ⟨x15, e9, e8, h⟩
          cases e9
          rw [e8]
          show xRn G l _ _ _ 110 [.ref 24, .int v1, .int v2, .int v3, .int v4, .int v5, .int v6, .int v7, .int v8, .int v9, .int v10, .int v11] [.int x15, .int v7] (hL S r)
          refine xRn.blk (pc1 := 112) (ls1 := [.ref 24, .int v1, .int v2, .int v3, .int v4, .int v5, .int v6, .int v7, .int v8, .int v9, .int v10, .int v11]) (st1 := [.int (x15 + 3), .int v7]) (hp1 := (hL S r)) (ob := []) [(.iconst 3, 1, 0, 0, 0, 3), (.iadd, 1, 0, 0, 0, 0)] [] (by decide +kernel) rfl xall_nil (xSee_nil _) rfl rfl ?_
          refine xRn.goto (tgt := 122) (off := 10) (by decide +kernel) (by decide) ?_
          refine xRn.blk (pc1 := 125) (ls1 := [.ref 24, .int v1, .int v2, .int v3, .int v4, .int v5, .int v6, .int (v7 + (x15 + 3)), .int v8, .int v9, .int v10, .int v11]) (st1 := []) (hp1 := (hL S r)) (ob := []) [(.iadd, 1, 0, 0, 0, 0), (.istore 7, 2, 7, 0, 0, 0)] [] (by decide +kernel) rfl xall_nil (xSee_nil _) rfl rfl ?_
          refine xRn.forget (xle_eq (xle_eq (xle_eq (xle_eq (xle_eq (xle_eq (xle_eq (xle_eq (xle_eq (xle_eq (xle_eq (xle_eq xle_nil)))))))))))) ?_
          exact t_M_body_125  hk6 S r v1 v2 v3 v4 v5 v6 (v7 + (x15 + 3)) v8 v9 v10 v11 h
        · rintro _ _ ⟨_, e9, _⟩
          cases e9
    · have h := h.2 c12
      refine xRn.forget (xle_no (xle_no (xle_no (xle_no (xle_no (xle_no (xle_no (xle_eq (xle_no (xle_no (xle_no (xle_no xle_nil)))))))))))) ?_
      exact t_M_body_95   S r v7 h
def w_M_body_82 (k6 : XS → List AE → Int32 → Int32 → Int32 → Int32 → Int32 → Int32 → Int32 → Int32 → Prop)  (K : Int32 → XS → List AE → Prop) (S : XS) (r : List AE) (v1 : Int32) (v2 : Int32) (v3 : Int32) (v4 : Int32) (v5 : Int32) (v6 : Int32) (v7 : Int32) (v8 : Int32) (v9 : Int32) (v10 : Int32) : Prop :=
  (w_M_body_85 k6 K S r v1 v2 v3 v4 v5 v6 v7 v8 v9 v10 0)
set_option maxRecDepth 100000 in
theorem t_M_body_82 {G : XG} {l : Launch} {d : Nat} {k6 : XS → List AE → Int32 → Int32 → Int32 → Int32 → Int32 → Int32 → Int32 → Int32 → Prop} {K : Int32 → XS → List AE → Prop} (hk6 : ∀ (S : XS) (r : List AE) (v1 : Int32) (v2 : Int32) (v3 : Int32) (v4 : Int32) (v5 : Int32) (v6 : Int32) (v7 : Int32) (v8 : Int32), k6 S r v1 v2 v3 v4 v5 v6 v7 v8 → xRn G l (d + 3) xm_M_body (pI K) 6 [.ref 24, .int v1, .int v2, .int v3, .int v4, .int v5, .int v6, .int v7, .int v8, .null, .null, .null] [] (hL S r)) (S : XS) (r : List AE) (v1 : Int32) (v2 : Int32) (v3 : Int32) (v4 : Int32) (v5 : Int32) (v6 : Int32) (v7 : Int32) (v8 : Int32) (v9 : Int32) (v10 : Int32) (h : w_M_body_82 k6 K S r v1 v2 v3 v4 v5 v6 v7 v8 v9 v10) : xRn G l (d + 3) xm_M_body (pI K) 82 [.ref 24, .int v1, .int v2, .int v3, .int v4, .int v5, .int v6, .int v7, .int v8, .int v9, .int v10, .null] [] (hL S r) := by
  refine xRn.blk (pc1 := 85) (ls1 := [.ref 24, .int v1, .int v2, .int v3, .int v4, .int v5, .int v6, .int v7, .int v8, .int v9, .int v10, .int 0]) (st1 := []) (hp1 := (hL S r)) (ob := []) [(.iconst 0, 1, 0, 0, 0, 0), (.istore 11, 2, 11, 0, 0, 0)] [] (by decide +kernel) rfl xall_nil (xSee_nil _) rfl rfl ?_
  refine xRn.forget (xle_eq (xle_eq (xle_eq (xle_eq (xle_eq (xle_eq (xle_eq (xle_eq (xle_eq (xle_eq (xle_eq (xle_eq xle_nil)))))))))))) ?_
  exact t_M_body_85  hk6 S r v1 v2 v3 v4 v5 v6 v7 v8 v9 v10 0 h
def w_M_body_78 (k6 : XS → List AE → Int32 → Int32 → Int32 → Int32 → Int32 → Int32 → Int32 → Int32 → Prop)  (K : Int32 → XS → List AE → Prop) (S : XS) (r : List AE) (v1 : Int32) (v2 : Int32) (v3 : Int32) (v4 : Int32) (v5 : Int32) (v6 : Int32) (v7 : Int32) (v8 : Int32) (v9 : Int32) (v10 : Int32) : Prop :=
  (w_M_body_85 k6 K S r v1 v2 v3 v4 v5 v6 v7 v8 v9 v10 1)
set_option maxRecDepth 100000 in
theorem t_M_body_78 {G : XG} {l : Launch} {d : Nat} {k6 : XS → List AE → Int32 → Int32 → Int32 → Int32 → Int32 → Int32 → Int32 → Int32 → Prop} {K : Int32 → XS → List AE → Prop} (hk6 : ∀ (S : XS) (r : List AE) (v1 : Int32) (v2 : Int32) (v3 : Int32) (v4 : Int32) (v5 : Int32) (v6 : Int32) (v7 : Int32) (v8 : Int32), k6 S r v1 v2 v3 v4 v5 v6 v7 v8 → xRn G l (d + 3) xm_M_body (pI K) 6 [.ref 24, .int v1, .int v2, .int v3, .int v4, .int v5, .int v6, .int v7, .int v8, .null, .null, .null] [] (hL S r)) (S : XS) (r : List AE) (v1 : Int32) (v2 : Int32) (v3 : Int32) (v4 : Int32) (v5 : Int32) (v6 : Int32) (v7 : Int32) (v8 : Int32) (v9 : Int32) (v10 : Int32) (h : w_M_body_78 k6 K S r v1 v2 v3 v4 v5 v6 v7 v8 v9 v10) : xRn G l (d + 3) xm_M_body (pI K) 78 [.ref 24, .int v1, .int v2, .int v3, .int v4, .int v5, .int v6, .int v7, .int v8, .int v9, .int v10, .null] [] (hL S r) := by
  refine xRn.blk (pc1 := 79) (ls1 := [.ref 24, .int v1, .int v2, .int v3, .int v4, .int v5, .int v6, .int v7, .int v8, .int v9, .int v10, .null]) (st1 := [.int 1]) (hp1 := (hL S r)) (ob := []) [(.iconst 1, 1, 0, 0, 0, 1)] [] (by decide +kernel) rfl xall_nil (xSee_nil _) rfl rfl ?_
  refine xRn.goto (tgt := 83) (off := 4) (by decide +kernel) (by decide) ?_
  refine xRn.blk (pc1 := 85) (ls1 := [.ref 24, .int v1, .int v2, .int v3, .int v4, .int v5, .int v6, .int v7, .int v8, .int v9, .int v10, .int 1]) (st1 := []) (hp1 := (hL S r)) (ob := []) [(.istore 11, 2, 11, 0, 0, 0)] [] (by decide +kernel) rfl xall_nil (xSee_nil _) rfl rfl ?_
  refine xRn.forget (xle_eq (xle_eq (xle_eq (xle_eq (xle_eq (xle_eq (xle_eq (xle_eq (xle_eq (xle_eq (xle_eq (xle_eq xle_nil)))))))))))) ?_
  exact t_M_body_85  hk6 S r v1 v2 v3 v4 v5 v6 v7 v8 v9 v10 1 h
def w_M_body_66 (k6 : XS → List AE → Int32 → Int32 → Int32 → Int32 → Int32 → Int32 → Int32 → Int32 → Prop)  (K : Int32 → XS → List AE → Prop) (S : XS) (r : List AE) (v1 : Int32) (v2 : Int32) (v3 : Int32) (v4 : Int32) (v5 : Int32) (v6 : Int32) (v7 : Int32) (v8 : Int32) (v9 : Int32) (v10 : Int32) : Prop :=
  ((¬ v1 = (56 : Int32) → (w_M_body_82 k6 K S r v1 v2 v3 v4 v5 v6 v7 v8 v9 v10)) ∧ (v1 = (56 : Int32) → ((¬ v8 = (1 : Int32) → (w_M_body_82 k6 K S r v1 v2 v3 v4 v5 v6 v7 v8 v9 v10)) ∧ (v8 = (1 : Int32) → (w_M_body_78 k6 K S r v1 v2 v3 v4 v5 v6 v7 v8 v9 v10)))))
set_option maxRecDepth 100000 in
theorem t_M_body_66 {G : XG} {l : Launch} {d : Nat} {k6 : XS → List AE → Int32 → Int32 → Int32 → Int32 → Int32 → Int32 → Int32 → Int32 → Prop} {K : Int32 → XS → List AE → Prop} (hk6 : ∀ (S : XS) (r : List AE) (v1 : Int32) (v2 : Int32) (v3 : Int32) (v4 : Int32) (v5 : Int32) (v6 : Int32) (v7 : Int32) (v8 : Int32), k6 S r v1 v2 v3 v4 v5 v6 v7 v8 → xRn G l (d + 3) xm_M_body (pI K) 6 [.ref 24, .int v1, .int v2, .int v3, .int v4, .int v5, .int v6, .int v7, .int v8, .null, .null, .null] [] (hL S r)) (S : XS) (r : List AE) (v1 : Int32) (v2 : Int32) (v3 : Int32) (v4 : Int32) (v5 : Int32) (v6 : Int32) (v7 : Int32) (v8 : Int32) (v9 : Int32) (v10 : Int32) (h : w_M_body_66 k6 K S r v1 v2 v3 v4 v5 v6 v7 v8 v9 v10) : xRn G l (d + 3) xm_M_body (pI K) 66 [.ref 24, .int v1, .int v2, .int v3, .int v4, .int v5, .int v6, .int v7, .int v8, .int v9, .int v10, .null] [] (hL S r) := by
  refine xRn.blk (pc1 := 69) (ls1 := [.ref 24, .int v1, .int v2, .int v3, .int v4, .int v5, .int v6, .int v7, .int v8, .int v9, .int v10, .null]) (st1 := [.int 56, .int v1]) (hp1 := (hL S r)) (ob := []) [(.iload_n 1, 1, 1, 0, 0, 0), (.bipush 56, 2, 0, 0, 0, 56)] [] (by decide +kernel) rfl xall_nil (xSee_nil _) rfl rfl ?_
  refine xRn.ic_ne (tgt := 82) (nx := 72) (off := 13) (by decide +kernel) (by decide) rfl (fun c16 => ?_) (fun c16 => ?_)
  · have h := h.1 c16
    refine xRn.forget (xle_eq (xle_eq (xle_eq (xle_eq (xle_eq (xle_eq (xle_eq (xle_eq (xle_eq (xle_eq (xle_eq (xle_eq xle_nil)))))))))))) ?_
    exact t_M_body_82  hk6 S r v1 v2 v3 v4 v5 v6 v7 v8 v9 v10 h
  · have h := h.2 c16
    refine xRn.blk (pc1 := 75) (ls1 := [.ref 24, .int v1, .int v2, .int v3, .int v4, .int v5, .int v6, .int v7, .int v8, .int v9, .int v10, .null]) (st1 := [.int 1, .int v8]) (hp1 := (hL S r)) (ob := []) [(.iload 8, 2, 8, 0, 0, 0), (.iconst 1, 1, 0, 0, 0, 1)] [] (by decide +kernel) rfl xall_nil (xSee_nil _) rfl rfl ?_
    refine xRn.ic_ne (tgt := 82) (nx := 78) (off := 7) (by decide +kernel) (by decide) rfl (fun c17 => ?_) (fun c17 => ?_)
    · have h := h.1 c17
      refine xRn.forget (xle_eq (xle_eq (xle_eq (xle_eq (xle_eq (xle_eq (xle_eq (xle_eq (xle_eq (xle_eq (xle_eq (xle_eq xle_nil)))))))))))) ?_
      exact t_M_body_82  hk6 S r v1 v2 v3 v4 v5 v6 v7 v8 v9 v10 h
    · have h := h.2 c17
      refine xRn.forget (xle_eq (xle_eq (xle_eq (xle_eq (xle_eq (xle_eq (xle_eq (xle_eq (xle_eq (xle_eq (xle_eq (xle_eq xle_nil)))))))))))) ?_
      exact t_M_body_78  hk6 S r v1 v2 v3 v4 v5 v6 v7 v8 v9 v10 h
def w_M_body_54 (k6 : XS → List AE → Int32 → Int32 → Int32 → Int32 → Int32 → Int32 → Int32 → Int32 → Prop)  (K : Int32 → XS → List AE → Prop) (S : XS) (r : List AE) (v1 : Int32) (v2 : Int32) (v3 : Int32) (v4 : Int32) (v5 : Int32) (v6 : Int32) (v7 : Int32) (v8 : Int32) (v9 : Int32) (v10 : Int32) : Prop :=
  ((¬ v1 = (52 : Int32) → (w_M_body_66 k6 K S r v1 v2 v3 v4 v5 v6 v7 v8 v9 v10)) ∧ (v1 = (52 : Int32) → ((v8 = (1 : Int32) → (w_M_body_78 k6 K S r v1 v2 v3 v4 v5 v6 v7 v8 v9 v10)) ∧ (¬ v8 = (1 : Int32) → (w_M_body_66 k6 K S r v1 v2 v3 v4 v5 v6 v7 v8 v9 v10)))))
set_option maxRecDepth 100000 in
theorem t_M_body_54 {G : XG} {l : Launch} {d : Nat} {k6 : XS → List AE → Int32 → Int32 → Int32 → Int32 → Int32 → Int32 → Int32 → Int32 → Prop} {K : Int32 → XS → List AE → Prop} (hk6 : ∀ (S : XS) (r : List AE) (v1 : Int32) (v2 : Int32) (v3 : Int32) (v4 : Int32) (v5 : Int32) (v6 : Int32) (v7 : Int32) (v8 : Int32), k6 S r v1 v2 v3 v4 v5 v6 v7 v8 → xRn G l (d + 3) xm_M_body (pI K) 6 [.ref 24, .int v1, .int v2, .int v3, .int v4, .int v5, .int v6, .int v7, .int v8, .null, .null, .null] [] (hL S r)) (S : XS) (r : List AE) (v1 : Int32) (v2 : Int32) (v3 : Int32) (v4 : Int32) (v5 : Int32) (v6 : Int32) (v7 : Int32) (v8 : Int32) (v9 : Int32) (v10 : Int32) (h : w_M_body_54 k6 K S r v1 v2 v3 v4 v5 v6 v7 v8 v9 v10) : xRn G l (d + 3) xm_M_body (pI K) 54 [.ref 24, .int v1, .int v2, .int v3, .int v4, .int v5, .int v6, .int v7, .int v8, .int v9, .int v10, .null] [] (hL S r) := by
  refine xRn.blk (pc1 := 57) (ls1 := [.ref 24, .int v1, .int v2, .int v3, .int v4, .int v5, .int v6, .int v7, .int v8, .int v9, .int v10, .null]) (st1 := [.int 52, .int v1]) (hp1 := (hL S r)) (ob := []) [(.iload_n 1, 1, 1, 0, 0, 0), (.bipush 52, 2, 0, 0, 0, 52)] [] (by decide +kernel) rfl xall_nil (xSee_nil _) rfl rfl ?_
  refine xRn.ic_ne (tgt := 66) (nx := 60) (off := 9) (by decide +kernel) (by decide) rfl (fun c18 => ?_) (fun c18 => ?_)
  · have h := h.1 c18
    refine xRn.forget (xle_eq (xle_eq (xle_eq (xle_eq (xle_eq (xle_eq (xle_eq (xle_eq (xle_eq (xle_eq (xle_eq (xle_eq xle_nil)))))))))))) ?_
    exact t_M_body_66  hk6 S r v1 v2 v3 v4 v5 v6 v7 v8 v9 v10 h
  · have h := h.2 c18
    refine xRn.blk (pc1 := 63) (ls1 := [.ref 24, .int v1, .int v2, .int v3, .int v4, .int v5, .int v6, .int v7, .int v8, .int v9, .int v10, .null]) (st1 := [.int 1, .int v8]) (hp1 := (hL S r)) (ob := []) [(.iload 8, 2, 8, 0, 0, 0), (.iconst 1, 1, 0, 0, 0, 1)] [] (by decide +kernel) rfl xall_nil (xSee_nil _) rfl rfl ?_
    refine xRn.ic_eq (tgt := 78) (nx := 66) (off := 15) (by decide +kernel) (by decide) rfl (fun c19 => ?_) (fun c19 => ?_)
    · have h := h.1 c19
      refine xRn.forget (xle_eq (xle_eq (xle_eq (xle_eq (xle_eq (xle_eq (xle_eq (xle_eq (xle_eq (xle_eq (xle_eq (xle_eq xle_nil)))))))))))) ?_
      exact t_M_body_78  hk6 S r v1 v2 v3 v4 v5 v6 v7 v8 v9 v10 h
    · have h := h.2 c19
      refine xRn.forget (xle_eq (xle_eq (xle_eq (xle_eq (xle_eq (xle_eq (xle_eq (xle_eq (xle_eq (xle_eq (xle_eq (xle_eq xle_nil)))))))))))) ?_
      exact t_M_body_66  hk6 S r v1 v2 v3 v4 v5 v6 v7 v8 v9 v10 h
def w_M_body_6   (K : Int32 → XS → List AE → Prop) : Nat → XS → List AE → Int32 → Int32 → Int32 → Int32 → Int32 → Int32 → Int32 → Int32 → Prop
  | 0, _, _, _, _, _, _, _, _, _, _ => False
  | n + 1, S, r, v1, v2, v3, v4, v5, v6, v7, v8 => (((4 : Int32) ≤ v8 → (K v7 S r)) ∧ (¬ (4 : Int32) ≤ v8 → (w_M_name v1 v8 (fun x21 => ((¬ v8 = 0 → ((¬ v8 = (1 : Int32) → ((¬ v8 = (2 : Int32) → (w_M_body_54 (fun S r v1 v2 v3 v4 v5 v6 v7 v8 => w_M_body_6 K n S r v1 v2 v3 v4 v5 v6 v7 v8) K S r v1 v2 v3 v4 v5 v6 v7 v8 x21 v5)) ∧ (v8 = (2 : Int32) → (w_M_body_54 (fun S r v1 v2 v3 v4 v5 v6 v7 v8 => w_M_body_6 K n S r v1 v2 v3 v4 v5 v6 v7 v8) K S r v1 v2 v3 v4 v5 v6 v7 v8 x21 v4)))) ∧ (v8 = (1 : Int32) → (w_M_body_54 (fun S r v1 v2 v3 v4 v5 v6 v7 v8 => w_M_body_6 K n S r v1 v2 v3 v4 v5 v6 v7 v8) K S r v1 v2 v3 v4 v5 v6 v7 v8 x21 v3)))) ∧ (v8 = 0 → (w_M_body_54 (fun S r v1 v2 v3 v4 v5 v6 v7 v8 => w_M_body_6 K n S r v1 v2 v3 v4 v5 v6 v7 v8) K S r v1 v2 v3 v4 v5 v6 v7 v8 x21 v2)))))))
set_option maxRecDepth 100000 in
theorem t_M_body_6 {G : XG} {l : Launch} {d : Nat} {K : Int32 → XS → List AE → Prop} : ∀ (n : Nat) (S : XS) (r : List AE) (v1 : Int32) (v2 : Int32) (v3 : Int32) (v4 : Int32) (v5 : Int32) (v6 : Int32) (v7 : Int32) (v8 : Int32), w_M_body_6 K n S r v1 v2 v3 v4 v5 v6 v7 v8 → xRn G l (d + 3) xm_M_body (pI K) 6 [.ref 24, .int v1, .int v2, .int v3, .int v4, .int v5, .int v6, .int v7, .int v8, .null, .null, .null] [] (hL S r) := by
  intro n
  induction n with
  | zero => intro S r v1 v2 v3 v4 v5 v6 v7 v8 h; exact h.elim
  | succ n ih =>
    intro S r v1 v2 v3 v4 v5 v6 v7 v8 h
    refine xRn.blk (pc1 := 9) (ls1 := [.ref 24, .int v1, .int v2, .int v3, .int v4, .int v5, .int v6, .int v7, .int v8, .null, .null, .null]) (st1 := [.int 4, .int v8]) (hp1 := (hL S r)) (ob := []) [(.iload 8, 2, 8, 0, 0, 0), (.iconst 4, 1, 0, 0, 0, 4)] [] (by decide +kernel) rfl xall_nil (xSee_nil _) rfl rfl ?_
    refine xRn.ic_ge (tgt := 167) (nx := 12) (off := 158) (by decide +kernel) (by decide) rfl (fun c20 => ?_) (fun c20 => ?_)
    · have h := h.1 c20
      refine xRn.blk (pc1 := 169) (ls1 := [.ref 24, .int v1, .int v2, .int v3, .int v4, .int v5, .int v6, .int v7, .int v8, .null, .null, .null]) (st1 := [.int v7]) (hp1 := (hL S r)) (ob := []) [(.iload 7, 2, 7, 0, 0, 0)] [] (by decide +kernel) rfl xall_nil (xSee_nil _) rfl rfl ?_
      exact xRn.iret (by decide +kernel) rfl rfl ⟨_, _, _, rfl, rfl, h⟩
    · have h := h.2 c20
      refine xRn.blk (pc1 := 15) (ls1 := [.ref 24, .int v1, .int v2, .int v3, .int v4, .int v5, .int v6, .int v7, .int v8, .null, .null, .null]) (st1 := [.int v8, .int v1]) (hp1 := (hL S r)) (ob := []) [(.iload_n 1, 1, 1, 0, 0, 0), (.iload 8, 2, 8, 0, 0, 0)] [] (by decide +kernel) rfl xall_nil (xSee_nil _) rfl rfl ?_
      refine xRn.callS (al := [.int v1, .int v8]) (st := []) (nx := 18) (by decide +kernel) lk_S_M_body_87_M_name_2 rfl (c_M_name (d := d + 2) _ v1 v8 h) rfl (Nat.le_of_ble_eq_true rfl) rfl rfl ?_ ?_
      · rintro _ _ ⟨x21, e9, e8, h⟩
        cases e9
        rw [e8]
        show xRn G l _ _ _ 18 [.ref 24, .int v1, .int v2, .int v3, .int v4, .int v5, .int v6, .int v7, .int v8, .null, .null, .null] [.int x21] (hL S r)
        refine xRn.blk (pc1 := 22) (ls1 := [.ref 24, .int v1, .int v2, .int v3, .int v4, .int v5, .int v6, .int v7, .int v8, .int x21, .null, .null]) (st1 := [.int v8]) (hp1 := (hL S r)) (ob := []) [(.istore 9, 2, 9, 0, 0, 0), (.iload 8, 2, 8, 0, 0, 0)] [] (by decide +kernel) rfl xall_nil (xSee_nil _) rfl rfl ?_
        refine xRn.if_ne (tgt := 29) (nx := 25) (off := 7) (by decide +kernel) (by decide) rfl (fun c22 => ?_) (fun c22 => ?_)
        · have h := h.1 c22
          refine xRn.blk (pc1 := 32) (ls1 := [.ref 24, .int v1, .int v2, .int v3, .int v4, .int v5, .int v6, .int v7, .int v8, .int x21, .null, .null]) (st1 := [.int 1, .int v8]) (hp1 := (hL S r)) (ob := []) [(.iload 8, 2, 8, 0, 0, 0), (.iconst 1, 1, 0, 0, 0, 1)] [] (by decide +kernel) rfl xall_nil (xSee_nil _) rfl rfl ?_
          refine xRn.ic_ne (tgt := 39) (nx := 35) (off := 7) (by decide +kernel) (by decide) rfl (fun c23 => ?_) (fun c23 => ?_)
          · have h := h.1 c23
            refine xRn.blk (pc1 := 42) (ls1 := [.ref 24, .int v1, .int v2, .int v3, .int v4, .int v5, .int v6, .int v7, .int v8, .int x21, .null, .null]) (st1 := [.int 2, .int v8]) (hp1 := (hL S r)) (ob := []) [(.iload 8, 2, 8, 0, 0, 0), (.iconst 2, 1, 0, 0, 0, 2)] [] (by decide +kernel) rfl xall_nil (xSee_nil _) rfl rfl ?_
            refine xRn.ic_ne (tgt := 50) (nx := 45) (off := 8) (by decide +kernel) (by decide) rfl (fun c24 => ?_) (fun c24 => ?_)
            · have h := h.1 c24
              refine xRn.blk (pc1 := 54) (ls1 := [.ref 24, .int v1, .int v2, .int v3, .int v4, .int v5, .int v6, .int v7, .int v8, .int x21, .int v5, .null]) (st1 := []) (hp1 := (hL S r)) (ob := []) [(.iload 5, 2, 5, 0, 0, 0), (.istore 10, 2, 10, 0, 0, 0)] [] (by decide +kernel) rfl xall_nil (xSee_nil _) rfl rfl ?_
              refine xRn.forget (xle_eq (xle_eq (xle_eq (xle_eq (xle_eq (xle_eq (xle_eq (xle_eq (xle_eq (xle_eq (xle_eq (xle_eq xle_nil)))))))))))) ?_
              exact t_M_body_54  ih S r v1 v2 v3 v4 v5 v6 v7 v8 x21 v5 h
            · have h := h.2 c24
              refine xRn.blk (pc1 := 47) (ls1 := [.ref 24, .int v1, .int v2, .int v3, .int v4, .int v5, .int v6, .int v7, .int v8, .int x21, .null, .null]) (st1 := [.int v4]) (hp1 := (hL S r)) (ob := []) [(.iload 4, 2, 4, 0, 0, 0)] [] (by decide +kernel) rfl xall_nil (xSee_nil _) rfl rfl ?_
              refine xRn.goto (tgt := 52) (off := 5) (by decide +kernel) (by decide) ?_
              refine xRn.blk (pc1 := 54) (ls1 := [.ref 24, .int v1, .int v2, .int v3, .int v4, .int v5, .int v6, .int v7, .int v8, .int x21, .int v4, .null]) (st1 := []) (hp1 := (hL S r)) (ob := []) [(.istore 10, 2, 10, 0, 0, 0)] [] (by decide +kernel) rfl xall_nil (xSee_nil _) rfl rfl ?_
              refine xRn.forget (xle_eq (xle_eq (xle_eq (xle_eq (xle_eq (xle_eq (xle_eq (xle_eq (xle_eq (xle_eq (xle_eq (xle_eq xle_nil)))))))))))) ?_
              exact t_M_body_54  ih S r v1 v2 v3 v4 v5 v6 v7 v8 x21 v4 h
          · have h := h.2 c23
            refine xRn.blk (pc1 := 36) (ls1 := [.ref 24, .int v1, .int v2, .int v3, .int v4, .int v5, .int v6, .int v7, .int v8, .int x21, .null, .null]) (st1 := [.int v3]) (hp1 := (hL S r)) (ob := []) [(.iload_n 3, 1, 3, 0, 0, 0)] [] (by decide +kernel) rfl xall_nil (xSee_nil _) rfl rfl ?_
            refine xRn.goto (tgt := 52) (off := 16) (by decide +kernel) (by decide) ?_
            refine xRn.blk (pc1 := 54) (ls1 := [.ref 24, .int v1, .int v2, .int v3, .int v4, .int v5, .int v6, .int v7, .int v8, .int x21, .int v3, .null]) (st1 := []) (hp1 := (hL S r)) (ob := []) [(.istore 10, 2, 10, 0, 0, 0)] [] (by decide +kernel) rfl xall_nil (xSee_nil _) rfl rfl ?_
            refine xRn.forget (xle_eq (xle_eq (xle_eq (xle_eq (xle_eq (xle_eq (xle_eq (xle_eq (xle_eq (xle_eq (xle_eq (xle_eq xle_nil)))))))))))) ?_
            exact t_M_body_54  ih S r v1 v2 v3 v4 v5 v6 v7 v8 x21 v3 h
        · have h := h.2 c22
          refine xRn.blk (pc1 := 26) (ls1 := [.ref 24, .int v1, .int v2, .int v3, .int v4, .int v5, .int v6, .int v7, .int v8, .int x21, .null, .null]) (st1 := [.int v2]) (hp1 := (hL S r)) (ob := []) [(.iload_n 2, 1, 2, 0, 0, 0)] [] (by decide +kernel) rfl xall_nil (xSee_nil _) rfl rfl ?_
          refine xRn.goto (tgt := 52) (off := 26) (by decide +kernel) (by decide) ?_
          refine xRn.blk (pc1 := 54) (ls1 := [.ref 24, .int v1, .int v2, .int v3, .int v4, .int v5, .int v6, .int v7, .int v8, .int x21, .int v2, .null]) (st1 := []) (hp1 := (hL S r)) (ob := []) [(.istore 10, 2, 10, 0, 0, 0)] [] (by decide +kernel) rfl xall_nil (xSee_nil _) rfl rfl ?_
          refine xRn.forget (xle_eq (xle_eq (xle_eq (xle_eq (xle_eq (xle_eq (xle_eq (xle_eq (xle_eq (xle_eq (xle_eq (xle_eq xle_nil)))))))))))) ?_
          exact t_M_body_54  ih S r v1 v2 v3 v4 v5 v6 v7 v8 x21 v2 h
      · rintro _ _ ⟨_, e9, _⟩
        cases e9
def w_M_body  (S : XS) (r : List AE) (p1 : Int32) (p2 : Int32) (p3 : Int32) (p4 : Int32) (p5 : Int32) (p6 : Int32) (K : Int32 → XS → List AE → Prop) : Prop :=
  (∃ j, w_M_body_6 K j S r p1 p2 p3 p4 p5 p6 0 0)
set_option maxRecDepth 100000 in
theorem c_M_body {G : XG} {l : Launch} {d : Nat} (S : XS) (r : List AE) (p1 : Int32) (p2 : Int32) (p3 : Int32) (p4 : Int32) (p5 : Int32) (p6 : Int32) {K : Int32 → XS → List AE → Prop} (h : w_M_body  S r p1 p2 p3 p4 p5 p6 K) : xCt G l (d + 3) xm_M_body [.ref 24, .int p1, .int p2, .int p3, .int p4, .int p5, .int p6] (hL S r) (pI K) := by
  refine xCt.intro (by decide) (by decide) (List.forall_mem_cons.mpr ⟨rfl, (List.forall_mem_cons.mpr ⟨rfl, (List.forall_mem_cons.mpr ⟨rfl, (List.forall_mem_cons.mpr ⟨rfl, (List.forall_mem_cons.mpr ⟨rfl, (List.forall_mem_cons.mpr ⟨rfl, (List.forall_mem_cons.mpr ⟨rfl, (fun _ h => by cases h)⟩)⟩)⟩)⟩)⟩)⟩)⟩) (Nat.le_of_ble_eq_true rfl) rfl ?_
  show xRn G l _ xm_M_body _ 0 [.ref 24, .int p1, .int p2, .int p3, .int p4, .int p5, .int p6, .null, .null, .null, .null, .null] [] (hL S r)
  refine xRn.blk (pc1 := 6) (ls1 := [.ref 24, .int p1, .int p2, .int p3, .int p4, .int p5, .int p6, .int 0, .int 0, .null, .null, .null]) (st1 := []) (hp1 := (hL S r)) (ob := []) [(.iconst 0, 1, 0, 0, 0, 0), (.istore 7, 2, 7, 0, 0, 0), (.iconst 0, 1, 0, 0, 0, 0), (.istore 8, 2, 8, 0, 0, 0)] [] (by decide +kernel) rfl xall_nil (xSee_nil _) rfl rfl ?_
  refine xRn.forget (xle_eq (xle_eq (xle_eq (xle_eq (xle_eq (xle_eq (xle_eq (xle_eq (xle_eq (xle_eq (xle_eq (xle_eq xle_nil)))))))))))) ?_
  obtain ⟨n25, h⟩ := h
  exact t_M_body_6   n25 S r p1 p2 p3 p4 p5 p6 0 0 h
/-! M_make -/
def w_M_make_138   (K : XS → List AE → Prop) : Nat → XS → List AE → Int32 → Int32 → Int32 → Prop
  | 0, _, _, _, _, _ => False
  | n + 1, S, r, v8, v9, v10 => ((v8 ≤ v10 → (w_M_digits S r 10 (fun S3 r4 => (w_M_put S3 r4 61 (fun S6 r7 => (w_M_put S6 r7 (48 + ((v9 - v9 / 256 * 256) / 100)) (fun S9 r10 => (w_M_put S9 r10 (48 + (((v9 - v9 / 256 * 256) / 10) - ((v9 - v9 / 256 * 256) / 10) / 10 * 10)) (fun S12 r13 => (w_M_put S12 r13 (48 + ((v9 - v9 / 256 * 256) - (v9 - v9 / 256 * 256) / 10 * 10)) (fun S15 r16 => (w_M_put S15 r16 1 (fun S18 r19 => (K S18 r19)))))))))))))) ∧ (¬ v8 ≤ v10 → (w_M_byteAt S r v10 (fun x20 S21 r22 => (w_M_make_138 K n S21 r22 v8 (v9 + x20) (v10 + 1))))))
set_option maxRecDepth 100000 in
theorem t_M_make_138 {G : XG} {l : Launch} {d : Nat} {K : XS → List AE → Prop} : ∀ (n : Nat) (S : XS) (r : List AE) (v8 : Int32) (v9 : Int32) (v10 : Int32), w_M_make_138 K n S r v8 v9 v10 → xRn G l (d + 4) xm_M_make (pV K) 138 [.ref 24, .null, .null, .null, .null, .null, .null, .null, .int v8, .int v9, .int v10] [] (hL S r) := by
  intro n
  induction n with
  | zero => intro S r v8 v9 v10 h; exact h.elim
  | succ n ih =>
    intro S r v8 v9 v10 h
    refine xRn.blk (pc1 := 142) (ls1 := [.ref 24, .null, .null, .null, .null, .null, .null, .null, .int v8, .int v9, .int v10]) (st1 := [.int v8, .int v10]) (hp1 := (hL S r)) (ob := []) [(.iload 10, 2, 10, 0, 0, 0), (.iload 8, 2, 8, 0, 0, 0)] [] (by decide +kernel) rfl xall_nil (xSee_nil _) rfl rfl ?_
    refine xRn.ic_ge (tgt := 162) (nx := 145) (off := 20) (by decide +kernel) (by decide) rfl (fun c1 => ?_) (fun c1 => ?_)
    · have h := h.1 c1
      refine xRn.blk (pc1 := 165) (ls1 := [.ref 24, .null, .null, .null, .null, .null, .null, .null, .int v8, .int v9, .int v10]) (st1 := [.int 10, .ref 24]) (hp1 := (hL S r)) (ob := []) [(.aload_n 0, 1, 0, 0, 0, 0), (.bipush 10, 2, 0, 0, 0, 10)] [] (by decide +kernel) rfl xall_nil (xSee_nil _) rfl rfl ?_
      refine xRn.callV (al := [.int 10]) (st := []) (nx := 168) (by decide +kernel) lk_V_M_make_80_M_digits_6_1 rfl rfl (c_M_digits (d := d + 2) S r 10 h) rfl (Nat.le_of_ble_eq_true rfl) rfl rfl ?_ ?_
      · rintro _ _ ⟨S3, r4, e9, rfl, h⟩
        cases e9
        show xRn G l _ _ _ 168 [.ref 24, .null, .null, .null, .null, .null, .null, .null, .int v8, .int v9, .int v10] [] (hL S3 r4)
        refine xRn.blk (pc1 := 171) (ls1 := [.ref 24, .null, .null, .null, .null, .null, .null, .null, .int v8, .int v9, .int v10]) (st1 := [.int 61, .ref 24]) (hp1 := (hL S3 r4)) (ob := []) [(.aload_n 0, 1, 0, 0, 0, 0), (.bipush 61, 2, 0, 0, 0, 61)] [] (by decide +kernel) rfl xall_nil (xSee_nil _) rfl rfl ?_
        refine xRn.callV (al := [.int 61]) (st := []) (nx := 174) (by decide +kernel) lk_V_M_make_76_M_put_6_1 rfl rfl (c_M_put (d := d + 3) S3 r4 61 h) rfl (Nat.le_of_ble_eq_true rfl) rfl rfl ?_ ?_
        · rintro _ _ ⟨S6, r7, e9, rfl, h⟩
          cases e9
          show xRn G l _ _ _ 174 [.ref 24, .null, .null, .null, .null, .null, .null, .null, .int v8, .int v9, .int v10] [] (hL S6 r7)
          refine xRn.blk (pc1 := 187) (ls1 := [.ref 24, .null, .null, .null, .null, .null, .null, .null, .int v8, .int v9, .int v10]) (st1 := [.int (48 + ((v9 - v9 / 256 * 256) / 100)), .ref 24]) (hp1 := (hL S6 r7)) (ob := [¬ (256 : Int32) = 0, ¬ (100 : Int32) = 0]) [(.aload_n 0, 1, 0, 0, 0, 0), (.bipush 48, 2, 0, 0, 0, 48), (.iload 9, 2, 9, 0, 0, 0), (.sipush 256, 3, 0, 0, 0, 256), (.irem, 1, 0, 0, 0, 0), (.bipush 100, 2, 0, 0, 0, 100), (.idiv, 1, 0, 0, 0, 0), (.iadd, 1, 0, 0, 0, 0)] [] (by decide +kernel) rfl (xall_cons (by decide) (xall_cons (by decide) xall_nil)) (xSee_nil _) rfl rfl ?_
          refine xRn.callV (al := [.int (48 + ((v9 - v9 / 256 * 256) / 100))]) (st := []) (nx := 190) (by decide +kernel) lk_V_M_make_76_M_put_6_1 rfl rfl (c_M_put (d := d + 3) S6 r7 (48 + ((v9 - v9 / 256 * 256) / 100)) h) rfl (Nat.le_of_ble_eq_true rfl) rfl rfl ?_ ?_
          · rintro _ _ ⟨S9, r10, e9, rfl, h⟩
            cases e9
            show xRn G l _ _ _ 190 [.ref 24, .null, .null, .null, .null, .null, .null, .null, .int v8, .int v9, .int v10] [] (hL S9 r10)
            refine xRn.blk (pc1 := 206) (ls1 := [.ref 24, .null, .null, .null, .null, .null, .null, .null, .int v8, .int v9, .int v10]) (st1 := [.int (48 + (((v9 - v9 / 256 * 256) / 10) - ((v9 - v9 / 256 * 256) / 10) / 10 * 10)), .ref 24]) (hp1 := (hL S9 r10)) (ob := [¬ (256 : Int32) = 0, ¬ (10 : Int32) = 0, ¬ (10 : Int32) = 0]) [(.aload_n 0, 1, 0, 0, 0, 0), (.bipush 48, 2, 0, 0, 0, 48), (.iload 9, 2, 9, 0, 0, 0), (.sipush 256, 3, 0, 0, 0, 256), (.irem, 1, 0, 0, 0, 0), (.bipush 10, 2, 0, 0, 0, 10), (.idiv, 1, 0, 0, 0, 0), (.bipush 10, 2, 0, 0, 0, 10), (.irem, 1, 0, 0, 0, 0), (.iadd, 1, 0, 0, 0, 0)] [] (by decide +kernel) rfl (xall_cons (by decide) (xall_cons (by decide) (xall_cons (by decide) xall_nil))) (xSee_nil _) rfl rfl ?_
            refine xRn.callV (al := [.int (48 + (((v9 - v9 / 256 * 256) / 10) - ((v9 - v9 / 256 * 256) / 10) / 10 * 10))]) (st := []) (nx := 209) (by decide +kernel) lk_V_M_make_76_M_put_6_1 rfl rfl (c_M_put (d := d + 3) S9 r10 (48 + (((v9 - v9 / 256 * 256) / 10) - ((v9 - v9 / 256 * 256) / 10) / 10 * 10)) h) rfl (Nat.le_of_ble_eq_true rfl) rfl rfl ?_ ?_
            · rintro _ _ ⟨S12, r13, e9, rfl, h⟩
              cases e9
              show xRn G l _ _ _ 209 [.ref 24, .null, .null, .null, .null, .null, .null, .null, .int v8, .int v9, .int v10] [] (hL S12 r13)
              refine xRn.blk (pc1 := 222) (ls1 := [.ref 24, .null, .null, .null, .null, .null, .null, .null, .int v8, .int v9, .int v10]) (st1 := [.int (48 + ((v9 - v9 / 256 * 256) - (v9 - v9 / 256 * 256) / 10 * 10)), .ref 24]) (hp1 := (hL S12 r13)) (ob := [¬ (256 : Int32) = 0, ¬ (10 : Int32) = 0]) [(.aload_n 0, 1, 0, 0, 0, 0), (.bipush 48, 2, 0, 0, 0, 48), (.iload 9, 2, 9, 0, 0, 0), (.sipush 256, 3, 0, 0, 0, 256), (.irem, 1, 0, 0, 0, 0), (.bipush 10, 2, 0, 0, 0, 10), (.irem, 1, 0, 0, 0, 0), (.iadd, 1, 0, 0, 0, 0)] [] (by decide +kernel) rfl (xall_cons (by decide) (xall_cons (by decide) xall_nil)) (xSee_nil _) rfl rfl ?_
              refine xRn.callV (al := [.int (48 + ((v9 - v9 / 256 * 256) - (v9 - v9 / 256 * 256) / 10 * 10))]) (st := []) (nx := 225) (by decide +kernel) lk_V_M_make_76_M_put_6_1 rfl rfl (c_M_put (d := d + 3) S12 r13 (48 + ((v9 - v9 / 256 * 256) - (v9 - v9 / 256 * 256) / 10 * 10)) h) rfl (Nat.le_of_ble_eq_true rfl) rfl rfl ?_ ?_
              · rintro _ _ ⟨S15, r16, e9, rfl, h⟩
                cases e9
                show xRn G l _ _ _ 225 [.ref 24, .null, .null, .null, .null, .null, .null, .null, .int v8, .int v9, .int v10] [] (hL S15 r16)
                refine xRn.blk (pc1 := 227) (ls1 := [.ref 24, .null, .null, .null, .null, .null, .null, .null, .int v8, .int v9, .int v10]) (st1 := [.int 1, .ref 24]) (hp1 := (hL S15 r16)) (ob := []) [(.aload_n 0, 1, 0, 0, 0, 0), (.iconst 1, 1, 0, 0, 0, 1)] [] (by decide +kernel) rfl xall_nil (xSee_nil _) rfl rfl ?_
                refine xRn.callV (al := [.int 1]) (st := []) (nx := 230) (by decide +kernel) lk_V_M_make_76_M_put_6_1 rfl rfl (c_M_put (d := d + 3) S15 r16 1 h) rfl (Nat.le_of_ble_eq_true rfl) rfl rfl ?_ ?_
                · rintro _ _ ⟨S18, r19, e9, rfl, h⟩
                  cases e9
                  show xRn G l _ _ _ 230 [.ref 24, .null, .null, .null, .null, .null, .null, .null, .int v8, .int v9, .int v10] [] (hL S18 r19)
                  exact xRn.vret (by decide +kernel) rfl ⟨_, _, rfl, rfl, h⟩
                · rintro _ _ ⟨_, _, e9, _⟩
                  cases e9
              · rintro _ _ ⟨_, _, e9, _⟩
                cases e9
            · rintro _ _ ⟨_, _, e9, _⟩
              cases e9
          · rintro _ _ ⟨_, _, e9, _⟩
            cases e9
        · rintro _ _ ⟨_, _, e9, _⟩
          cases e9
      · rintro _ _ ⟨_, _, e9, _⟩
        cases e9
    · have h := h.2 c1
      refine xRn.blk (pc1 := 150) (ls1 := [.ref 24, .null, .null, .null, .null, .null, .null, .null, .int v8, .int v9, .int v10]) (st1 := [.int v10, .ref 24, .int v9]) (hp1 := (hL S r)) (ob := []) [(.iload 9, 2, 9, 0, 0, 0), (.aload_n 0, 1, 0, 0, 0, 0), (.iload 10, 2, 10, 0, 0, 0)] [] (by decide +kernel) rfl xall_nil (xSee_nil _) rfl rfl ?_
      refine xRn.callV (al := [.int v10]) (st := [.int v9]) (nx := 153) (by decide +kernel) lk_V_M_make_105_M_byteAt_6_1 rfl rfl (c_M_byteAt (d := d + 3) S r v10 h) rfl (Nat.le_of_ble_eq_true rfl) rfl rfl ?_ ?_
      · rintro _ _ ⟨x20, S21, r22, e9, rfl, h⟩
        cases e9
        show xRn G l _ _ _ 153 [.ref 24, .null, .null, .null, .null, .null, .null, .null, .int v8, .int v9, .int v10] [.int x20, .int v9] (hL S21 r22)
        refine xRn.blk (pc1 := 159) (ls1 := [.ref 24, .null, .null, .null, .null, .null, .null, .null, .int v8, .int (v9 + x20), .int (v10 + 1)]) (st1 := []) (hp1 := (hL S21 r22)) (ob := []) [(.iadd, 1, 0, 0, 0, 0), (.istore 9, 2, 9, 0, 0, 0), (.iinc 10 1, 3, 10, 0, 0, 1)] [] (by decide +kernel) rfl xall_nil (xSee_nil _) rfl rfl ?_
        refine xRn.goto (tgt := 138) (off := (-21)) (by decide +kernel) (by decide) ?_
        refine xRn.forget (xle_eq (xle_eq (xle_eq (xle_eq (xle_eq (xle_eq (xle_eq (xle_eq (xle_eq (xle_eq (xle_eq xle_nil))))))))))) ?_
        exact ih S21 r22 v8 (v9 + x20) (v10 + 1) h
      · rintro _ _ ⟨_, _, _, e9, _⟩
        cases e9
def w_M_make_132   (K : XS → List AE → Prop) (S : XS) (r : List AE) (v8 : Int32) : Prop :=
  (∃ j, w_M_make_138 K j S r v8 0 0)
set_option maxRecDepth 100000 in
theorem t_M_make_132 {G : XG} {l : Launch} {d : Nat} {K : XS → List AE → Prop} (S : XS) (r : List AE) (v8 : Int32) (h : w_M_make_132 K S r v8) : xRn G l (d + 4) xm_M_make (pV K) 132 [.ref 24, .null, .null, .null, .null, .null, .null, .null, .int v8, .null, .null] [] (hL S r) := by
  refine xRn.blk (pc1 := 138) (ls1 := [.ref 24, .null, .null, .null, .null, .null, .null, .null, .int v8, .int 0, .int 0]) (st1 := []) (hp1 := (hL S r)) (ob := []) [(.iconst 0, 1, 0, 0, 0, 0), (.istore 9, 2, 9, 0, 0, 0), (.iconst 0, 1, 0, 0, 0, 0), (.istore 10, 2, 10, 0, 0, 0)] [] (by decide +kernel) rfl xall_nil (xSee_nil _) rfl rfl ?_
  refine xRn.forget (xle_eq (xle_eq (xle_eq (xle_eq (xle_eq (xle_eq (xle_eq (xle_eq (xle_eq (xle_eq (xle_eq xle_nil))))))))))) ?_
  obtain ⟨n23, h⟩ := h
  exact t_M_make_138   n23 S r v8 0 0 h
def w_M_make_97   (K : XS → List AE → Prop) (S : XS) (r : List AE) (v1 : Int32) (v4 : Int32) (v5 : Int32) (v6 : Int32) (v7 : Int32) : Prop :=
  (w_M_body S r v1 v4 v5 v6 v7 1 (fun x24 S25 r26 => (((gF S25 838) = 0 → (w_M_make_132 K S25 r26 (gF S25 818))) ∧ (¬ (gF S25 838) = 0 → (w_M_make_132 K S25 r26 (gF S25 802))))))
set_option maxRecDepth 100000 in
theorem t_M_make_97 {G : XG} {l : Launch} {d : Nat} {K : XS → List AE → Prop} (S : XS) (r : List AE) (v1 : Int32) (v4 : Int32) (v5 : Int32) (v6 : Int32) (v7 : Int32) (h : w_M_make_97 K S r v1 v4 v5 v6 v7) : xRn G l (d + 4) xm_M_make (pV K) 97 [.ref 24, .int v1, .null, .null, .int v4, .int v5, .int v6, .int v7, .null, .null, .null] [] (hL S r) := by
  refine xRn.blk (pc1 := 108) (ls1 := [.ref 24, .int v1, .null, .null, .int v4, .int v5, .int v6, .int v7, .null, .null, .null]) (st1 := [.int 1, .int v7, .int v6, .int v5, .int v4, .int v1, .ref 24]) (hp1 := (hL S r)) (ob := []) [(.aload_n 0, 1, 0, 0, 0, 0), (.iload_n 1, 1, 1, 0, 0, 0), (.iload 4, 2, 4, 0, 0, 0), (.iload 5, 2, 5, 0, 0, 0), (.iload 6, 2, 6, 0, 0, 0), (.iload 7, 2, 7, 0, 0, 0), (.iconst 1, 1, 0, 0, 0, 1)] [] (by decide +kernel) rfl xall_nil (xSee_nil _) rfl rfl ?_
  refine xRn.callV (al := [.int v1, .int v4, .int v5, .int v6, .int v7, .int 1]) (st := []) (nx := 111) (by decide +kernel) lk_V_M_make_101_M_body_6_6 rfl rfl (c_M_body (d := d + 0) S r v1 v4 v5 v6 v7 1 h) rfl (Nat.le_of_ble_eq_true rfl) rfl rfl ?_ ?_
  · rintro _ _ ⟨x24, S25, r26, e9, rfl, h⟩
    cases e9
    show xRn G l _ _ _ 111 [.ref 24, .int v1, .null, .null, .int v4, .int v5, .int v6, .int v7, .null, .null, .null] [.int x24] (hL S25 r26)
    refine xRn.blk (pc1 := 116) (ls1 := [.ref 24, .int v1, .null, .null, .int v4, .int v5, .int v6, .int v7, .null, .null, .null]) (st1 := [.int (gF S25 838)]) (hp1 := (hL S25 r26)) (ob := [(24 : Nat) = 24]) [(.pop, 1, 0, 0, 0, 0), (.aload_n 0, 1, 0, 0, 0, 0), (.getfield 63, 3, 38, 6, 0, 0)] [(24, xc8 S25)] (by decide +kernel) rfl (xall_cons rfl xall_nil) (xSee_cons rfl (xne_nil _) (xSee_nil _)) rfl rfl ?_
    refine xRn.if_eq (tgt := 126) (nx := 119) (off := 10) (by decide +kernel) (by decide) rfl (fun c27 => ?_) (fun c27 => ?_)
    · have h := h.1 c27
      refine xRn.blk (pc1 := 132) (ls1 := [.ref 24, .int v1, .null, .null, .int v4, .int v5, .int v6, .int v7, .int (gF S25 818), .null, .null]) (st1 := []) (hp1 := (hL S25 r26)) (ob := [(24 : Nat) = 24]) [(.aload_n 0, 1, 0, 0, 0, 0), (.getfield 73, 3, 18, 6, 0, 0), (.istore 8, 2, 8, 0, 0, 0)] [(24, xc8 S25)] (by decide +kernel) rfl (xall_cons rfl xall_nil) (xSee_cons rfl (xne_nil _) (xSee_nil _)) rfl rfl ?_
      refine xRn.forget (xle_eq (xle_no (xle_eq (xle_eq (xle_no (xle_no (xle_no (xle_no (xle_eq (xle_eq (xle_eq xle_nil))))))))))) ?_
      exact t_M_make_132   S25 r26 (gF S25 818) h
    · have h := h.2 c27
      refine xRn.blk (pc1 := 123) (ls1 := [.ref 24, .int v1, .null, .null, .int v4, .int v5, .int v6, .int v7, .null, .null, .null]) (st1 := [.int (gF S25 802)]) (hp1 := (hL S25 r26)) (ob := [(24 : Nat) = 24]) [(.aload_n 0, 1, 0, 0, 0, 0), (.getfield 67, 3, 2, 6, 0, 0)] [(24, xc8 S25)] (by decide +kernel) rfl (xall_cons rfl xall_nil) (xSee_cons rfl (xne_nil _) (xSee_nil _)) rfl rfl ?_
      refine xRn.goto (tgt := 130) (off := 7) (by decide +kernel) (by decide) ?_
      refine xRn.blk (pc1 := 132) (ls1 := [.ref 24, .int v1, .null, .null, .int v4, .int v5, .int v6, .int v7, .int (gF S25 802), .null, .null]) (st1 := []) (hp1 := (hL S25 r26)) (ob := []) [(.istore 8, 2, 8, 0, 0, 0)] [] (by decide +kernel) rfl xall_nil (xSee_nil _) rfl rfl ?_
      refine xRn.forget (xle_eq (xle_no (xle_eq (xle_eq (xle_no (xle_no (xle_no (xle_no (xle_eq (xle_eq (xle_eq xle_nil))))))))))) ?_
      exact t_M_make_132   S25 r26 (gF S25 802) h
  · rintro _ _ ⟨_, _, _, e9, _⟩
    cases e9
def w_M_make_71   (K : XS → List AE → Prop) (S : XS) (r : List AE) (v1 : Int32) (v2 : Int32) (v3 : Int32) (v4 : Int32) (v5 : Int32) (v6 : Int32) (v7 : Int32) : Prop :=
  (w_M_letter S r 35 v1 (fun S29 r30 => (w_M_field S29 r30 34 v2 (fun S32 r33 => ((v3 = 0 → (w_M_make_97 K S32 r33 v1 v4 v5 v6 v7)) ∧ (¬ v3 = 0 → (w_M_letter S32 r33 43 89 (fun S36 r37 => (w_M_make_97 K S36 r37 v1 v4 v5 v6 v7)))))))))
set_option maxRecDepth 100000 in
theorem t_M_make_71 {G : XG} {l : Launch} {d : Nat} {K : XS → List AE → Prop} (S : XS) (r : List AE) (v1 : Int32) (v2 : Int32) (v3 : Int32) (v4 : Int32) (v5 : Int32) (v6 : Int32) (v7 : Int32) (h : w_M_make_71 K S r v1 v2 v3 v4 v5 v6 v7) : xRn G l (d + 4) xm_M_make (pV K) 71 [.ref 24, .int v1, .int v2, .int v3, .int v4, .int v5, .int v6, .int v7, .null, .null, .null] [] (hL S r) := by
  refine xRn.blk (pc1 := 75) (ls1 := [.ref 24, .int v1, .int v2, .int v3, .int v4, .int v5, .int v6, .int v7, .null, .null, .null]) (st1 := [.int v1, .int 35, .ref 24]) (hp1 := (hL S r)) (ob := []) [(.aload_n 0, 1, 0, 0, 0, 0), (.bipush 35, 2, 0, 0, 0, 35), (.iload_n 1, 1, 1, 0, 0, 0)] [] (by decide +kernel) rfl xall_nil (xSee_nil _) rfl rfl ?_
  refine xRn.callV (al := [.int 35, .int v1]) (st := []) (nx := 78) (by decide +kernel) lk_V_M_make_94_M_letter_6_2 rfl rfl (c_M_letter (d := d + 1) S r 35 v1 h) rfl (Nat.le_of_ble_eq_true rfl) rfl rfl ?_ ?_
  · rintro _ _ ⟨S29, r30, e9, rfl, h⟩
    cases e9
    show xRn G l _ _ _ 78 [.ref 24, .int v1, .int v2, .int v3, .int v4, .int v5, .int v6, .int v7, .null, .null, .null] [] (hL S29 r30)
    refine xRn.blk (pc1 := 82) (ls1 := [.ref 24, .int v1, .int v2, .int v3, .int v4, .int v5, .int v6, .int v7, .null, .null, .null]) (st1 := [.int v2, .int 34, .ref 24]) (hp1 := (hL S29 r30)) (ob := []) [(.aload_n 0, 1, 0, 0, 0, 0), (.bipush 34, 2, 0, 0, 0, 34), (.iload_n 2, 1, 2, 0, 0, 0)] [] (by decide +kernel) rfl xall_nil (xSee_nil _) rfl rfl ?_
    refine xRn.callV (al := [.int 34, .int v2]) (st := []) (nx := 85) (by decide +kernel) lk_V_M_make_98_M_field_6_2 rfl rfl (c_M_field (d := d + 1) S29 r30 34 v2 h) rfl (Nat.le_of_ble_eq_true rfl) rfl rfl ?_ ?_
    · rintro _ _ ⟨S32, r33, e9, rfl, h⟩
      cases e9
      show xRn G l _ _ _ 85 [.ref 24, .int v1, .int v2, .int v3, .int v4, .int v5, .int v6, .int v7, .null, .null, .null] [] (hL S32 r33)
      refine xRn.blk (pc1 := 86) (ls1 := [.ref 24, .int v1, .int v2, .int v3, .int v4, .int v5, .int v6, .int v7, .null, .null, .null]) (st1 := [.int v3]) (hp1 := (hL S32 r33)) (ob := []) [(.iload_n 3, 1, 3, 0, 0, 0)] [] (by decide +kernel) rfl xall_nil (xSee_nil _) rfl rfl ?_
      refine xRn.if_eq (tgt := 97) (nx := 89) (off := 11) (by decide +kernel) (by decide) rfl (fun c34 => ?_) (fun c34 => ?_)
      · have h := h.1 c34
        refine xRn.forget (xle_eq (xle_eq (xle_no (xle_no (xle_eq (xle_eq (xle_eq (xle_eq (xle_eq (xle_eq (xle_eq xle_nil))))))))))) ?_
        exact t_M_make_97   S32 r33 v1 v4 v5 v6 v7 h
      · have h := h.2 c34
        refine xRn.blk (pc1 := 94) (ls1 := [.ref 24, .int v1, .int v2, .int v3, .int v4, .int v5, .int v6, .int v7, .null, .null, .null]) (st1 := [.int 89, .int 43, .ref 24]) (hp1 := (hL S32 r33)) (ob := []) [(.aload_n 0, 1, 0, 0, 0, 0), (.bipush 43, 2, 0, 0, 0, 43), (.bipush 89, 2, 0, 0, 0, 89)] [] (by decide +kernel) rfl xall_nil (xSee_nil _) rfl rfl ?_
        refine xRn.callV (al := [.int 43, .int 89]) (st := []) (nx := 97) (by decide +kernel) lk_V_M_make_94_M_letter_6_2 rfl rfl (c_M_letter (d := d + 1) S32 r33 43 89 h) rfl (Nat.le_of_ble_eq_true rfl) rfl rfl ?_ ?_
        · rintro _ _ ⟨S36, r37, e9, rfl, h⟩
          cases e9
          show xRn G l _ _ _ 97 [.ref 24, .int v1, .int v2, .int v3, .int v4, .int v5, .int v6, .int v7, .null, .null, .null] [] (hL S36 r37)
          refine xRn.forget (xle_eq (xle_eq (xle_no (xle_no (xle_eq (xle_eq (xle_eq (xle_eq (xle_eq (xle_eq (xle_eq xle_nil))))))))))) ?_
          exact t_M_make_97   S36 r37 v1 v4 v5 v6 v7 h
        · rintro _ _ ⟨_, _, e9, _⟩
          cases e9
    · rintro _ _ ⟨_, _, e9, _⟩
      cases e9
  · rintro _ _ ⟨_, _, e9, _⟩
    cases e9
def w_M_make_24   (K : XS → List AE → Prop) (S : XS) (r : List AE) (v1 : Int32) (v2 : Int32) (v3 : Int32) (v4 : Int32) (v5 : Int32) (v6 : Int32) (v7 : Int32) : Prop :=
  (w_M_letter S r 8 70 (fun S39 r40 => (w_M_room 34 v2 (fun x41 => ((v3 = 0 → (w_M_body S39 r40 v1 v4 v5 v6 v7 0 (fun x43 S44 r45 => (w_M_field S44 r45 9 (((5 + x41) + 0) + x43) (fun S47 r48 => (w_M_make_71 K S47 r48 v1 v2 v3 v4 v5 v6 v7)))))) ∧ (¬ v3 = 0 → (w_M_body S39 r40 v1 v4 v5 v6 v7 0 (fun x49 S50 r51 => (w_M_field S50 r51 9 (((5 + x41) + 5) + x49) (fun S53 r54 => (w_M_make_71 K S53 r54 v1 v2 v3 v4 v5 v6 v7)))))))))))
set_option maxRecDepth 100000 in
theorem t_M_make_24 {G : XG} {l : Launch} {d : Nat} {K : XS → List AE → Prop} (S : XS) (r : List AE) (v1 : Int32) (v2 : Int32) (v3 : Int32) (v4 : Int32) (v5 : Int32) (v6 : Int32) (v7 : Int32) (h : w_M_make_24 K S r v1 v2 v3 v4 v5 v6 v7) : xRn G l (d + 4) xm_M_make (pV K) 24 [.ref 24, .int v1, .int v2, .int v3, .int v4, .int v5, .int v6, .int v7, .null, .null, .null] [] (hL S r) := by
  refine xRn.blk (pc1 := 29) (ls1 := [.ref 24, .int v1, .int v2, .int v3, .int v4, .int v5, .int v6, .int v7, .null, .null, .null]) (st1 := [.int 70, .int 8, .ref 24]) (hp1 := (hL S r)) (ob := []) [(.aload_n 0, 1, 0, 0, 0, 0), (.bipush 8, 2, 0, 0, 0, 8), (.bipush 70, 2, 0, 0, 0, 70)] [] (by decide +kernel) rfl xall_nil (xSee_nil _) rfl rfl ?_
  refine xRn.callV (al := [.int 8, .int 70]) (st := []) (nx := 32) (by decide +kernel) lk_V_M_make_94_M_letter_6_2 rfl rfl (c_M_letter (d := d + 1) S r 8 70 h) rfl (Nat.le_of_ble_eq_true rfl) rfl rfl ?_ ?_
  · rintro _ _ ⟨S39, r40, e9, rfl, h⟩
    cases e9
    show xRn G l _ _ _ 32 [.ref 24, .int v1, .int v2, .int v3, .int v4, .int v5, .int v6, .int v7, .null, .null, .null] [] (hL S39 r40)
    refine xRn.blk (pc1 := 39) (ls1 := [.ref 24, .int v1, .int v2, .int v3, .int v4, .int v5, .int v6, .int v7, .null, .null, .null]) (st1 := [.int v2, .int 34, .int 5, .int 9, .ref 24]) (hp1 := (hL S39 r40)) (ob := []) [(.aload_n 0, 1, 0, 0, 0, 0), (.bipush 9, 2, 0, 0, 0, 9), (.iconst 5, 1, 0, 0, 0, 5), (.bipush 34, 2, 0, 0, 0, 34), (.iload_n 2, 1, 2, 0, 0, 0)] [] (by decide +kernel) rfl xall_nil (xSee_nil _) rfl rfl ?_
    refine xRn.callS (al := [.int 34, .int v2]) (st := [.int 5, .int 9, .ref 24]) (nx := 42) (by decide +kernel) lk_S_M_make_91_M_room_2 rfl (c_M_room (d := d + 2) _ 34 v2 h) rfl (Nat.le_of_ble_eq_true rfl) rfl rfl ?_ ?_
    · rintro _ _ ⟨x41, e9, e8, h⟩
      cases e9
      rw [e8]
      show xRn G l _ _ _ 42 [.ref 24, .int v1, .int v2, .int v3, .int v4, .int v5, .int v6, .int v7, .null, .null, .null] [.int x41, .int 5, .int 9, .ref 24] (hL S39 r40)
      refine xRn.blk (pc1 := 44) (ls1 := [.ref 24, .int v1, .int v2, .int v3, .int v4, .int v5, .int v6, .int v7, .null, .null, .null]) (st1 := [.int v3, .int (5 + x41), .int 9, .ref 24]) (hp1 := (hL S39 r40)) (ob := []) [(.iadd, 1, 0, 0, 0, 0), (.iload_n 3, 1, 3, 0, 0, 0)] [] (by decide +kernel) rfl xall_nil (xSee_nil _) rfl rfl ?_
      refine xRn.if_eq (tgt := 51) (nx := 47) (off := 7) (by decide +kernel) (by decide) rfl (fun c42 => ?_) (fun c42 => ?_)
      · have h := h.1 c42
        refine xRn.blk (pc1 := 64) (ls1 := [.ref 24, .int v1, .int v2, .int v3, .int v4, .int v5, .int v6, .int v7, .null, .null, .null]) (st1 := [.int 0, .int v7, .int v6, .int v5, .int v4, .int v1, .ref 24, .int ((5 + x41) + 0), .int 9, .ref 24]) (hp1 := (hL S39 r40)) (ob := []) [(.iconst 0, 1, 0, 0, 0, 0), (.iadd, 1, 0, 0, 0, 0), (.aload_n 0, 1, 0, 0, 0, 0), (.iload_n 1, 1, 1, 0, 0, 0), (.iload 4, 2, 4, 0, 0, 0), (.iload 5, 2, 5, 0, 0, 0), (.iload 6, 2, 6, 0, 0, 0), (.iload 7, 2, 7, 0, 0, 0), (.iconst 0, 1, 0, 0, 0, 0)] [] (by decide +kernel) rfl xall_nil (xSee_nil _) rfl rfl ?_
        refine xRn.callV (al := [.int v1, .int v4, .int v5, .int v6, .int v7, .int 0]) (st := [.int ((5 + x41) + 0), .int 9, .ref 24]) (nx := 67) (by decide +kernel) lk_V_M_make_101_M_body_6_6 rfl rfl (c_M_body (d := d + 0) S39 r40 v1 v4 v5 v6 v7 0 h) rfl (Nat.le_of_ble_eq_true rfl) rfl rfl ?_ ?_
        · rintro _ _ ⟨x43, S44, r45, e9, rfl, h⟩
          cases e9
          show xRn G l _ _ _ 67 [.ref 24, .int v1, .int v2, .int v3, .int v4, .int v5, .int v6, .int v7, .null, .null, .null] [.int x43, .int ((5 + x41) + 0), .int 9, .ref 24] (hL S44 r45)
          refine xRn.blk (pc1 := 68) (ls1 := [.ref 24, .int v1, .int v2, .int v3, .int v4, .int v5, .int v6, .int v7, .null, .null, .null]) (st1 := [.int (((5 + x41) + 0) + x43), .int 9, .ref 24]) (hp1 := (hL S44 r45)) (ob := []) [(.iadd, 1, 0, 0, 0, 0)] [] (by decide +kernel) rfl xall_nil (xSee_nil _) rfl rfl ?_
          refine xRn.callV (al := [.int 9, .int (((5 + x41) + 0) + x43)]) (st := []) (nx := 71) (by decide +kernel) lk_V_M_make_98_M_field_6_2 rfl rfl (c_M_field (d := d + 1) S44 r45 9 (((5 + x41) + 0) + x43) h) rfl (Nat.le_of_ble_eq_true rfl) rfl rfl ?_ ?_
          · rintro _ _ ⟨S47, r48, e9, rfl, h⟩
            cases e9
            show xRn G l _ _ _ 71 [.ref 24, .int v1, .int v2, .int v3, .int v4, .int v5, .int v6, .int v7, .null, .null, .null] [] (hL S47 r48)
            refine xRn.forget (xle_eq (xle_eq (xle_eq (xle_eq (xle_eq (xle_eq (xle_eq (xle_eq (xle_eq (xle_eq (xle_eq xle_nil))))))))))) ?_
            exact t_M_make_71   S47 r48 v1 v2 v3 v4 v5 v6 v7 h
          · rintro _ _ ⟨_, _, e9, _⟩
            cases e9
        · rintro _ _ ⟨_, _, _, e9, _⟩
          cases e9
      · have h := h.2 c42
        refine xRn.blk (pc1 := 48) (ls1 := [.ref 24, .int v1, .int v2, .int v3, .int v4, .int v5, .int v6, .int v7, .null, .null, .null]) (st1 := [.int 5, .int (5 + x41), .int 9, .ref 24]) (hp1 := (hL S39 r40)) (ob := []) [(.iconst 5, 1, 0, 0, 0, 5)] [] (by decide +kernel) rfl xall_nil (xSee_nil _) rfl rfl ?_
        refine xRn.goto (tgt := 52) (off := 4) (by decide +kernel) (by decide) ?_
        refine xRn.blk (pc1 := 64) (ls1 := [.ref 24, .int v1, .int v2, .int v3, .int v4, .int v5, .int v6, .int v7, .null, .null, .null]) (st1 := [.int 0, .int v7, .int v6, .int v5, .int v4, .int v1, .ref 24, .int ((5 + x41) + 5), .int 9, .ref 24]) (hp1 := (hL S39 r40)) (ob := []) [(.iadd, 1, 0, 0, 0, 0), (.aload_n 0, 1, 0, 0, 0, 0), (.iload_n 1, 1, 1, 0, 0, 0), (.iload 4, 2, 4, 0, 0, 0), (.iload 5, 2, 5, 0, 0, 0), (.iload 6, 2, 6, 0, 0, 0), (.iload 7, 2, 7, 0, 0, 0), (.iconst 0, 1, 0, 0, 0, 0)] [] (by decide +kernel) rfl xall_nil (xSee_nil _) rfl rfl ?_
        refine xRn.callV (al := [.int v1, .int v4, .int v5, .int v6, .int v7, .int 0]) (st := [.int ((5 + x41) + 5), .int 9, .ref 24]) (nx := 67) (by decide +kernel) lk_V_M_make_101_M_body_6_6 rfl rfl (c_M_body (d := d + 0) S39 r40 v1 v4 v5 v6 v7 0 h) rfl (Nat.le_of_ble_eq_true rfl) rfl rfl ?_ ?_
        · rintro _ _ ⟨x49, S50, r51, e9, rfl, h⟩
          cases e9
          show xRn G l _ _ _ 67 [.ref 24, .int v1, .int v2, .int v3, .int v4, .int v5, .int v6, .int v7, .null, .null, .null] [.int x49, .int ((5 + x41) + 5), .int 9, .ref 24] (hL S50 r51)
          refine xRn.blk (pc1 := 68) (ls1 := [.ref 24, .int v1, .int v2, .int v3, .int v4, .int v5, .int v6, .int v7, .null, .null, .null]) (st1 := [.int (((5 + x41) + 5) + x49), .int 9, .ref 24]) (hp1 := (hL S50 r51)) (ob := []) [(.iadd, 1, 0, 0, 0, 0)] [] (by decide +kernel) rfl xall_nil (xSee_nil _) rfl rfl ?_
          refine xRn.callV (al := [.int 9, .int (((5 + x41) + 5) + x49)]) (st := []) (nx := 71) (by decide +kernel) lk_V_M_make_98_M_field_6_2 rfl rfl (c_M_field (d := d + 1) S50 r51 9 (((5 + x41) + 5) + x49) h) rfl (Nat.le_of_ble_eq_true rfl) rfl rfl ?_ ?_
          · rintro _ _ ⟨S53, r54, e9, rfl, h⟩
            cases e9
            show xRn G l _ _ _ 71 [.ref 24, .int v1, .int v2, .int v3, .int v4, .int v5, .int v6, .int v7, .null, .null, .null] [] (hL S53 r54)
            refine xRn.forget (xle_eq (xle_eq (xle_eq (xle_eq (xle_eq (xle_eq (xle_eq (xle_eq (xle_eq (xle_eq (xle_eq xle_nil))))))))))) ?_
            exact t_M_make_71   S53 r54 v1 v2 v3 v4 v5 v6 v7 h
          · rintro _ _ ⟨_, _, e9, _⟩
            cases e9
        · rintro _ _ ⟨_, _, _, e9, _⟩
          cases e9
    · rintro _ _ ⟨_, e9, _⟩
      cases e9
  · rintro _ _ ⟨_, _, e9, _⟩
    cases e9
def w_M_make  (S : XS) (r : List AE) (p1 : Int32) (p2 : Int32) (p3 : Int32) (p4 : Int32) (p5 : Int32) (p6 : Int32) (p7 : Int32) (K : XS → List AE → Prop) : Prop :=
  (((gF S 838) = 0 → (w_M_make_24 K (sF (sF S 818 0) 802 (gF S 802)) r p1 p2 p3 p4 p5 p6 p7)) ∧ (¬ (gF S 838) = 0 → (w_M_make_24 K (sF (sF S 818 0) 802 0) r p1 p2 p3 p4 p5 p6 p7)))
set_option maxRecDepth 100000 in
theorem c_M_make {G : XG} {l : Launch} {d : Nat} (S : XS) (r : List AE) (p1 : Int32) (p2 : Int32) (p3 : Int32) (p4 : Int32) (p5 : Int32) (p6 : Int32) (p7 : Int32) {K : XS → List AE → Prop} (h : w_M_make  S r p1 p2 p3 p4 p5 p6 p7 K) : xCt G l (d + 4) xm_M_make [.ref 24, .int p1, .int p2, .int p3, .int p4, .int p5, .int p6, .int p7] (hL S r) (pV K) := by
  refine xCt.intro (by decide) (by decide) (List.forall_mem_cons.mpr ⟨rfl, (List.forall_mem_cons.mpr ⟨rfl, (List.forall_mem_cons.mpr ⟨rfl, (List.forall_mem_cons.mpr ⟨rfl, (List.forall_mem_cons.mpr ⟨rfl, (List.forall_mem_cons.mpr ⟨rfl, (List.forall_mem_cons.mpr ⟨rfl, (List.forall_mem_cons.mpr ⟨rfl, (fun _ h => by cases h)⟩)⟩)⟩)⟩)⟩)⟩)⟩)⟩) (Nat.le_of_ble_eq_true rfl) rfl ?_
  show xRn G l _ xm_M_make _ 0 [.ref 24, .int p1, .int p2, .int p3, .int p4, .int p5, .int p6, .int p7, .null, .null, .null] [] (hL S r)
  refine xRn.blk (pc1 := 10) (ls1 := [.ref 24, .int p1, .int p2, .int p3, .int p4, .int p5, .int p6, .int p7, .null, .null, .null]) (st1 := [.int (gF S 838), .ref 24]) (hp1 := (hL (sF S 818 0) r)) (ob := [(24 : Nat) = 24, (24 : Nat) = 24]) [(.aload_n 0, 1, 0, 0, 0, 0), (.iconst 0, 1, 0, 0, 0, 0), (.putfield 73, 3, 18, 6, 0, 0), (.aload_n 0, 1, 0, 0, 0, 0), (.aload_n 0, 1, 0, 0, 0, 0), (.getfield 63, 3, 38, 6, 0, 0)] [(24, xc8 S)] (by decide +kernel) rfl (xall_cons rfl (xall_cons rfl xall_nil)) (xSee_cons rfl (xne_nil _) (xSee_nil _)) rfl rfl ?_
  refine xRn.if_eq (tgt := 17) (nx := 13) (off := 7) (by decide +kernel) (by decide) rfl (fun c55 => ?_) (fun c55 => ?_)
  · have h := h.1 c55
    refine xRn.blk (pc1 := 24) (ls1 := [.ref 24, .int p1, .int p2, .int p3, .int p4, .int p5, .int p6, .int p7, .null, .null, .null]) (st1 := []) (hp1 := (hL (sF (sF S 818 0) 802 (gF S 802)) r)) (ob := [(24 : Nat) = 24, (24 : Nat) = 24]) [(.aload_n 0, 1, 0, 0, 0, 0), (.getfield 67, 3, 2, 6, 0, 0), (.putfield 67, 3, 2, 6, 0, 0)] [(24, xc8 (sF S 818 0))] (by decide +kernel) rfl (xall_cons rfl (xall_cons rfl xall_nil)) (xSee_cons rfl (xne_nil _) (xSee_nil _)) rfl rfl ?_
    refine xRn.forget (xle_eq (xle_eq (xle_eq (xle_eq (xle_eq (xle_eq (xle_eq (xle_eq (xle_eq (xle_eq (xle_eq xle_nil))))))))))) ?_
    exact t_M_make_24   (sF (sF S 818 0) 802 (gF S 802)) r p1 p2 p3 p4 p5 p6 p7 h
  · have h := h.2 c55
    refine xRn.blk (pc1 := 14) (ls1 := [.ref 24, .int p1, .int p2, .int p3, .int p4, .int p5, .int p6, .int p7, .null, .null, .null]) (st1 := [.int 0, .ref 24]) (hp1 := (hL (sF S 818 0) r)) (ob := []) [(.iconst 0, 1, 0, 0, 0, 0)] [] (by decide +kernel) rfl xall_nil (xSee_nil _) rfl rfl ?_
    refine xRn.goto (tgt := 21) (off := 7) (by decide +kernel) (by decide) ?_
    refine xRn.blk (pc1 := 24) (ls1 := [.ref 24, .int p1, .int p2, .int p3, .int p4, .int p5, .int p6, .int p7, .null, .null, .null]) (st1 := []) (hp1 := (hL (sF (sF S 818 0) 802 0) r)) (ob := [(24 : Nat) = 24]) [(.putfield 67, 3, 2, 6, 0, 0)] [(24, xc8 (sF S 818 0))] (by decide +kernel) rfl (xall_cons rfl xall_nil) (xSee_cons rfl (xne_nil _) (xSee_nil _)) rfl rfl ?_
    refine xRn.forget (xle_eq (xle_eq (xle_eq (xle_eq (xle_eq (xle_eq (xle_eq (xle_eq (xle_eq (xle_eq (xle_eq xle_nil))))))))))) ?_
    exact t_M_make_24   (sF (sF S 818 0) 802 0) r p1 p2 p3 p4 p5 p6 p7 h
/-! M_goes -/
def w_M_goes_42   (K : XS → List AE → Prop) (S : XS) (r : List AE) : Prop :=
  (K (sF (sF S 815 ((gF S 815) + 1)) 824 (gF S 822)) r)
set_option maxRecDepth 100000 in
theorem t_M_goes_42 {G : XG} {l : Launch} {d : Nat} {K : XS → List AE → Prop} (S : XS) (r : List AE) (h : w_M_goes_42 K S r) : xRn G l (d + 5) xm_M_goes (pV K) 42 [.ref 24, .null, .null, .null, .null, .null, .null, .null] [] (hL S r) := by
  refine xRn.blk (pc1 := 60) (ls1 := [.ref 24, .null, .null, .null, .null, .null, .null, .null]) (st1 := []) (hp1 := (hL (sF (sF S 815 ((gF S 815) + 1)) 824 (gF S 822)) r)) (ob := [(24 : Nat) = 24, (24 : Nat) = 24, (24 : Nat) = 24, (24 : Nat) = 24]) [(.aload_n 0, 1, 0, 0, 0, 0), (.dup, 1, 0, 0, 0, 0), (.getfield 70, 3, 15, 6, 0, 0), (.iconst 1, 1, 0, 0, 0, 1), (.iadd, 1, 0, 0, 0, 0), (.putfield 70, 3, 15, 6, 0, 0), (.aload_n 0, 1, 0, 0, 0, 0), (.aload_n 0, 1, 0, 0, 0, 0), (.getfield 112, 3, 22, 6, 0, 0), (.putfield 115, 3, 24, 6, 0, 0)] [(24, xc8 S)] (by decide +kernel) rfl (xall_cons rfl (xall_cons rfl (xall_cons rfl (xall_cons rfl xall_nil)))) (xSee_cons rfl (xne_nil _) (xSee_nil _)) rfl rfl ?_
  exact xRn.vret (by decide +kernel) rfl ⟨_, _, rfl, rfl, h⟩
def w_M_goes  (S : XS) (r : List AE) (p1 : Int32) (p2 : Int32) (p3 : Int32) (p4 : Int32) (p5 : Int32) (p6 : Int32) (p7 : Int32) (K : XS → List AE → Prop) : Prop :=
  (w_M_make (sF S 838 0) r p1 p2 p3 p4 p5 p6 p7 (fun S2 r3 => (((20 : Int32) ≤ (gF S2 815) → (w_M_goes_42 K S2 r3)) ∧ (¬ (20 : Int32) ≤ (gF S2 815) → (vp_in (gF S2 815) 20) ∧ (w_M_goes_42 K (sA S2 14 (upd (gA S2 14) (gF S2 815).toNatClampNeg (gF S2 818))) r3)))))
set_option maxRecDepth 100000 in
theorem c_M_goes {G : XG} {l : Launch} {d : Nat} (S : XS) (r : List AE) (p1 : Int32) (p2 : Int32) (p3 : Int32) (p4 : Int32) (p5 : Int32) (p6 : Int32) (p7 : Int32) {K : XS → List AE → Prop} (h : w_M_goes  S r p1 p2 p3 p4 p5 p6 p7 K) : xCt G l (d + 5) xm_M_goes [.ref 24, .int p1, .int p2, .int p3, .int p4, .int p5, .int p6, .int p7] (hL S r) (pV K) := by
  refine xCt.intro (by decide) (by decide) (List.forall_mem_cons.mpr ⟨rfl, (List.forall_mem_cons.mpr ⟨rfl, (List.forall_mem_cons.mpr ⟨rfl, (List.forall_mem_cons.mpr ⟨rfl, (List.forall_mem_cons.mpr ⟨rfl, (List.forall_mem_cons.mpr ⟨rfl, (List.forall_mem_cons.mpr ⟨rfl, (List.forall_mem_cons.mpr ⟨rfl, (fun _ h => by cases h)⟩)⟩)⟩)⟩)⟩)⟩)⟩)⟩) (Nat.le_of_ble_eq_true rfl) rfl ?_
  show xRn G l _ xm_M_goes _ 0 [.ref 24, .int p1, .int p2, .int p3, .int p4, .int p5, .int p6, .int p7] [] (hL S r)
  refine xRn.blk (pc1 := 17) (ls1 := [.ref 24, .int p1, .int p2, .int p3, .int p4, .int p5, .int p6, .int p7]) (st1 := [.int p7, .int p6, .int p5, .int p4, .int p3, .int p2, .int p1, .ref 24]) (hp1 := (hL (sF S 838 0) r)) (ob := [(24 : Nat) = 24, narrow .boolean (.int 0) = .int 0 ∧ fits .boolean (.int 0) = true]) [(.aload_n 0, 1, 0, 0, 0, 0), (.iconst 0, 1, 0, 0, 0, 0), (.putfield 63, 3, 38, 6, 0, 0), (.aload_n 0, 1, 0, 0, 0, 0), (.iload_n 1, 1, 1, 0, 0, 0), (.iload_n 2, 1, 2, 0, 0, 0), (.iload_n 3, 1, 3, 0, 0, 0), (.iload 4, 2, 4, 0, 0, 0), (.iload 5, 2, 5, 0, 0, 0), (.iload 6, 2, 6, 0, 0, 0), (.iload 7, 2, 7, 0, 0, 0)] [(24, xc8 S)] (by decide +kernel) rfl (xall_cons rfl (xall_cons (⟨rfl, rfl⟩) xall_nil)) (xSee_cons rfl (xne_nil _) (xSee_nil _)) rfl rfl ?_
  refine xRn.callV (al := [.int p1, .int p2, .int p3, .int p4, .int p5, .int p6, .int p7]) (st := []) (nx := 20) (by decide +kernel) lk_V_M_goes_108_M_make_6_7 rfl rfl (c_M_make (d := d + 0) (sF S 838 0) r p1 p2 p3 p4 p5 p6 p7 h) rfl (Nat.le_of_ble_eq_true rfl) rfl rfl ?_ ?_
  · rintro _ _ ⟨S2, r3, e9, rfl, h⟩
    cases e9
    show xRn G l _ _ _ 20 [.ref 24, .int p1, .int p2, .int p3, .int p4, .int p5, .int p6, .int p7] [] (hL S2 r3)
    refine xRn.blk (pc1 := 26) (ls1 := [.ref 24, .int p1, .int p2, .int p3, .int p4, .int p5, .int p6, .int p7]) (st1 := [.int 20, .int (gF S2 815)]) (hp1 := (hL S2 r3)) (ob := [(24 : Nat) = 24]) [(.aload_n 0, 1, 0, 0, 0, 0), (.getfield 70, 3, 15, 6, 0, 0), (.bipush 20, 2, 0, 0, 0, 20)] [(24, xc8 S2)] (by decide +kernel) rfl (xall_cons rfl xall_nil) (xSee_cons rfl (xne_nil _) (xSee_nil _)) rfl rfl ?_
    refine xRn.ic_ge (tgt := 42) (nx := 29) (off := 16) (by decide +kernel) (by decide) rfl (fun c4 => ?_) (fun c4 => ?_)
    · have h := h.1 c4
      refine xRn.forget (xle_eq (xle_no (xle_no (xle_no (xle_no (xle_no (xle_no (xle_no xle_nil)))))))) ?_
      exact t_M_goes_42   S2 r3 h
    · have h := h.2 c4
      obtain ⟨o5, h⟩ := h
      refine xRn.blk (pc1 := 42) (ls1 := [.ref 24, .int p1, .int p2, .int p3, .int p4, .int p5, .int p6, .int p7]) (st1 := []) (hp1 := (hL (sA S2 14 (upd (gA S2 14) (gF S2 815).toNatClampNeg (gF S2 818))) r3)) (ob := [(24 : Nat) = 24, (24 : Nat) = 24, (24 : Nat) = 24, (30 : Nat) = 30, vp_in (gF S2 815) 20]) [(.aload_n 0, 1, 0, 0, 0, 0), (.getfield 25, 3, 17, 6, 0, 0), (.aload_n 0, 1, 0, 0, 0, 0), (.getfield 70, 3, 15, 6, 0, 0), (.aload_n 0, 1, 0, 0, 0, 0), (.getfield 73, 3, 18, 6, 0, 0), (.iastore, 1, 0, 0, 1, 0)] [(24, xc8 S2), (30, xc14 S2)] (by decide +kernel) rfl (xall_cons rfl (xall_cons rfl (xall_cons rfl (xall_cons rfl (xall_cons o5 xall_nil))))) (xSee_cons rfl (xne_cons (by decide) (xne_nil _)) (xSee_cons rfl (xne_nil _) (xSee_nil _))) rfl rfl ?_
      refine xRn.forget (xle_eq (xle_no (xle_no (xle_no (xle_no (xle_no (xle_no (xle_no xle_nil)))))))) ?_
      exact t_M_goes_42   (sA S2 14 (upd (gA S2 14) (gF S2 815).toNatClampNeg (gF S2 818))) r3 h
  · rintro _ _ ⟨_, _, e9, _⟩
    cases e9
/-! M_send -/
def w_M_send_99   (K : XS → List AE → Prop) (S : XS) (r : List AE) : Prop :=
  (K (sF S 821 ((gF S 821) + 1)) r)
set_option maxRecDepth 100000 in
theorem t_M_send_99 {G : XG} {l : Launch} {d : Nat} {K : XS → List AE → Prop} (S : XS) (r : List AE) (h : w_M_send_99 K S r) : xRn G l (d + 6) xm_M_send (pV K) 99 [.ref 24, .null, .null, .null, .null, .null] [] (hL S r) := by
  refine xRn.blk (pc1 := 109) (ls1 := [.ref 24, .null, .null, .null, .null, .null]) (st1 := []) (hp1 := (hL (sF S 821 ((gF S 821) + 1)) r)) (ob := [(24 : Nat) = 24, (24 : Nat) = 24]) [(.aload_n 0, 1, 0, 0, 0, 0), (.dup, 1, 0, 0, 0, 0), (.getfield 32, 3, 21, 6, 0, 0), (.iconst 1, 1, 0, 0, 0, 1), (.iadd, 1, 0, 0, 0, 0), (.putfield 32, 3, 21, 6, 0, 0)] [(24, xc8 S)] (by decide +kernel) rfl (xall_cons rfl (xall_cons rfl xall_nil)) (xSee_cons rfl (xne_nil _) (xSee_nil _)) rfl rfl ?_
  exact xRn.vret (by decide +kernel) rfl ⟨_, _, rfl, rfl, h⟩
def w_M_send_20   (K : XS → List AE → Prop) (S : XS) (r : List AE) (v1 : Int32) (v2 : Int32) (v3 : Int32) (v4 : Int32) (v5 : Int32) : Prop :=
  (vp_in (4 * (gF S 821)) 6400) ∧ (vp_in ((4 * (gF S 821)) + 1) 6400) ∧ (vp_in ((4 * (gF S 821)) + 2) 6400) ∧ (vp_in ((4 * (gF S 821)) + 3) 6400) ∧ (((gF S 819) = 0 → (w_M_send_99 K (sA S 16 (upd (upd (upd (upd (gA S 16) (4 * (gF S 821)).toNatClampNeg v2) ((4 * (gF S 821)) + 1).toNatClampNeg v3) ((4 * (gF S 821)) + 2).toNatClampNeg v4) ((4 * (gF S 821)) + 3).toNatClampNeg v5)) r)) ∧ (¬ (gF S 819) = 0 → (w_M_goes (sA S 16 (upd (upd (upd (upd (gA S 16) (4 * (gF S 821)).toNatClampNeg v2) ((4 * (gF S 821)) + 1).toNatClampNeg v3) ((4 * (gF S 821)) + 2).toNatClampNeg v4) ((4 * (gF S 821)) + 3).toNatClampNeg v5)) r v1 (gF S 821) 0 v2 v3 v4 v5 (fun S7 r8 => (w_M_send_99 K S7 r8)))))
set_option maxRecDepth 100000 in
theorem t_M_send_20 {G : XG} {l : Launch} {d : Nat} {K : XS → List AE → Prop} (S : XS) (r : List AE) (v1 : Int32) (v2 : Int32) (v3 : Int32) (v4 : Int32) (v5 : Int32) (h : w_M_send_20 K S r v1 v2 v3 v4 v5) : xRn G l (d + 6) xm_M_send (pV K) 20 [.ref 24, .int v1, .int v2, .int v3, .int v4, .int v5] [] (hL S r) := by
  obtain ⟨o1, o2, o3, o4, h⟩ := h
  refine xRn.blk (pc1 := 80) (ls1 := [.ref 24, .int v1, .int v2, .int v3, .int v4, .int v5]) (st1 := [.int (gF S 819)]) (hp1 := (hL (sA S 16 (upd (upd (upd (upd (gA S 16) (4 * (gF S 821)).toNatClampNeg v2) ((4 * (gF S 821)) + 1).toNatClampNeg v3) ((4 * (gF S 821)) + 2).toNatClampNeg v4) ((4 * (gF S 821)) + 3).toNatClampNeg v5)) r)) (ob := [(24 : Nat) = 24, (24 : Nat) = 24, (32 : Nat) = 32, vp_in (4 * (gF S 821)) 6400, (24 : Nat) = 24, (24 : Nat) = 24, (32 : Nat) = 32, vp_in ((4 * (gF S 821)) + 1) 6400, (24 : Nat) = 24, (24 : Nat) = 24, (32 : Nat) = 32, vp_in ((4 * (gF S 821)) + 2) 6400, (24 : Nat) = 24, (24 : Nat) = 24, (32 : Nat) = 32, vp_in ((4 * (gF S 821)) + 3) 6400, (24 : Nat) = 24]) [(.aload_n 0, 1, 0, 0, 0, 0), (.getfield 39, 3, 28, 6, 0, 0), (.iconst 4, 1, 0, 0, 0, 4), (.aload_n 0, 1, 0, 0, 0, 0), (.getfield 32, 3, 21, 6, 0, 0), (.imul, 1, 0, 0, 0, 0), (.iload_n 2, 1, 2, 0, 0, 0), (.iastore, 1, 0, 0, 1, 0), (.aload_n 0, 1, 0, 0, 0, 0), (.getfield 39, 3, 28, 6, 0, 0), (.iconst 4, 1, 0, 0, 0, 4), (.aload_n 0, 1, 0, 0, 0, 0), (.getfield 32, 3, 21, 6, 0, 0), (.imul, 1, 0, 0, 0, 0), (.iconst 1, 1, 0, 0, 0, 1), (.iadd, 1, 0, 0, 0, 0), (.iload_n 3, 1, 3, 0, 0, 0), (.iastore, 1, 0, 0, 1, 0), (.aload_n 0, 1, 0, 0, 0, 0), (.getfield 39, 3, 28, 6, 0, 0), (.iconst 4, 1, 0, 0, 0, 4), (.aload_n 0, 1, 0, 0, 0, 0), (.getfield 32, 3, 21, 6, 0, 0), (.imul, 1, 0, 0, 0, 0), (.iconst 2, 1, 0, 0, 0, 2), (.iadd, 1, 0, 0, 0, 0), (.iload 4, 2, 4, 0, 0, 0), (.iastore, 1, 0, 0, 1, 0), (.aload_n 0, 1, 0, 0, 0, 0), (.getfield 39, 3, 28, 6, 0, 0), (.iconst 4, 1, 0, 0, 0, 4), (.aload_n 0, 1, 0, 0, 0, 0), (.getfield 32, 3, 21, 6, 0, 0), (.imul, 1, 0, 0, 0, 0), (.iconst 3, 1, 0, 0, 0, 3), (.iadd, 1, 0, 0, 0, 0), (.iload 5, 2, 5, 0, 0, 0), (.iastore, 1, 0, 0, 1, 0), (.aload_n 0, 1, 0, 0, 0, 0), (.getfield 118, 3, 19, 6, 0, 0)] [(24, xc8 S), (32, xc16 S)] (by decide +kernel) rfl (xall_cons rfl (xall_cons rfl (xall_cons rfl (xall_cons o1 (xall_cons rfl (xall_cons rfl (xall_cons rfl (xall_cons o2 (xall_cons rfl (xall_cons rfl (xall_cons rfl (xall_cons o3 (xall_cons rfl (xall_cons rfl (xall_cons rfl (xall_cons o4 (xall_cons rfl xall_nil))))))))))))))))) (xSee_cons rfl (xne_cons (by decide) (xne_nil _)) (xSee_cons rfl (xne_nil _) (xSee_nil _))) rfl rfl ?_
  refine xRn.if_eq (tgt := 99) (nx := 83) (off := 19) (by decide +kernel) (by decide) rfl (fun c5 => ?_) (fun c5 => ?_)
  · have h := h.1 c5
    refine xRn.forget (xle_eq (xle_no (xle_no (xle_no (xle_no (xle_no xle_nil)))))) ?_
    exact t_M_send_99   (sA S 16 (upd (upd (upd (upd (gA S 16) (4 * (gF S 821)).toNatClampNeg v2) ((4 * (gF S 821)) + 1).toNatClampNeg v3) ((4 * (gF S 821)) + 2).toNatClampNeg v4) ((4 * (gF S 821)) + 3).toNatClampNeg v5)) r h
  · have h := h.2 c5
    refine xRn.blk (pc1 := 96) (ls1 := [.ref 24, .int v1, .int v2, .int v3, .int v4, .int v5]) (st1 := [.int v5, .int v4, .int v3, .int v2, .int 0, .int (gF S 821), .int v1, .ref 24]) (hp1 := (hL (sA S 16 (upd (upd (upd (upd (gA S 16) (4 * (gF S 821)).toNatClampNeg v2) ((4 * (gF S 821)) + 1).toNatClampNeg v3) ((4 * (gF S 821)) + 2).toNatClampNeg v4) ((4 * (gF S 821)) + 3).toNatClampNeg v5)) r)) (ob := [(24 : Nat) = 24]) [(.aload_n 0, 1, 0, 0, 0, 0), (.iload_n 1, 1, 1, 0, 0, 0), (.aload_n 0, 1, 0, 0, 0, 0), (.getfield 32, 3, 21, 6, 0, 0), (.iconst 0, 1, 0, 0, 0, 0), (.iload_n 2, 1, 2, 0, 0, 0), (.iload_n 3, 1, 3, 0, 0, 0), (.iload 4, 2, 4, 0, 0, 0), (.iload 5, 2, 5, 0, 0, 0)] [(24, xc8 (sA S 16 (upd (upd (upd (upd (gA S 16) (4 * (gF S 821)).toNatClampNeg v2) ((4 * (gF S 821)) + 1).toNatClampNeg v3) ((4 * (gF S 821)) + 2).toNatClampNeg v4) ((4 * (gF S 821)) + 3).toNatClampNeg v5)))] (by decide +kernel) rfl (xall_cons rfl xall_nil) (xSee_cons rfl (xne_nil _) (xSee_nil _)) rfl rfl ?_
    refine xRn.callV (al := [.int v1, .int (gF S 821), .int 0, .int v2, .int v3, .int v4, .int v5]) (st := []) (nx := 99) (by decide +kernel) lk_V_M_send_121_M_goes_6_7 rfl rfl (c_M_goes (d := d + 0) (sA S 16 (upd (upd (upd (upd (gA S 16) (4 * (gF S 821)).toNatClampNeg v2) ((4 * (gF S 821)) + 1).toNatClampNeg v3) ((4 * (gF S 821)) + 2).toNatClampNeg v4) ((4 * (gF S 821)) + 3).toNatClampNeg v5)) r v1 (gF S 821) 0 v2 v3 v4 v5 h) rfl (Nat.le_of_ble_eq_true rfl) rfl rfl ?_ ?_
    · rintro _ _ ⟨S7, r8, e9, rfl, h⟩
      cases e9
      show xRn G l _ _ _ 99 [.ref 24, .int v1, .int v2, .int v3, .int v4, .int v5] [] (hL S7 r8)
      refine xRn.forget (xle_eq (xle_no (xle_no (xle_no (xle_no (xle_no xle_nil)))))) ?_
      exact t_M_send_99   S7 r8 h
    · rintro _ _ ⟨_, _, e9, _⟩
      cases e9
def w_M_send  (S : XS) (r : List AE) (p1 : Int32) (p2 : Int32) (p3 : Int32) (p4 : Int32) (p5 : Int32) (K : XS → List AE → Prop) : Prop :=
  ((¬ p1 = (56 : Int32) → (vp_in (gF S 821) 1600) ∧ (w_M_send_20 K (sA S 15 (upd (gA S 15) (gF S 821).toNatClampNeg (vp_nar .boolean 0))) r p1 p2 p3 p4 p5)) ∧ (p1 = (56 : Int32) → (vp_in (gF S 821) 1600) ∧ (w_M_send_20 K (sA S 15 (upd (gA S 15) (gF S 821).toNatClampNeg (vp_nar .boolean 1))) r p1 p2 p3 p4 p5)))
set_option maxRecDepth 100000 in
theorem c_M_send {G : XG} {l : Launch} {d : Nat} (S : XS) (r : List AE) (p1 : Int32) (p2 : Int32) (p3 : Int32) (p4 : Int32) (p5 : Int32) {K : XS → List AE → Prop} (h : w_M_send  S r p1 p2 p3 p4 p5 K) : xCt G l (d + 6) xm_M_send [.ref 24, .int p1, .int p2, .int p3, .int p4, .int p5] (hL S r) (pV K) := by
  refine xCt.intro (by decide) (by decide) (List.forall_mem_cons.mpr ⟨rfl, (List.forall_mem_cons.mpr ⟨rfl, (List.forall_mem_cons.mpr ⟨rfl, (List.forall_mem_cons.mpr ⟨rfl, (List.forall_mem_cons.mpr ⟨rfl, (List.forall_mem_cons.mpr ⟨rfl, (fun _ h => by cases h)⟩)⟩)⟩)⟩)⟩)⟩) (Nat.le_of_ble_eq_true rfl) rfl ?_
  show xRn G l _ xm_M_send _ 0 [.ref 24, .int p1, .int p2, .int p3, .int p4, .int p5] [] (hL S r)
  refine xRn.blk (pc1 := 11) (ls1 := [.ref 24, .int p1, .int p2, .int p3, .int p4, .int p5]) (st1 := [.int 56, .int p1, .int (gF S 821), .ref 31]) (hp1 := (hL S r)) (ob := [(24 : Nat) = 24, (24 : Nat) = 24]) [(.aload_n 0, 1, 0, 0, 0, 0), (.getfield 35, 3, 27, 6, 0, 0), (.aload_n 0, 1, 0, 0, 0, 0), (.getfield 32, 3, 21, 6, 0, 0), (.iload_n 1, 1, 1, 0, 0, 0), (.bipush 56, 2, 0, 0, 0, 56)] [(24, xc8 S)] (by decide +kernel) rfl (xall_cons rfl (xall_cons rfl xall_nil)) (xSee_cons rfl (xne_nil _) (xSee_nil _)) rfl rfl ?_
  refine xRn.ic_ne (tgt := 18) (nx := 14) (off := 7) (by decide +kernel) (by decide) rfl (fun c9 => ?_) (fun c9 => ?_)
  · have h := h.1 c9
    obtain ⟨o10, h⟩ := h
    refine xRn.blk (pc1 := 20) (ls1 := [.ref 24, .int p1, .int p2, .int p3, .int p4, .int p5]) (st1 := []) (hp1 := (hL (sA S 15 (upd (gA S 15) (gF S 821).toNatClampNeg (vp_nar .boolean 0))) r)) (ob := [(31 : Nat) = 31, vp_in (gF S 821) 1600]) [(.iconst 0, 1, 0, 0, 0, 0), (.bastore, 1, 0, 0, 0, 0)] [(31, xc15 S)] (by decide +kernel) rfl (xall_cons rfl (xall_cons o10 xall_nil)) (xSee_cons rfl (xne_nil _) (xSee_nil _)) rfl rfl ?_
    refine xRn.forget (xle_eq (xle_eq (xle_eq (xle_eq (xle_eq (xle_eq xle_nil)))))) ?_
    exact t_M_send_20   (sA S 15 (upd (gA S 15) (gF S 821).toNatClampNeg (vp_nar .boolean 0))) r p1 p2 p3 p4 p5 h
  · have h := h.2 c9
    refine xRn.blk (pc1 := 15) (ls1 := [.ref 24, .int p1, .int p2, .int p3, .int p4, .int p5]) (st1 := [.int 1, .int (gF S 821), .ref 31]) (hp1 := (hL S r)) (ob := []) [(.iconst 1, 1, 0, 0, 0, 1)] [] (by decide +kernel) rfl xall_nil (xSee_nil _) rfl rfl ?_
    refine xRn.goto (tgt := 19) (off := 4) (by decide +kernel) (by decide) ?_
    obtain ⟨o11, h⟩ := h
    refine xRn.blk (pc1 := 20) (ls1 := [.ref 24, .int p1, .int p2, .int p3, .int p4, .int p5]) (st1 := []) (hp1 := (hL (sA S 15 (upd (gA S 15) (gF S 821).toNatClampNeg (vp_nar .boolean 1))) r)) (ob := [(31 : Nat) = 31, vp_in (gF S 821) 1600]) [(.bastore, 1, 0, 0, 0, 0)] [(31, xc15 S)] (by decide +kernel) rfl (xall_cons rfl (xall_cons o11 xall_nil)) (xSee_cons rfl (xne_nil _) (xSee_nil _)) rfl rfl ?_
    refine xRn.forget (xle_eq (xle_eq (xle_eq (xle_eq (xle_eq (xle_eq xle_nil)))))) ?_
    exact t_M_send_20   (sA S 15 (upd (gA S 15) (gF S 821).toNatClampNeg (vp_nar .boolean 1))) r p1 p2 p3 p4 p5 h
/-! M_leave -/
def w_M_leave_17   (K : XS → List AE → Prop) (S : XS) (r : List AE) : Prop :=
  (K (sF (sF S 819 0) 826 0) r)
set_option maxRecDepth 100000 in
theorem t_M_leave_17 {G : XG} {l : Launch} {d : Nat} {K : XS → List AE → Prop} (S : XS) (r : List AE) (h : w_M_leave_17 K S r) : xRn G l (d + 7) xm_M_leave (pV K) 17 [.ref 24] [] (hL S r) := by
  refine xRn.blk (pc1 := 27) (ls1 := [.ref 24]) (st1 := []) (hp1 := (hL (sF (sF S 819 0) 826 0) r)) (ob := [(24 : Nat) = 24, narrow .boolean (.int 0) = .int 0 ∧ fits .boolean (.int 0) = true, (24 : Nat) = 24]) [(.aload_n 0, 1, 0, 0, 0, 0), (.iconst 0, 1, 0, 0, 0, 0), (.putfield 118, 3, 19, 6, 0, 0), (.aload_n 0, 1, 0, 0, 0, 0), (.iconst 0, 1, 0, 0, 0, 0), (.putfield 128, 3, 26, 6, 0, 0)] [(24, xc8 S)] (by decide +kernel) rfl (xall_cons rfl (xall_cons (⟨rfl, rfl⟩) (xall_cons rfl xall_nil))) (xSee_cons rfl (xne_nil _) (xSee_nil _)) rfl rfl ?_
  exact xRn.vret (by decide +kernel) rfl ⟨_, _, rfl, rfl, h⟩
def w_M_leave  (S : XS) (r : List AE) (K : XS → List AE → Prop) : Prop :=
  (((gF S 819) = 0 → (w_M_leave_17 K S r)) ∧ (¬ (gF S 819) = 0 → (w_M_send S r 53 0 0 0 0 (fun S3 r4 => (w_M_leave_17 K S3 r4)))))
set_option maxRecDepth 100000 in
theorem c_M_leave {G : XG} {l : Launch} {d : Nat} (S : XS) (r : List AE) {K : XS → List AE → Prop} (h : w_M_leave  S r K) : xCt G l (d + 7) xm_M_leave [.ref 24] (hL S r) (pV K) := by
  refine xCt.intro (by decide) (by decide) (List.forall_mem_cons.mpr ⟨rfl, (fun _ h => by cases h)⟩) (Nat.le_of_ble_eq_true rfl) rfl ?_
  show xRn G l _ xm_M_leave _ 0 [.ref 24] [] (hL S r)
  refine xRn.blk (pc1 := 4) (ls1 := [.ref 24]) (st1 := [.int (gF S 819)]) (hp1 := (hL S r)) (ob := [(24 : Nat) = 24]) [(.aload_n 0, 1, 0, 0, 0, 0), (.getfield 118, 3, 19, 6, 0, 0)] [(24, xc8 S)] (by decide +kernel) rfl (xall_cons rfl xall_nil) (xSee_cons rfl (xne_nil _) (xSee_nil _)) rfl rfl ?_
  refine xRn.if_eq (tgt := 17) (nx := 7) (off := 13) (by decide +kernel) (by decide) rfl (fun c1 => ?_) (fun c1 => ?_)
  · have h := h.1 c1
    refine xRn.forget (xle_eq xle_nil) ?_
    exact t_M_leave_17   S r h
  · have h := h.2 c1
    refine xRn.blk (pc1 := 14) (ls1 := [.ref 24]) (st1 := [.int 0, .int 0, .int 0, .int 0, .int 53, .ref 24]) (hp1 := (hL S r)) (ob := []) [(.aload_n 0, 1, 0, 0, 0, 0), (.bipush 53, 2, 0, 0, 0, 53), (.iconst 0, 1, 0, 0, 0, 0), (.iconst 0, 1, 0, 0, 0, 0), (.iconst 0, 1, 0, 0, 0, 0), (.iconst 0, 1, 0, 0, 0, 0)] [] (by decide +kernel) rfl xall_nil (xSee_nil _) rfl rfl ?_
    refine xRn.callV (al := [.int 53, .int 0, .int 0, .int 0, .int 0]) (st := []) (nx := 17) (by decide +kernel) lk_V_M_leave_124_M_send_6_5 rfl rfl (c_M_send (d := d + 0) S r 53 0 0 0 0 h) rfl (Nat.le_of_ble_eq_true rfl) rfl rfl ?_ ?_
    · rintro _ _ ⟨S3, r4, e9, rfl, h⟩
      cases e9
      show xRn G l _ _ _ 17 [.ref 24] [] (hL S3 r4)
      refine xRn.forget (xle_eq xle_nil) ?_
      exact t_M_leave_17   S3 r4 h
    · rintro _ _ ⟨_, _, e9, _⟩
      cases e9
/-! M_ask -/
def w_M_ask  (S : XS) (r : List AE) (K : XS → List AE → Prop) : Prop :=
  (w_M_send S r 50 (gF S 820) 0 0 0 (fun S2 r3 => (K (sF S2 825 (gF S2 822)) r3)))
set_option maxRecDepth 100000 in
theorem c_M_ask {G : XG} {l : Launch} {d : Nat} (S : XS) (r : List AE) {K : XS → List AE → Prop} (h : w_M_ask  S r K) : xCt G l (d + 7) xm_M_ask [.ref 24] (hL S r) (pV K) := by
  refine xCt.intro (by decide) (by decide) (List.forall_mem_cons.mpr ⟨rfl, (fun _ h => by cases h)⟩) (Nat.le_of_ble_eq_true rfl) rfl ?_
  show xRn G l _ xm_M_ask _ 0 [.ref 24] [] (hL S r)
  refine xRn.blk (pc1 := 10) (ls1 := [.ref 24]) (st1 := [.int 0, .int 0, .int 0, .int (gF S 820), .int 50, .ref 24]) (hp1 := (hL S r)) (ob := [(24 : Nat) = 24]) [(.aload_n 0, 1, 0, 0, 0, 0), (.bipush 50, 2, 0, 0, 0, 50), (.aload_n 0, 1, 0, 0, 0, 0), (.getfield 28, 3, 20, 6, 0, 0), (.iconst 0, 1, 0, 0, 0, 0), (.iconst 0, 1, 0, 0, 0, 0), (.iconst 0, 1, 0, 0, 0, 0)] [(24, xc8 S)] (by decide +kernel) rfl (xall_cons rfl xall_nil) (xSee_cons rfl (xne_nil _) (xSee_nil _)) rfl rfl ?_
  refine xRn.callV (al := [.int 50, .int (gF S 820), .int 0, .int 0, .int 0]) (st := []) (nx := 13) (by decide +kernel) lk_V_M_ask_124_M_send_6_5 rfl rfl (c_M_send (d := d + 0) S r 50 (gF S 820) 0 0 0 h) rfl (Nat.le_of_ble_eq_true rfl) rfl rfl ?_ ?_
  · rintro _ _ ⟨S2, r3, e9, rfl, h⟩
    cases e9
    show xRn G l _ _ _ 13 [.ref 24] [] (hL S2 r3)
    refine xRn.blk (pc1 := 21) (ls1 := [.ref 24]) (st1 := []) (hp1 := (hL (sF S2 825 (gF S2 822)) r3)) (ob := [(24 : Nat) = 24, (24 : Nat) = 24]) [(.aload_n 0, 1, 0, 0, 0, 0), (.aload_n 0, 1, 0, 0, 0, 0), (.getfield 112, 3, 22, 6, 0, 0), (.putfield 131, 3, 25, 6, 0, 0)] [(24, xc8 S2)] (by decide +kernel) rfl (xall_cons rfl (xall_cons rfl xall_nil)) (xSee_cons rfl (xne_nil _) (xSee_nil _)) rfl rfl ?_
    exact xRn.vret (by decide +kernel) rfl ⟨_, _, rfl, rfl, h⟩
  · rintro _ _ ⟨_, _, e9, _⟩
    cases e9
/-! M_answer -/
def w_M_answer_136 (k37 : XS → List AE → Int32 → Int32 → Prop)  (K : XS → List AE → Prop) (S : XS) (r : List AE) (v3 : Int32) (v4 : Int32) (v5 : Int32) : Prop :=
  (w_M_goes S r 52 v4 1 v5 89 0 0 (fun S2 r3 => (k37 S2 r3 v3 v5)))
set_option maxRecDepth 100000 in
theorem t_M_answer_136 {G : XG} {l : Launch} {d : Nat} {k37 : XS → List AE → Int32 → Int32 → Prop} {K : XS → List AE → Prop} (hk37 : ∀ (S : XS) (r : List AE) (v3 : Int32) (v4 : Int32), k37 S r v3 v4 → xRn G l (d + 6) xm_M_answer (pV K) 37 [.ref 24, .null, .null, .int v3, .int v4, .null] [] (hL S r)) (S : XS) (r : List AE) (v3 : Int32) (v4 : Int32) (v5 : Int32) (h : w_M_answer_136 k37 K S r v3 v4 v5) : xRn G l (d + 6) xm_M_answer (pV K) 136 [.ref 24, .null, .null, .int v3, .int v4, .int v5] [] (hL S r) := by
  refine xRn.blk (pc1 := 148) (ls1 := [.ref 24, .null, .null, .int v3, .int v4, .int v5]) (st1 := [.int 0, .int 0, .int 89, .int v5, .int 1, .int v4, .int 52, .ref 24]) (hp1 := (hL S r)) (ob := []) [(.aload_n 0, 1, 0, 0, 0, 0), (.bipush 52, 2, 0, 0, 0, 52), (.iload 4, 2, 4, 0, 0, 0), (.iconst 1, 1, 0, 0, 0, 1), (.iload 5, 2, 5, 0, 0, 0), (.bipush 89, 2, 0, 0, 0, 89), (.iconst 0, 1, 0, 0, 0, 0), (.iconst 0, 1, 0, 0, 0, 0)] [] (by decide +kernel) rfl xall_nil (xSee_nil _) rfl rfl ?_
  refine xRn.callV (al := [.int 52, .int v4, .int 1, .int v5, .int 89, .int 0, .int 0]) (st := []) (nx := 151) (by decide +kernel) lk_V_M_answer_121_M_goes_6_7 rfl rfl (c_M_goes (d := d + 0) S r 52 v4 1 v5 89 0 0 h) rfl (Nat.le_of_ble_eq_true rfl) rfl rfl ?_ ?_
  · rintro _ _ ⟨S2, r3, e9, rfl, h⟩
    cases e9
    show xRn G l _ _ _ 151 [.ref 24, .null, .null, .int v3, .int v4, .int v5] [] (hL S2 r3)
    refine xRn.blk (pc1 := 155) (ls1 := [.ref 24, .null, .null, .int v3, .int v5, .int v5]) (st1 := []) (hp1 := (hL S2 r3)) (ob := []) [(.iload 5, 2, 5, 0, 0, 0), (.istore 4, 2, 4, 0, 0, 0)] [] (by decide +kernel) rfl xall_nil (xSee_nil _) rfl rfl ?_
    refine xRn.goto (tgt := 37) (off := (-118)) (by decide +kernel) (by decide) ?_
    refine xRn.forget (xle_eq (xle_eq (xle_eq (xle_eq (xle_eq (xle_no xle_nil)))))) ?_
    exact hk37 S2 r3 v3 v5 h
  · rintro _ _ ⟨_, _, e9, _⟩
    cases e9
def w_M_answer_114 (k37 : XS → List AE → Int32 → Int32 → Prop)  (K : XS → List AE → Prop) : Nat → XS → List AE → Int32 → Int32 → Int32 → Prop
  | 0, _, _, _, _, _ => False
  | n + 1, S, r, v3, v4, v5 => ((v3 < v5 → (w_M_answer_136 k37 K S r v3 v4 v5)) ∧ (¬ v3 < v5 → (vp_in v5 1600) ∧ ((¬ ((gA S 15) v5.toNatClampNeg) = 0 → (w_M_answer_136 k37 K S r v3 v4 v5)) ∧ (((gA S 15) v5.toNatClampNeg) = 0 → (w_M_answer_114 k37 K n S r v3 v4 (v5 + 1))))))
set_option maxRecDepth 100000 in
theorem t_M_answer_114 {G : XG} {l : Launch} {d : Nat} {k37 : XS → List AE → Int32 → Int32 → Prop} {K : XS → List AE → Prop} (hk37 : ∀ (S : XS) (r : List AE) (v3 : Int32) (v4 : Int32), k37 S r v3 v4 → xRn G l (d + 6) xm_M_answer (pV K) 37 [.ref 24, .null, .null, .int v3, .int v4, .null] [] (hL S r)) : ∀ (n : Nat) (S : XS) (r : List AE) (v3 : Int32) (v4 : Int32) (v5 : Int32), w_M_answer_114 k37 K n S r v3 v4 v5 → xRn G l (d + 6) xm_M_answer (pV K) 114 [.ref 24, .null, .null, .int v3, .int v4, .int v5] [] (hL S r) := by
  intro n
  induction n with
  | zero => intro S r v3 v4 v5 h; exact h.elim
  | succ n ih =>
    intro S r v3 v4 v5 h
    refine xRn.blk (pc1 := 117) (ls1 := [.ref 24, .null, .null, .int v3, .int v4, .int v5]) (st1 := [.int v3, .int v5]) (hp1 := (hL S r)) (ob := []) [(.iload 5, 2, 5, 0, 0, 0), (.iload_n 3, 1, 3, 0, 0, 0)] [] (by decide +kernel) rfl xall_nil (xSee_nil _) rfl rfl ?_
    refine xRn.ic_gt (tgt := 136) (nx := 120) (off := 19) (by decide +kernel) (by decide) rfl (fun c4 => ?_) (fun c4 => ?_)
    · have h := h.1 c4
      refine xRn.forget (xle_eq (xle_eq (xle_eq (xle_eq (xle_eq (xle_eq xle_nil)))))) ?_
      exact t_M_answer_136  hk37 S r v3 v4 v5 h
    · have h := h.2 c4
      obtain ⟨o5, h⟩ := h
      refine xRn.blk (pc1 := 127) (ls1 := [.ref 24, .null, .null, .int v3, .int v4, .int v5]) (st1 := [.int ((gA S 15) v5.toNatClampNeg)]) (hp1 := (hL S r)) (ob := [(24 : Nat) = 24, (31 : Nat) = 31, vp_in v5 1600]) [(.aload_n 0, 1, 0, 0, 0, 0), (.getfield 35, 3, 27, 6, 0, 0), (.iload 5, 2, 5, 0, 0, 0), (.baload, 1, 0, 0, 1, 0)] [(24, xc8 S), (31, xc15 S)] (by decide +kernel) rfl (xall_cons rfl (xall_cons rfl (xall_cons o5 xall_nil))) (xSee_cons rfl (xne_cons (by decide) (xne_nil _)) (xSee_cons rfl (xne_nil _) (xSee_nil _))) rfl rfl ?_
      refine xRn.if_ne (tgt := 136) (nx := 130) (off := 9) (by decide +kernel) (by decide) rfl (fun c6 => ?_) (fun c6 => ?_)
      · have h := h.1 c6
        refine xRn.forget (xle_eq (xle_eq (xle_eq (xle_eq (xle_eq (xle_eq xle_nil)))))) ?_
        exact t_M_answer_136  hk37 S r v3 v4 v5 h
      · have h := h.2 c6
        refine xRn.blk (pc1 := 133) (ls1 := [.ref 24, .null, .null, .int v3, .int v4, .int (v5 + 1)]) (st1 := []) (hp1 := (hL S r)) (ob := []) [(.iinc 5 1, 3, 5, 0, 0, 1)] [] (by decide +kernel) rfl xall_nil (xSee_nil _) rfl rfl ?_
        refine xRn.goto (tgt := 114) (off := (-19)) (by decide +kernel) (by decide) ?_
        refine xRn.forget (xle_eq (xle_eq (xle_eq (xle_eq (xle_eq (xle_eq xle_nil)))))) ?_
        exact ih S r v3 v4 (v5 + 1) h
def w_M_answer_37   (K : XS → List AE → Prop) : Nat → XS → List AE → Int32 → Int32 → Prop
  | 0, _, _, _, _ => False
  | n + 1, S, r, v3, v4 => ((v3 < v4 → (K S r)) ∧ (¬ v3 < v4 → (vp_in v4 1600) ∧ ((((gA S 15) v4.toNatClampNeg) = 0 → (∃ j, w_M_answer_114 (fun S r v3 v4 => w_M_answer_37 K n S r v3 v4) K j S r v3 v4 v4)) ∧ (¬ ((gA S 15) v4.toNatClampNeg) = 0 → (vp_in (4 * v4) 6400) ∧ (vp_in ((4 * v4) + 1) 6400) ∧ (vp_in ((4 * v4) + 2) 6400) ∧ (vp_in ((4 * v4) + 3) 6400) ∧ (w_M_goes S r 56 v4 1 ((gA S 16) (4 * v4).toNatClampNeg) ((gA S 16) ((4 * v4) + 1).toNatClampNeg) ((gA S 16) ((4 * v4) + 2).toNatClampNeg) ((gA S 16) ((4 * v4) + 3).toNatClampNeg) (fun S16 r17 => (w_M_answer_37 K n S16 r17 v3 (v4 + 1))))))))
set_option maxRecDepth 100000 in
theorem t_M_answer_37 {G : XG} {l : Launch} {d : Nat} {K : XS → List AE → Prop} : ∀ (n : Nat) (S : XS) (r : List AE) (v3 : Int32) (v4 : Int32), w_M_answer_37 K n S r v3 v4 → xRn G l (d + 6) xm_M_answer (pV K) 37 [.ref 24, .null, .null, .int v3, .int v4, .null] [] (hL S r) := by
  intro n
  induction n with
  | zero => intro S r v3 v4 h; exact h.elim
  | succ n ih =>
    intro S r v3 v4 h
    refine xRn.blk (pc1 := 40) (ls1 := [.ref 24, .null, .null, .int v3, .int v4, .null]) (st1 := [.int v3, .int v4]) (hp1 := (hL S r)) (ob := []) [(.iload 4, 2, 4, 0, 0, 0), (.iload_n 3, 1, 3, 0, 0, 0)] [] (by decide +kernel) rfl xall_nil (xSee_nil _) rfl rfl ?_
    refine xRn.ic_gt (tgt := 158) (nx := 43) (off := 118) (by decide +kernel) (by decide) rfl (fun c7 => ?_) (fun c7 => ?_)
    · have h := h.1 c7
      exact xRn.vret (by decide +kernel) rfl ⟨_, _, rfl, rfl, h⟩
    · have h := h.2 c7
      obtain ⟨o8, h⟩ := h
      refine xRn.blk (pc1 := 50) (ls1 := [.ref 24, .null, .null, .int v3, .int v4, .null]) (st1 := [.int ((gA S 15) v4.toNatClampNeg)]) (hp1 := (hL S r)) (ob := [(24 : Nat) = 24, (31 : Nat) = 31, vp_in v4 1600]) [(.aload_n 0, 1, 0, 0, 0, 0), (.getfield 35, 3, 27, 6, 0, 0), (.iload 4, 2, 4, 0, 0, 0), (.baload, 1, 0, 0, 1, 0)] [(24, xc8 S), (31, xc15 S)] (by decide +kernel) rfl (xall_cons rfl (xall_cons rfl (xall_cons o8 xall_nil))) (xSee_cons rfl (xne_cons (by decide) (xne_nil _)) (xSee_cons rfl (xne_nil _) (xSee_nil _))) rfl rfl ?_
      refine xRn.if_eq (tgt := 110) (nx := 53) (off := 60) (by decide +kernel) (by decide) rfl (fun c9 => ?_) (fun c9 => ?_)
      · have h := h.1 c9
        refine xRn.blk (pc1 := 114) (ls1 := [.ref 24, .null, .null, .int v3, .int v4, .int v4]) (st1 := []) (hp1 := (hL S r)) (ob := []) [(.iload 4, 2, 4, 0, 0, 0), (.istore 5, 2, 5, 0, 0, 0)] [] (by decide +kernel) rfl xall_nil (xSee_nil _) rfl rfl ?_
        refine xRn.forget (xle_eq (xle_eq (xle_eq (xle_eq (xle_eq (xle_eq xle_nil)))))) ?_
        obtain ⟨n10, h⟩ := h
        exact t_M_answer_114  ih n10 S r v3 v4 v4 h
      · have h := h.2 c9
        obtain ⟨o11, o12, o13, o14, h⟩ := h
        refine xRn.blk (pc1 := 101) (ls1 := [.ref 24, .null, .null, .int v3, .int v4, .null]) (st1 := [.int ((gA S 16) ((4 * v4) + 3).toNatClampNeg), .int ((gA S 16) ((4 * v4) + 2).toNatClampNeg), .int ((gA S 16) ((4 * v4) + 1).toNatClampNeg), .int ((gA S 16) (4 * v4).toNatClampNeg), .int 1, .int v4, .int 56, .ref 24]) (hp1 := (hL S r)) (ob := [(24 : Nat) = 24, (32 : Nat) = 32, vp_in (4 * v4) 6400, (24 : Nat) = 24, (32 : Nat) = 32, vp_in ((4 * v4) + 1) 6400, (24 : Nat) = 24, (32 : Nat) = 32, vp_in ((4 * v4) + 2) 6400, (24 : Nat) = 24, (32 : Nat) = 32, vp_in ((4 * v4) + 3) 6400]) [(.aload_n 0, 1, 0, 0, 0, 0), (.bipush 56, 2, 0, 0, 0, 56), (.iload 4, 2, 4, 0, 0, 0), (.iconst 1, 1, 0, 0, 0, 1), (.aload_n 0, 1, 0, 0, 0, 0), (.getfield 39, 3, 28, 6, 0, 0), (.iconst 4, 1, 0, 0, 0, 4), (.iload 4, 2, 4, 0, 0, 0), (.imul, 1, 0, 0, 0, 0), (.iaload, 1, 0, 0, 1, 0), (.aload_n 0, 1, 0, 0, 0, 0), (.getfield 39, 3, 28, 6, 0, 0), (.iconst 4, 1, 0, 0, 0, 4), (.iload 4, 2, 4, 0, 0, 0), (.imul, 1, 0, 0, 0, 0), (.iconst 1, 1, 0, 0, 0, 1), (.iadd, 1, 0, 0, 0, 0), (.iaload, 1, 0, 0, 1, 0), (.aload_n 0, 1, 0, 0, 0, 0), (.getfield 39, 3, 28, 6, 0, 0), (.iconst 4, 1, 0, 0, 0, 4), (.iload 4, 2, 4, 0, 0, 0), (.imul, 1, 0, 0, 0, 0), (.iconst 2, 1, 0, 0, 0, 2), (.iadd, 1, 0, 0, 0, 0), (.iaload, 1, 0, 0, 1, 0), (.aload_n 0, 1, 0, 0, 0, 0), (.getfield 39, 3, 28, 6, 0, 0), (.iconst 4, 1, 0, 0, 0, 4), (.iload 4, 2, 4, 0, 0, 0), (.imul, 1, 0, 0, 0, 0), (.iconst 3, 1, 0, 0, 0, 3), (.iadd, 1, 0, 0, 0, 0), (.iaload, 1, 0, 0, 1, 0)] [(24, xc8 S), (32, xc16 S)] (by decide +kernel) rfl (xall_cons rfl (xall_cons rfl (xall_cons o11 (xall_cons rfl (xall_cons rfl (xall_cons o12 (xall_cons rfl (xall_cons rfl (xall_cons o13 (xall_cons rfl (xall_cons rfl (xall_cons o14 xall_nil)))))))))))) (xSee_cons rfl (xne_cons (by decide) (xne_nil _)) (xSee_cons rfl (xne_nil _) (xSee_nil _))) rfl rfl ?_
        refine xRn.callV (al := [.int 56, .int v4, .int 1, .int ((gA S 16) (4 * v4).toNatClampNeg), .int ((gA S 16) ((4 * v4) + 1).toNatClampNeg), .int ((gA S 16) ((4 * v4) + 2).toNatClampNeg), .int ((gA S 16) ((4 * v4) + 3).toNatClampNeg)]) (st := []) (nx := 104) (by decide +kernel) lk_V_M_answer_121_M_goes_6_7 rfl rfl (c_M_goes (d := d + 0) S r 56 v4 1 ((gA S 16) (4 * v4).toNatClampNeg) ((gA S 16) ((4 * v4) + 1).toNatClampNeg) ((gA S 16) ((4 * v4) + 2).toNatClampNeg) ((gA S 16) ((4 * v4) + 3).toNatClampNeg) h) rfl (Nat.le_of_ble_eq_true rfl) rfl rfl ?_ ?_
        · rintro _ _ ⟨S16, r17, e9, rfl, h⟩
          cases e9
          show xRn G l _ _ _ 104 [.ref 24, .null, .null, .int v3, .int v4, .null] [] (hL S16 r17)
          refine xRn.blk (pc1 := 107) (ls1 := [.ref 24, .null, .null, .int v3, .int (v4 + 1), .null]) (st1 := []) (hp1 := (hL S16 r17)) (ob := []) [(.iinc 4 1, 3, 4, 0, 0, 1)] [] (by decide +kernel) rfl xall_nil (xSee_nil _) rfl rfl ?_
          refine xRn.goto (tgt := 37) (off := (-70)) (by decide +kernel) (by decide) ?_
          refine xRn.forget (xle_eq (xle_eq (xle_eq (xle_eq (xle_eq (xle_eq xle_nil)))))) ?_
          exact ih S16 r17 v3 (v4 + 1) h
        · rintro _ _ ⟨_, _, e9, _⟩
          cases e9
def w_M_answer_25   (K : XS → List AE → Prop) (S : XS) (r : List AE) (v1 : Int32) (v3 : Int32) : Prop :=
  (((1 : Int32) ≤ v1 → (∃ j, w_M_answer_37 K j S r v3 v1)) ∧ (¬ (1 : Int32) ≤ v1 → (∃ j, w_M_answer_37 K j S r v3 1)))
set_option maxRecDepth 100000 in
theorem t_M_answer_25 {G : XG} {l : Launch} {d : Nat} {K : XS → List AE → Prop} (S : XS) (r : List AE) (v1 : Int32) (v3 : Int32) (h : w_M_answer_25 K S r v1 v3) : xRn G l (d + 6) xm_M_answer (pV K) 25 [.ref 24, .int v1, .null, .int v3, .null, .null] [] (hL S r) := by
  refine xRn.blk (pc1 := 27) (ls1 := [.ref 24, .int v1, .null, .int v3, .null, .null]) (st1 := [.int 1, .int v1]) (hp1 := (hL S r)) (ob := []) [(.iload_n 1, 1, 1, 0, 0, 0), (.iconst 1, 1, 0, 0, 0, 1)] [] (by decide +kernel) rfl xall_nil (xSee_nil _) rfl rfl ?_
  refine xRn.ic_ge (tgt := 34) (nx := 30) (off := 7) (by decide +kernel) (by decide) rfl (fun c18 => ?_) (fun c18 => ?_)
  · have h := h.1 c18
    refine xRn.blk (pc1 := 37) (ls1 := [.ref 24, .int v1, .null, .int v3, .int v1, .null]) (st1 := []) (hp1 := (hL S r)) (ob := []) [(.iload_n 1, 1, 1, 0, 0, 0), (.istore 4, 2, 4, 0, 0, 0)] [] (by decide +kernel) rfl xall_nil (xSee_nil _) rfl rfl ?_
    refine xRn.forget (xle_eq (xle_no (xle_eq (xle_eq (xle_eq (xle_eq xle_nil)))))) ?_
    obtain ⟨n19, h⟩ := h
    exact t_M_answer_37   n19 S r v3 v1 h
  · have h := h.2 c18
    refine xRn.blk (pc1 := 31) (ls1 := [.ref 24, .int v1, .null, .int v3, .null, .null]) (st1 := [.int 1]) (hp1 := (hL S r)) (ob := []) [(.iconst 1, 1, 0, 0, 0, 1)] [] (by decide +kernel) rfl xall_nil (xSee_nil _) rfl rfl ?_
    refine xRn.goto (tgt := 35) (off := 4) (by decide +kernel) (by decide) ?_
    refine xRn.blk (pc1 := 37) (ls1 := [.ref 24, .int v1, .null, .int v3, .int 1, .null]) (st1 := []) (hp1 := (hL S r)) (ob := []) [(.istore 4, 2, 4, 0, 0, 0)] [] (by decide +kernel) rfl xall_nil (xSee_nil _) rfl rfl ?_
    refine xRn.forget (xle_eq (xle_no (xle_eq (xle_eq (xle_eq (xle_eq xle_nil)))))) ?_
    obtain ⟨n20, h⟩ := h
    exact t_M_answer_37   n20 S r v3 1 h
def w_M_answer_14   (K : XS → List AE → Prop) (S : XS) (r : List AE) (v1 : Int32) : Prop :=
  (w_M_answer_25 K S r v1 ((gF S 821) - 1))
set_option maxRecDepth 100000 in
theorem t_M_answer_14 {G : XG} {l : Launch} {d : Nat} {K : XS → List AE → Prop} (S : XS) (r : List AE) (v1 : Int32) (h : w_M_answer_14 K S r v1) : xRn G l (d + 6) xm_M_answer (pV K) 14 [.ref 24, .int v1, .null, .null, .null, .null] [] (hL S r) := by
  refine xRn.blk (pc1 := 20) (ls1 := [.ref 24, .int v1, .null, .null, .null, .null]) (st1 := [.int ((gF S 821) - 1)]) (hp1 := (hL S r)) (ob := [(24 : Nat) = 24]) [(.aload_n 0, 1, 0, 0, 0, 0), (.getfield 32, 3, 21, 6, 0, 0), (.iconst 1, 1, 0, 0, 0, 1), (.isub, 1, 0, 0, 0, 0)] [(24, xc8 S)] (by decide +kernel) rfl (xall_cons rfl xall_nil) (xSee_cons rfl (xne_nil _) (xSee_nil _)) rfl rfl ?_
  refine xRn.goto (tgt := 24) (off := 4) (by decide +kernel) (by decide) ?_
  refine xRn.blk (pc1 := 25) (ls1 := [.ref 24, .int v1, .null, .int ((gF S 821) - 1), .null, .null]) (st1 := []) (hp1 := (hL S r)) (ob := []) [(.istore_n 3, 1, 3, 0, 0, 0)] [] (by decide +kernel) rfl xall_nil (xSee_nil _) rfl rfl ?_
  refine xRn.forget (xle_eq (xle_eq (xle_eq (xle_eq (xle_eq (xle_eq xle_nil)))))) ?_
  exact t_M_answer_25   S r v1 ((gF S 821) - 1) h
def w_M_answer  (S : XS) (r : List AE) (p1 : Int32) (p2 : Int32) (K : XS → List AE → Prop) : Prop :=
  ((p2 = 0 → (w_M_answer_14 K S r p1)) ∧ (¬ p2 = 0 → ((p2 ≤ ((gF S 821) - 1) → (w_M_answer_25 K S r p1 p2)) ∧ (¬ p2 ≤ ((gF S 821) - 1) → (w_M_answer_14 K S r p1)))))
set_option maxRecDepth 100000 in
theorem c_M_answer {G : XG} {l : Launch} {d : Nat} (S : XS) (r : List AE) (p1 : Int32) (p2 : Int32) {K : XS → List AE → Prop} (h : w_M_answer  S r p1 p2 K) : xCt G l (d + 6) xm_M_answer [.ref 24, .int p1, .int p2] (hL S r) (pV K) := by
  refine xCt.intro (by decide) (by decide) (List.forall_mem_cons.mpr ⟨rfl, (List.forall_mem_cons.mpr ⟨rfl, (List.forall_mem_cons.mpr ⟨rfl, (fun _ h => by cases h)⟩)⟩)⟩) (Nat.le_of_ble_eq_true rfl) rfl ?_
  show xRn G l _ xm_M_answer _ 0 [.ref 24, .int p1, .int p2, .null, .null, .null] [] (hL S r)
  refine xRn.blk (pc1 := 1) (ls1 := [.ref 24, .int p1, .int p2, .null, .null, .null]) (st1 := [.int p2]) (hp1 := (hL S r)) (ob := []) [(.iload_n 2, 1, 2, 0, 0, 0)] [] (by decide +kernel) rfl xall_nil (xSee_nil _) rfl rfl ?_
  refine xRn.if_eq (tgt := 14) (nx := 4) (off := 13) (by decide +kernel) (by decide) rfl (fun c21 => ?_) (fun c21 => ?_)
  · have h := h.1 c21
    refine xRn.forget (xle_eq (xle_eq (xle_no (xle_eq (xle_eq (xle_eq xle_nil)))))) ?_
    exact t_M_answer_14   S r p1 h
  · have h := h.2 c21
    refine xRn.blk (pc1 := 11) (ls1 := [.ref 24, .int p1, .int p2, .null, .null, .null]) (st1 := [.int ((gF S 821) - 1), .int p2]) (hp1 := (hL S r)) (ob := [(24 : Nat) = 24]) [(.iload_n 2, 1, 2, 0, 0, 0), (.aload_n 0, 1, 0, 0, 0, 0), (.getfield 32, 3, 21, 6, 0, 0), (.iconst 1, 1, 0, 0, 0, 1), (.isub, 1, 0, 0, 0, 0)] [(24, xc8 S)] (by decide +kernel) rfl (xall_cons rfl xall_nil) (xSee_cons rfl (xne_nil _) (xSee_nil _)) rfl rfl ?_
    refine xRn.ic_le (tgt := 23) (nx := 14) (off := 12) (by decide +kernel) (by decide) rfl (fun c22 => ?_) (fun c22 => ?_)
    · have h := h.1 c22
      refine xRn.blk (pc1 := 25) (ls1 := [.ref 24, .int p1, .int p2, .int p2, .null, .null]) (st1 := []) (hp1 := (hL S r)) (ob := []) [(.iload_n 2, 1, 2, 0, 0, 0), (.istore_n 3, 1, 3, 0, 0, 0)] [] (by decide +kernel) rfl xall_nil (xSee_nil _) rfl rfl ?_
      refine xRn.forget (xle_eq (xle_eq (xle_no (xle_eq (xle_eq (xle_eq xle_nil)))))) ?_
      exact t_M_answer_25   S r p1 p2 h
    · have h := h.2 c22
      refine xRn.forget (xle_eq (xle_eq (xle_no (xle_eq (xle_eq (xle_eq xle_nil)))))) ?_
      exact t_M_answer_14   S r p1 h
