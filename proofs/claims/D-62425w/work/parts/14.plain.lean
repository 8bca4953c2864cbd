/-! ===== plain methods and the class Frame: conditions and walks, printed by program ===== -/
def hF (hp : List AE) (a g : Nat) (L B : Int32) (f : Nat → Int32) : List AE := xput (xput hp g (xI 1 120 f)) a (xO 1 [.ref g, .int L, .int B])
def xFv (hp : List AE) (a g : Nat) : Prop := 16 ≤ a ∧ a - 16 < hp.length ∧ 16 ≤ g ∧ g - 16 < hp.length ∧ a ≠ g
theorem xat_in {hp : List AE} {n : Nat} (h1 : 16 ≤ n) (h2 : n - 16 < hp.length) : xat hp n ≠ none := by
  unfold xat
  rw [if_neg (by omega), List.getElem?_eq_getElem h2]
  simp
theorem xat_put_in {hp : List AE} {n : Nat} {e : AE} (h1 : 16 ≤ n) (h2 : n - 16 < hp.length) : xat (xput hp n e) n = some e := by
  unfold xat xput
  rw [if_neg (by omega), List.getElem?_set_self h2]
theorem hF_at {hp : List AE} {a g : Nat} {L B : Int32} {f : Nat → Int32} (hv : xFv hp a g) : xat (hF hp a g L B f) a = some (xO 1 [.ref g, .int L, .int B]) := xat_put_in hv.1 (by rw [xput_len]; exact hv.2.1)
theorem hF_gt {hp : List AE} {a g : Nat} {L B : Int32} {f : Nat → Int32} (hv : xFv hp a g) : xat (hF hp a g L B f) g = some (xI 1 120 f) := by
  unfold hF
  rw [xat_put_ne (Ne.symm hv.2.2.2.2) (xat_in hv.1 (by rw [xput_len]; exact hv.2.1))]
  exact xat_put_in hv.2.2.1 hv.2.2.2.1
theorem hF_see {hp : List AE} {a g : Nat} {L B : Int32} {f : Nat → Int32} (hv : xFv hp a g) : xSee (hF hp a g L B f) [(a, xO 1 [.ref g, .int L, .int B]), (g, xI 1 120 f)] :=
  xSee_cons (hF_at hv) (xne_cons (Ne.symm hv.2.2.2.2) (xne_nil _)) (xSee_cons (hF_gt hv) (xne_nil _) (xSee_nil _))
theorem xput_put (hp : List AE) (n : Nat) (e1 e2 : AE) : xput (xput hp n e1) n e2 = xput hp n e2 := List.set_set ..
theorem xput_comm (hp : List AE) {n k : Nat} (e1 e2 : AE) (h : n ≠ k) (h1 : 16 ≤ n) (h2 : 16 ≤ k) : xput (xput hp n e1) k e2 = xput (xput hp k e2) n e1 := List.set_comm _ _ (by omega)
theorem hF_a {hp : List AE} {a g : Nat} {L B L' B' : Int32} {f : Nat → Int32} (hv : xFv hp a g) : xput (hF hp a g L B f) a (xO 1 [.ref g, .int L', .int B']) = hF hp a g L' B' f := xput_put ..
theorem hF_g {hp : List AE} {a g : Nat} {L B : Int32} {f f' : Nat → Int32} (hv : xFv hp a g) : xput (hF hp a g L B f) g (xI 1 120 f') = hF hp a g L B f' := by
  unfold hF
  rw [xput_comm _ _ _ hv.2.2.2.2 hv.1 hv.2.2.1, xput_put]
def pFV (hp : List AE) (a g : Nat) (K : Int32 → Int32 → (Nat → Int32) → Prop) : XOut → List AE → Prop := fun u hp' => ∃ L B f, u = .inl none ∧ hp' = hF hp a g L B f ∧ K L B f
def pFI (hp : List AE) (a g : Nat) (K : Int32 → Int32 → Int32 → (Nat → Int32) → Prop) : XOut → List AE → Prop := fun u hp' => ∃ x L B f, u = .inl (some (.int x)) ∧ hp' = hF hp a g L B f ∧ K x L B f
theorem lk_S_M_room_83_M_places_1 : xlkS xm_M_room 83 xm_M_places 1 := by unfold xlkS; decide +kernel
theorem lk_V_F_begin_24_F_letter_1_2 : xlkV xm_F_begin 24 xm_F_letter 1 2 := by unfold xlkV; decide +kernel
theorem lk_V_F_begin_31_F_field_1_2 : xlkV xm_F_begin 31 xm_F_field 1 2 := by unfold xlkV; decide +kernel
theorem lk_V_F_digits_17_F_put_1_1 : xlkV xm_F_digits 17 xm_F_put 1 1 := by unfold xlkV; decide +kernel
theorem lk_V_F_end_17_F_put_1_1 : xlkV xm_F_end 17 xm_F_put 1 1 := by unfold xlkV; decide +kernel
theorem lk_V_F_end_21_F_digits_1_1 : xlkV xm_F_end 21 xm_F_digits 1 1 := by unfold xlkV; decide +kernel
theorem lk_V_F_end_31_F_field_1_2 : xlkV xm_F_end 31 xm_F_field 1 2 := by unfold xlkV; decide +kernel
theorem lk_V_F_end_35_F_sum_1_1 : xlkV xm_F_end 35 xm_F_sum 1 1 := by unfold xlkV; decide +kernel
theorem lk_V_F_field_17_F_put_1_1 : xlkV xm_F_field 17 xm_F_put 1 1 := by unfold xlkV; decide +kernel
theorem lk_V_F_field_21_F_digits_1_1 : xlkV xm_F_field 21 xm_F_digits 1 1 := by unfold xlkV; decide +kernel
theorem lk_V_F_letter_17_F_put_1_1 : xlkV xm_F_letter 17 xm_F_put 1 1 := by unfold xlkV; decide +kernel
theorem lk_V_F_letter_21_F_digits_1_1 : xlkV xm_F_letter 21 xm_F_digits 1 1 := by unfold xlkV; decide +kernel
theorem lk_V_O_state_20_O_open_4_0 : xlkV xm_O_state 20 xm_O_open 4 0 := by unfold xlkV; decide +kernel
/-! M_within -/
def w_M_within_14   (K : Int32 → Prop)  : Prop :=
  (K 0)
set_option maxRecDepth 100000 in
theorem t_M_within_14 {G : XG} {l : Launch} {d : Nat} (hp : List AE) {K : Int32 → Prop}  (h : w_M_within_14 K ) : xRn G l (d + 0) xm_M_within (nI_ hp K) 14 [.null, .null, .null] [] hp := by
  refine xRn.blk (pc1 := 15) (ls1 := [.null, .null, .null]) (st1 := [.int 0]) (hp1 := hp) (ob := []) [(.iconst 0, 1, 0, 0, 0, 0)] [] (by decide +kernel) rfl xall_nil (xSee_nil _) rfl rfl ?_
  exact xRn.iret (by decide +kernel) rfl rfl ⟨_, rfl, rfl, h⟩
def w_M_within  (p1 : Int32) (p2 : Int32) (p3 : Int32) (K : Int32 → Prop) : Prop :=
  ((p1 < p2 → (w_M_within_14 K)) ∧ (¬ p1 < p2 → ((p3 < p1 → (w_M_within_14 K)) ∧ (¬ p3 < p1 → (K 1)))))
set_option maxRecDepth 100000 in
theorem c_M_within {G : XG} {l : Launch} {d : Nat} (hp : List AE) (p1 : Int32) (p2 : Int32) (p3 : Int32) {K : Int32 → Prop} (h : w_M_within  p1 p2 p3 K) : xCt G l (d + 0) xm_M_within [.int p1, .int p2, .int p3] hp (nI_ hp K) := by
  refine xCt.intro (by decide) (by decide) (List.forall_mem_cons.mpr ⟨rfl, (List.forall_mem_cons.mpr ⟨rfl, (List.forall_mem_cons.mpr ⟨rfl, (fun _ h => by cases h)⟩)⟩)⟩) (Nat.le_of_ble_eq_true rfl) rfl ?_
  show xRn G l _ xm_M_within _ 0 [.int p1, .int p2, .int p3] [] hp
  refine xRn.blk (pc1 := 2) (ls1 := [.int p1, .int p2, .int p3]) (st1 := [.int p2, .int p1]) (hp1 := hp) (ob := []) [(.iload_n 0, 1, 0, 0, 0, 0), (.iload_n 1, 1, 1, 0, 0, 0)] [] (by decide +kernel) rfl xall_nil (xSee_nil _) rfl rfl ?_
  refine xRn.ic_lt (tgt := 14) (nx := 5) (off := 12) (by decide +kernel) (by decide) rfl (fun c1 => ?_) (fun c1 => ?_)
  · have h := h.1 c1
    refine xRn.forget (xle_no (xle_no (xle_no xle_nil))) ?_
    exact t_M_within_14 hp   h
  · have h := h.2 c1
    refine xRn.blk (pc1 := 7) (ls1 := [.int p1, .int p2, .int p3]) (st1 := [.int p3, .int p1]) (hp1 := hp) (ob := []) [(.iload_n 0, 1, 0, 0, 0, 0), (.iload_n 2, 1, 2, 0, 0, 0)] [] (by decide +kernel) rfl xall_nil (xSee_nil _) rfl rfl ?_
    refine xRn.ic_gt (tgt := 14) (nx := 10) (off := 7) (by decide +kernel) (by decide) rfl (fun c2 => ?_) (fun c2 => ?_)
    · have h := h.1 c2
      refine xRn.forget (xle_no (xle_no (xle_no xle_nil))) ?_
      exact t_M_within_14 hp   h
    · have h := h.2 c2
      refine xRn.blk (pc1 := 11) (ls1 := [.int p1, .int p2, .int p3]) (st1 := [.int 1]) (hp1 := hp) (ob := []) [(.iconst 1, 1, 0, 0, 0, 1)] [] (by decide +kernel) rfl xall_nil (xSee_nil _) rfl rfl ?_
      refine xRn.goto (tgt := 15) (off := 4) (by decide +kernel) (by decide) ?_
      exact xRn.iret (by decide +kernel) rfl rfl ⟨_, rfl, rfl, h⟩
/-! M_places -/
def w_M_places_4   (K : Int32 → Prop) : Nat → Int32 → Int32 → Prop
  | 0, _, _ => False
  | n + 1, v1, v2 => ((v2 ≤ (9 : Int32) → (K v1)) ∧ (¬ v2 ≤ (9 : Int32) → (w_M_places_4 K n (v1 + 1) (v2 / 10))))
set_option maxRecDepth 100000 in
theorem t_M_places_4 {G : XG} {l : Launch} {d : Nat} (hp : List AE) {K : Int32 → Prop} : ∀ (n : Nat) (v1 : Int32) (v2 : Int32), w_M_places_4 K n v1 v2 → xRn G l (d + 0) xm_M_places (nI_ hp K) 4 [.null, .int v1, .int v2] [] hp := by
  intro n
  induction n with
  | zero => intro v1 v2 h; exact h.elim
  | succ n ih =>
    intro v1 v2 h
    refine xRn.blk (pc1 := 7) (ls1 := [.null, .int v1, .int v2]) (st1 := [.int 9, .int v2]) (hp1 := hp) (ob := []) [(.iload_n 2, 1, 2, 0, 0, 0), (.bipush 9, 2, 0, 0, 0, 9)] [] (by decide +kernel) rfl xall_nil (xSee_nil _) rfl rfl ?_
    refine xRn.ic_le (tgt := 21) (nx := 10) (off := 14) (by decide +kernel) (by decide) rfl (fun c1 => ?_) (fun c1 => ?_)
    · have h := h.1 c1
      refine xRn.blk (pc1 := 22) (ls1 := [.null, .int v1, .int v2]) (st1 := [.int v1]) (hp1 := hp) (ob := []) [(.iload_n 1, 1, 1, 0, 0, 0)] [] (by decide +kernel) rfl xall_nil (xSee_nil _) rfl rfl ?_
      exact xRn.iret (by decide +kernel) rfl rfl ⟨_, rfl, rfl, h⟩
    · have h := h.2 c1
      refine xRn.blk (pc1 := 18) (ls1 := [.null, .int (v1 + 1), .int (v2 / 10)]) (st1 := []) (hp1 := hp) (ob := [¬ (10 : Int32) = 0]) [(.iinc 1 1, 3, 1, 0, 0, 1), (.iload_n 2, 1, 2, 0, 0, 0), (.bipush 10, 2, 0, 0, 0, 10), (.idiv, 1, 0, 0, 0, 0), (.istore_n 2, 1, 2, 0, 0, 0)] [] (by decide +kernel) rfl (xall_cons (by decide) xall_nil) (xSee_nil _) rfl rfl ?_
      refine xRn.goto (tgt := 4) (off := (-14)) (by decide +kernel) (by decide) ?_
      refine xRn.forget (xle_eq (xle_eq (xle_eq xle_nil))) ?_
      exact ih (v1 + 1) (v2 / 10) h
def w_M_places  (p1 : Int32) (K : Int32 → Prop) : Prop :=
  (∃ j, w_M_places_4 K j 1 p1)
set_option maxRecDepth 100000 in
theorem c_M_places {G : XG} {l : Launch} {d : Nat} (hp : List AE) (p1 : Int32) {K : Int32 → Prop} (h : w_M_places  p1 K) : xCt G l (d + 0) xm_M_places [.int p1] hp (nI_ hp K) := by
  refine xCt.intro (by decide) (by decide) (List.forall_mem_cons.mpr ⟨rfl, (fun _ h => by cases h)⟩) (Nat.le_of_ble_eq_true rfl) rfl ?_
  show xRn G l _ xm_M_places _ 0 [.int p1, .null, .null] [] hp
  refine xRn.blk (pc1 := 4) (ls1 := [.int p1, .int 1, .int p1]) (st1 := []) (hp1 := hp) (ob := []) [(.iconst 1, 1, 0, 0, 0, 1), (.istore_n 1, 1, 1, 0, 0, 0), (.iload_n 0, 1, 0, 0, 0, 0), (.istore_n 2, 1, 2, 0, 0, 0)] [] (by decide +kernel) rfl xall_nil (xSee_nil _) rfl rfl ?_
  refine xRn.forget (xle_no (xle_eq (xle_eq xle_nil))) ?_
  obtain ⟨n2, h⟩ := h
  exact t_M_places_4 hp  n2 1 p1 h
/-! M_room -/
def w_M_room  (p1 : Int32) (p2 : Int32) (K : Int32 → Prop) : Prop :=
  (w_M_places p1 (fun x1 => (w_M_places p2 (fun x2 => (K ((x1 + x2) + 2))))))
set_option maxRecDepth 100000 in
theorem c_M_room {G : XG} {l : Launch} {d : Nat} (hp : List AE) (p1 : Int32) (p2 : Int32) {K : Int32 → Prop} (h : w_M_room  p1 p2 K) : xCt G l (d + 1) xm_M_room [.int p1, .int p2] hp (nI_ hp K) := by
  refine xCt.intro (by decide) (by decide) (List.forall_mem_cons.mpr ⟨rfl, (List.forall_mem_cons.mpr ⟨rfl, (fun _ h => by cases h)⟩)⟩) (Nat.le_of_ble_eq_true rfl) rfl ?_
  show xRn G l _ xm_M_room _ 0 [.int p1, .int p2] [] hp
  refine xRn.blk (pc1 := 1) (ls1 := [.int p1, .int p2]) (st1 := [.int p1]) (hp1 := hp) (ob := []) [(.iload_n 0, 1, 0, 0, 0, 0)] [] (by decide +kernel) rfl xall_nil (xSee_nil _) rfl rfl ?_
  refine xRn.callS (al := [.int p1]) (st := []) (nx := 4) (by decide +kernel) lk_S_M_room_83_M_places_1 rfl (c_M_places (d := d + 0) _ p1 h) rfl (Nat.le_of_ble_eq_true rfl) rfl rfl ?_ ?_
  · rintro _ _ ⟨x1, e9, e8, h⟩
    cases e9
    rw [e8]
    show xRn G l _ _ _ 4 [.int p1, .int p2] [.int x1] hp
    refine xRn.blk (pc1 := 5) (ls1 := [.int p1, .int p2]) (st1 := [.int p2, .int x1]) (hp1 := hp) (ob := []) [(.iload_n 1, 1, 1, 0, 0, 0)] [] (by decide +kernel) rfl xall_nil (xSee_nil _) rfl rfl ?_
    refine xRn.callS (al := [.int p2]) (st := [.int x1]) (nx := 8) (by decide +kernel) lk_S_M_room_83_M_places_1 rfl (c_M_places (d := d + 0) _ p2 h) rfl (Nat.le_of_ble_eq_true rfl) rfl rfl ?_ ?_
    · rintro _ _ ⟨x2, e9, e8, h⟩
      cases e9
      rw [e8]
      show xRn G l _ _ _ 8 [.int p1, .int p2] [.int x2, .int x1] hp
      refine xRn.blk (pc1 := 11) (ls1 := [.int p1, .int p2]) (st1 := [.int ((x1 + x2) + 2)]) (hp1 := hp) (ob := []) [(.iadd, 1, 0, 0, 0, 0), (.iconst 2, 1, 0, 0, 0, 2), (.iadd, 1, 0, 0, 0, 0)] [] (by decide +kernel) rfl xall_nil (xSee_nil _) rfl rfl ?_
      exact xRn.iret (by decide +kernel) rfl rfl ⟨_, rfl, rfl, h⟩
    · rintro _ _ ⟨_, e9, _⟩
      cases e9
  · rintro _ _ ⟨_, e9, _⟩
    cases e9
/-! M_name -/
def w_M_name_178   (K : Int32 → Prop)  : Prop :=
  (K 0)
set_option maxRecDepth 100000 in
theorem t_M_name_178 {G : XG} {l : Launch} {d : Nat} (hp : List AE) {K : Int32 → Prop}  (h : w_M_name_178 K ) : xRn G l (d + 0) xm_M_name (nI_ hp K) 178 [.null, .null] [] hp := by
  refine xRn.blk (pc1 := 179) (ls1 := [.null, .null]) (st1 := [.int 0]) (hp1 := hp) (ob := []) [(.iconst 0, 1, 0, 0, 0, 0)] [] (by decide +kernel) rfl xall_nil (xSee_nil _) rfl rfl ?_
  exact xRn.iret (by decide +kernel) rfl rfl ⟨_, rfl, rfl, h⟩
def w_M_name_143   (K : Int32 → Prop) (v0 : Int32) (v1 : Int32) : Prop :=
  ((¬ v1 = 0 → ((¬ v1 = (1 : Int32) → ((¬ v1 = (2 : Int32) → (w_M_name_178 K)) ∧ (v1 = (2 : Int32) → ((¬ v0 = (71 : Int32) → (w_M_name_178 K)) ∧ (v0 = (71 : Int32) → (K 38)))))) ∧ (v1 = (1 : Int32) → (K 41)))) ∧ (v1 = 0 → (K 11)))
set_option maxRecDepth 100000 in
theorem t_M_name_143 {G : XG} {l : Launch} {d : Nat} (hp : List AE) {K : Int32 → Prop} (v0 : Int32) (v1 : Int32) (h : w_M_name_143 K v0 v1) : xRn G l (d + 0) xm_M_name (nI_ hp K) 143 [.int v0, .int v1] [] hp := by
  refine xRn.blk (pc1 := 144) (ls1 := [.int v0, .int v1]) (st1 := [.int v1]) (hp1 := hp) (ob := []) [(.iload_n 1, 1, 1, 0, 0, 0)] [] (by decide +kernel) rfl xall_nil (xSee_nil _) rfl rfl ?_
  refine xRn.if_ne (tgt := 152) (nx := 147) (off := 8) (by decide +kernel) (by decide) rfl (fun c1 => ?_) (fun c1 => ?_)
  · have h := h.1 c1
    refine xRn.blk (pc1 := 154) (ls1 := [.int v0, .int v1]) (st1 := [.int 1, .int v1]) (hp1 := hp) (ob := []) [(.iload_n 1, 1, 1, 0, 0, 0), (.iconst 1, 1, 0, 0, 0, 1)] [] (by decide +kernel) rfl xall_nil (xSee_nil _) rfl rfl ?_
    refine xRn.ic_ne (tgt := 162) (nx := 157) (off := 8) (by decide +kernel) (by decide) rfl (fun c2 => ?_) (fun c2 => ?_)
    · have h := h.1 c2
      refine xRn.blk (pc1 := 164) (ls1 := [.int v0, .int v1]) (st1 := [.int 2, .int v1]) (hp1 := hp) (ob := []) [(.iload_n 1, 1, 1, 0, 0, 0), (.iconst 2, 1, 0, 0, 0, 2)] [] (by decide +kernel) rfl xall_nil (xSee_nil _) rfl rfl ?_
      refine xRn.ic_ne (tgt := 178) (nx := 167) (off := 14) (by decide +kernel) (by decide) rfl (fun c3 => ?_) (fun c3 => ?_)
      · have h := h.1 c3
        refine xRn.forget (xle_no (xle_no xle_nil)) ?_
        exact t_M_name_178 hp   h
      · have h := h.2 c3
        refine xRn.blk (pc1 := 170) (ls1 := [.int v0, .int v1]) (st1 := [.int 71, .int v0]) (hp1 := hp) (ob := []) [(.iload_n 0, 1, 0, 0, 0, 0), (.bipush 71, 2, 0, 0, 0, 71)] [] (by decide +kernel) rfl xall_nil (xSee_nil _) rfl rfl ?_
        refine xRn.ic_ne (tgt := 178) (nx := 173) (off := 8) (by decide +kernel) (by decide) rfl (fun c4 => ?_) (fun c4 => ?_)
        · have h := h.1 c4
          refine xRn.forget (xle_no (xle_no xle_nil)) ?_
          exact t_M_name_178 hp   h
        · have h := h.2 c4
          refine xRn.blk (pc1 := 175) (ls1 := [.int v0, .int v1]) (st1 := [.int 38]) (hp1 := hp) (ob := []) [(.bipush 38, 2, 0, 0, 0, 38)] [] (by decide +kernel) rfl xall_nil (xSee_nil _) rfl rfl ?_
          refine xRn.goto (tgt := 179) (off := 4) (by decide +kernel) (by decide) ?_
          exact xRn.iret (by decide +kernel) rfl rfl ⟨_, rfl, rfl, h⟩
    · have h := h.2 c2
      refine xRn.blk (pc1 := 159) (ls1 := [.int v0, .int v1]) (st1 := [.int 41]) (hp1 := hp) (ob := []) [(.bipush 41, 2, 0, 0, 0, 41)] [] (by decide +kernel) rfl xall_nil (xSee_nil _) rfl rfl ?_
      refine xRn.goto (tgt := 179) (off := 20) (by decide +kernel) (by decide) ?_
      exact xRn.iret (by decide +kernel) rfl rfl ⟨_, rfl, rfl, h⟩
  · have h := h.2 c1
    refine xRn.blk (pc1 := 149) (ls1 := [.int v0, .int v1]) (st1 := [.int 11]) (hp1 := hp) (ob := []) [(.bipush 11, 2, 0, 0, 0, 11)] [] (by decide +kernel) rfl xall_nil (xSee_nil _) rfl rfl ?_
    refine xRn.goto (tgt := 179) (off := 30) (by decide +kernel) (by decide) ?_
    exact xRn.iret (by decide +kernel) rfl rfl ⟨_, rfl, rfl, h⟩
def w_M_name_12   (K : Int32 → Prop) (v1 : Int32) : Prop :=
  ((¬ v1 = 0 → (K 0)) ∧ (v1 = 0 → (K 112)))
set_option maxRecDepth 100000 in
theorem t_M_name_12 {G : XG} {l : Launch} {d : Nat} (hp : List AE) {K : Int32 → Prop} (v1 : Int32) (h : w_M_name_12 K v1) : xRn G l (d + 0) xm_M_name (nI_ hp K) 12 [.null, .int v1] [] hp := by
  refine xRn.blk (pc1 := 13) (ls1 := [.null, .int v1]) (st1 := [.int v1]) (hp1 := hp) (ob := []) [(.iload_n 1, 1, 1, 0, 0, 0)] [] (by decide +kernel) rfl xall_nil (xSee_nil _) rfl rfl ?_
  refine xRn.if_ne (tgt := 21) (nx := 16) (off := 8) (by decide +kernel) (by decide) rfl (fun c5 => ?_) (fun c5 => ?_)
  · have h := h.1 c5
    refine xRn.blk (pc1 := 22) (ls1 := [.null, .int v1]) (st1 := [.int 0]) (hp1 := hp) (ob := []) [(.iconst 0, 1, 0, 0, 0, 0)] [] (by decide +kernel) rfl xall_nil (xSee_nil _) rfl rfl ?_
    exact xRn.iret (by decide +kernel) rfl rfl ⟨_, rfl, rfl, h⟩
  · have h := h.2 c5
    refine xRn.blk (pc1 := 18) (ls1 := [.null, .int v1]) (st1 := [.int 112]) (hp1 := hp) (ob := []) [(.bipush 112, 2, 0, 0, 0, 112)] [] (by decide +kernel) rfl xall_nil (xSee_nil _) rfl rfl ?_
    refine xRn.goto (tgt := 22) (off := 4) (by decide +kernel) (by decide) ?_
    exact xRn.iret (by decide +kernel) rfl rfl ⟨_, rfl, rfl, h⟩
def w_M_name  (p1 : Int32) (p2 : Int32) (K : Int32 → Prop) : Prop :=
  ((p1 = (48 : Int32) → (w_M_name_12 K p2)) ∧ (¬ p1 = (48 : Int32) → ((¬ p1 = (49 : Int32) → ((¬ p1 = (50 : Int32) → ((¬ p1 = (52 : Int32) → ((¬ p1 = (65 : Int32) → ((¬ p1 = (68 : Int32) → ((p1 = (70 : Int32) → (w_M_name_143 K p1 p2)) ∧ (¬ p1 = (70 : Int32) → ((¬ p1 = (71 : Int32) → ((¬ p1 = (56 : Int32) → (K 0)) ∧ (p1 = (56 : Int32) → ((¬ p2 = 0 → ((¬ p2 = (1 : Int32) → ((¬ p2 = (2 : Int32) → (K 151)) ∧ (p2 = (2 : Int32) → (K 14)))) ∧ (p2 = (1 : Int32) → (K 39)))) ∧ (p2 = 0 → (K 11)))))) ∧ (p1 = (71 : Int32) → (w_M_name_143 K p1 p2)))))) ∧ (p1 = (68 : Int32) → ((¬ p2 = 0 → ((¬ p2 = (1 : Int32) → ((¬ p2 = (2 : Int32) → (K 0)) ∧ (p2 = (2 : Int32) → (K 38)))) ∧ (p2 = (1 : Int32) → (K 54)))) ∧ (p2 = 0 → (K 11)))))) ∧ (p1 = (65 : Int32) → ((¬ p2 = 0 → (K 0)) ∧ (p2 = 0 → (K 108)))))) ∧ (p1 = (52 : Int32) → ((¬ p2 = 0 → ((¬ p2 = (1 : Int32) → (K 0)) ∧ (p2 = (1 : Int32) → (K 123)))) ∧ (p2 = 0 → (K 36)))))) ∧ (p1 = (50 : Int32) → ((¬ p2 = 0 → ((¬ p2 = (1 : Int32) → (K 0)) ∧ (p2 = (1 : Int32) → (K 16)))) ∧ (p2 = 0 → (K 7)))))) ∧ (p1 = (49 : Int32) → (w_M_name_12 K p2)))))
set_option maxRecDepth 100000 in
theorem c_M_name {G : XG} {l : Launch} {d : Nat} (hp : List AE) (p1 : Int32) (p2 : Int32) {K : Int32 → Prop} (h : w_M_name  p1 p2 K) : xCt G l (d + 0) xm_M_name [.int p1, .int p2] hp (nI_ hp K) := by
  refine xCt.intro (by decide) (by decide) (List.forall_mem_cons.mpr ⟨rfl, (List.forall_mem_cons.mpr ⟨rfl, (fun _ h => by cases h)⟩)⟩) (Nat.le_of_ble_eq_true rfl) rfl ?_
  show xRn G l _ xm_M_name _ 0 [.int p1, .int p2] [] hp
  refine xRn.blk (pc1 := 3) (ls1 := [.int p1, .int p2]) (st1 := [.int 48, .int p1]) (hp1 := hp) (ob := []) [(.iload_n 0, 1, 0, 0, 0, 0), (.bipush 48, 2, 0, 0, 0, 48)] [] (by decide +kernel) rfl xall_nil (xSee_nil _) rfl rfl ?_
  refine xRn.ic_eq (tgt := 12) (nx := 6) (off := 9) (by decide +kernel) (by decide) rfl (fun c6 => ?_) (fun c6 => ?_)
  · have h := h.1 c6
    refine xRn.forget (xle_no (xle_eq xle_nil)) ?_
    exact t_M_name_12 hp  p2 h
  · have h := h.2 c6
    refine xRn.blk (pc1 := 9) (ls1 := [.int p1, .int p2]) (st1 := [.int 49, .int p1]) (hp1 := hp) (ob := []) [(.iload_n 0, 1, 0, 0, 0, 0), (.bipush 49, 2, 0, 0, 0, 49)] [] (by decide +kernel) rfl xall_nil (xSee_nil _) rfl rfl ?_
    refine xRn.ic_ne (tgt := 23) (nx := 12) (off := 14) (by decide +kernel) (by decide) rfl (fun c7 => ?_) (fun c7 => ?_)
    · have h := h.1 c7
      refine xRn.blk (pc1 := 26) (ls1 := [.int p1, .int p2]) (st1 := [.int 50, .int p1]) (hp1 := hp) (ob := []) [(.iload_n 0, 1, 0, 0, 0, 0), (.bipush 50, 2, 0, 0, 0, 50)] [] (by decide +kernel) rfl xall_nil (xSee_nil _) rfl rfl ?_
      refine xRn.ic_ne (tgt := 50) (nx := 29) (off := 24) (by decide +kernel) (by decide) rfl (fun c8 => ?_) (fun c8 => ?_)
      · have h := h.1 c8
        refine xRn.blk (pc1 := 53) (ls1 := [.int p1, .int p2]) (st1 := [.int 52, .int p1]) (hp1 := hp) (ob := []) [(.iload_n 0, 1, 0, 0, 0, 0), (.bipush 52, 2, 0, 0, 0, 52)] [] (by decide +kernel) rfl xall_nil (xSee_nil _) rfl rfl ?_
        refine xRn.ic_ne (tgt := 77) (nx := 56) (off := 24) (by decide +kernel) (by decide) rfl (fun c9 => ?_) (fun c9 => ?_)
        · have h := h.1 c9
          refine xRn.blk (pc1 := 80) (ls1 := [.int p1, .int p2]) (st1 := [.int 65, .int p1]) (hp1 := hp) (ob := []) [(.iload_n 0, 1, 0, 0, 0, 0), (.bipush 65, 2, 0, 0, 0, 65)] [] (by decide +kernel) rfl xall_nil (xSee_nil _) rfl rfl ?_
          refine xRn.ic_ne (tgt := 94) (nx := 83) (off := 14) (by decide +kernel) (by decide) rfl (fun c10 => ?_) (fun c10 => ?_)
          · have h := h.1 c10
            refine xRn.blk (pc1 := 97) (ls1 := [.int p1, .int p2]) (st1 := [.int 68, .int p1]) (hp1 := hp) (ob := []) [(.iload_n 0, 1, 0, 0, 0, 0), (.bipush 68, 2, 0, 0, 0, 68)] [] (by decide +kernel) rfl xall_nil (xSee_nil _) rfl rfl ?_
            refine xRn.ic_ne (tgt := 131) (nx := 100) (off := 34) (by decide +kernel) (by decide) rfl (fun c11 => ?_) (fun c11 => ?_)
            · have h := h.1 c11
              refine xRn.blk (pc1 := 134) (ls1 := [.int p1, .int p2]) (st1 := [.int 70, .int p1]) (hp1 := hp) (ob := []) [(.iload_n 0, 1, 0, 0, 0, 0), (.bipush 70, 2, 0, 0, 0, 70)] [] (by decide +kernel) rfl xall_nil (xSee_nil _) rfl rfl ?_
              refine xRn.ic_eq (tgt := 143) (nx := 137) (off := 9) (by decide +kernel) (by decide) rfl (fun c12 => ?_) (fun c12 => ?_)
              · have h := h.1 c12
                refine xRn.forget (xle_eq (xle_eq xle_nil)) ?_
                exact t_M_name_143 hp  p1 p2 h
              · have h := h.2 c12
                refine xRn.blk (pc1 := 140) (ls1 := [.int p1, .int p2]) (st1 := [.int 71, .int p1]) (hp1 := hp) (ob := []) [(.iload_n 0, 1, 0, 0, 0, 0), (.bipush 71, 2, 0, 0, 0, 71)] [] (by decide +kernel) rfl xall_nil (xSee_nil _) rfl rfl ?_
                refine xRn.ic_ne (tgt := 180) (nx := 143) (off := 40) (by decide +kernel) (by decide) rfl (fun c13 => ?_) (fun c13 => ?_)
                · have h := h.1 c13
                  refine xRn.blk (pc1 := 183) (ls1 := [.int p1, .int p2]) (st1 := [.int 56, .int p1]) (hp1 := hp) (ob := []) [(.iload_n 0, 1, 0, 0, 0, 0), (.bipush 56, 2, 0, 0, 0, 56)] [] (by decide +kernel) rfl xall_nil (xSee_nil _) rfl rfl ?_
                  refine xRn.ic_ne (tgt := 219) (nx := 186) (off := 36) (by decide +kernel) (by decide) rfl (fun c14 => ?_) (fun c14 => ?_)
                  · have h := h.1 c14
                    refine xRn.blk (pc1 := 220) (ls1 := [.int p1, .int p2]) (st1 := [.int 0]) (hp1 := hp) (ob := []) [(.iconst 0, 1, 0, 0, 0, 0)] [] (by decide +kernel) rfl xall_nil (xSee_nil _) rfl rfl ?_
                    exact xRn.iret (by decide +kernel) rfl rfl ⟨_, rfl, rfl, h⟩
                  · have h := h.2 c14
                    refine xRn.blk (pc1 := 187) (ls1 := [.int p1, .int p2]) (st1 := [.int p2]) (hp1 := hp) (ob := []) [(.iload_n 1, 1, 1, 0, 0, 0)] [] (by decide +kernel) rfl xall_nil (xSee_nil _) rfl rfl ?_
                    refine xRn.if_ne (tgt := 195) (nx := 190) (off := 8) (by decide +kernel) (by decide) rfl (fun c15 => ?_) (fun c15 => ?_)
                    · have h := h.1 c15
                      refine xRn.blk (pc1 := 197) (ls1 := [.int p1, .int p2]) (st1 := [.int 1, .int p2]) (hp1 := hp) (ob := []) [(.iload_n 1, 1, 1, 0, 0, 0), (.iconst 1, 1, 0, 0, 0, 1)] [] (by decide +kernel) rfl xall_nil (xSee_nil _) rfl rfl ?_
                      refine xRn.ic_ne (tgt := 205) (nx := 200) (off := 8) (by decide +kernel) (by decide) rfl (fun c16 => ?_) (fun c16 => ?_)
                      · have h := h.1 c16
                        refine xRn.blk (pc1 := 207) (ls1 := [.int p1, .int p2]) (st1 := [.int 2, .int p2]) (hp1 := hp) (ob := []) [(.iload_n 1, 1, 1, 0, 0, 0), (.iconst 2, 1, 0, 0, 0, 2)] [] (by decide +kernel) rfl xall_nil (xSee_nil _) rfl rfl ?_
                        refine xRn.ic_ne (tgt := 215) (nx := 210) (off := 8) (by decide +kernel) (by decide) rfl (fun c17 => ?_) (fun c17 => ?_)
                        · have h := h.1 c17
                          refine xRn.blk (pc1 := 218) (ls1 := [.int p1, .int p2]) (st1 := [.int 151]) (hp1 := hp) (ob := []) [(.sipush 151, 3, 0, 0, 0, 151)] [] (by decide +kernel) rfl xall_nil (xSee_nil _) rfl rfl ?_
                          exact xRn.iret (by decide +kernel) rfl rfl ⟨_, rfl, rfl, h⟩
                        · have h := h.2 c17
                          refine xRn.blk (pc1 := 212) (ls1 := [.int p1, .int p2]) (st1 := [.int 14]) (hp1 := hp) (ob := []) [(.bipush 14, 2, 0, 0, 0, 14)] [] (by decide +kernel) rfl xall_nil (xSee_nil _) rfl rfl ?_
                          refine xRn.goto (tgt := 218) (off := 6) (by decide +kernel) (by decide) ?_
                          exact xRn.iret (by decide +kernel) rfl rfl ⟨_, rfl, rfl, h⟩
                      · have h := h.2 c16
                        refine xRn.blk (pc1 := 202) (ls1 := [.int p1, .int p2]) (st1 := [.int 39]) (hp1 := hp) (ob := []) [(.bipush 39, 2, 0, 0, 0, 39)] [] (by decide +kernel) rfl xall_nil (xSee_nil _) rfl rfl ?_
                        refine xRn.goto (tgt := 218) (off := 16) (by decide +kernel) (by decide) ?_
                        exact xRn.iret (by decide +kernel) rfl rfl ⟨_, rfl, rfl, h⟩
                    · have h := h.2 c15
                      refine xRn.blk (pc1 := 192) (ls1 := [.int p1, .int p2]) (st1 := [.int 11]) (hp1 := hp) (ob := []) [(.bipush 11, 2, 0, 0, 0, 11)] [] (by decide +kernel) rfl xall_nil (xSee_nil _) rfl rfl ?_
                      refine xRn.goto (tgt := 218) (off := 26) (by decide +kernel) (by decide) ?_
                      exact xRn.iret (by decide +kernel) rfl rfl ⟨_, rfl, rfl, h⟩
                · have h := h.2 c13
                  refine xRn.forget (xle_eq (xle_eq xle_nil)) ?_
                  exact t_M_name_143 hp  p1 p2 h
            · have h := h.2 c11
              refine xRn.blk (pc1 := 101) (ls1 := [.int p1, .int p2]) (st1 := [.int p2]) (hp1 := hp) (ob := []) [(.iload_n 1, 1, 1, 0, 0, 0)] [] (by decide +kernel) rfl xall_nil (xSee_nil _) rfl rfl ?_
              refine xRn.if_ne (tgt := 109) (nx := 104) (off := 8) (by decide +kernel) (by decide) rfl (fun c18 => ?_) (fun c18 => ?_)
              · have h := h.1 c18
                refine xRn.blk (pc1 := 111) (ls1 := [.int p1, .int p2]) (st1 := [.int 1, .int p2]) (hp1 := hp) (ob := []) [(.iload_n 1, 1, 1, 0, 0, 0), (.iconst 1, 1, 0, 0, 0, 1)] [] (by decide +kernel) rfl xall_nil (xSee_nil _) rfl rfl ?_
                refine xRn.ic_ne (tgt := 119) (nx := 114) (off := 8) (by decide +kernel) (by decide) rfl (fun c19 => ?_) (fun c19 => ?_)
                · have h := h.1 c19
                  refine xRn.blk (pc1 := 121) (ls1 := [.int p1, .int p2]) (st1 := [.int 2, .int p2]) (hp1 := hp) (ob := []) [(.iload_n 1, 1, 1, 0, 0, 0), (.iconst 2, 1, 0, 0, 0, 2)] [] (by decide +kernel) rfl xall_nil (xSee_nil _) rfl rfl ?_
                  refine xRn.ic_ne (tgt := 129) (nx := 124) (off := 8) (by decide +kernel) (by decide) rfl (fun c20 => ?_) (fun c20 => ?_)
                  · have h := h.1 c20
                    refine xRn.blk (pc1 := 130) (ls1 := [.int p1, .int p2]) (st1 := [.int 0]) (hp1 := hp) (ob := []) [(.iconst 0, 1, 0, 0, 0, 0)] [] (by decide +kernel) rfl xall_nil (xSee_nil _) rfl rfl ?_
                    exact xRn.iret (by decide +kernel) rfl rfl ⟨_, rfl, rfl, h⟩
                  · have h := h.2 c20
                    refine xRn.blk (pc1 := 126) (ls1 := [.int p1, .int p2]) (st1 := [.int 38]) (hp1 := hp) (ob := []) [(.bipush 38, 2, 0, 0, 0, 38)] [] (by decide +kernel) rfl xall_nil (xSee_nil _) rfl rfl ?_
                    refine xRn.goto (tgt := 130) (off := 4) (by decide +kernel) (by decide) ?_
                    exact xRn.iret (by decide +kernel) rfl rfl ⟨_, rfl, rfl, h⟩
                · have h := h.2 c19
                  refine xRn.blk (pc1 := 116) (ls1 := [.int p1, .int p2]) (st1 := [.int 54]) (hp1 := hp) (ob := []) [(.bipush 54, 2, 0, 0, 0, 54)] [] (by decide +kernel) rfl xall_nil (xSee_nil _) rfl rfl ?_
                  refine xRn.goto (tgt := 130) (off := 14) (by decide +kernel) (by decide) ?_
                  exact xRn.iret (by decide +kernel) rfl rfl ⟨_, rfl, rfl, h⟩
              · have h := h.2 c18
                refine xRn.blk (pc1 := 106) (ls1 := [.int p1, .int p2]) (st1 := [.int 11]) (hp1 := hp) (ob := []) [(.bipush 11, 2, 0, 0, 0, 11)] [] (by decide +kernel) rfl xall_nil (xSee_nil _) rfl rfl ?_
                refine xRn.goto (tgt := 130) (off := 24) (by decide +kernel) (by decide) ?_
                exact xRn.iret (by decide +kernel) rfl rfl ⟨_, rfl, rfl, h⟩
          · have h := h.2 c10
            refine xRn.blk (pc1 := 84) (ls1 := [.int p1, .int p2]) (st1 := [.int p2]) (hp1 := hp) (ob := []) [(.iload_n 1, 1, 1, 0, 0, 0)] [] (by decide +kernel) rfl xall_nil (xSee_nil _) rfl rfl ?_
            refine xRn.if_ne (tgt := 92) (nx := 87) (off := 8) (by decide +kernel) (by decide) rfl (fun c21 => ?_) (fun c21 => ?_)
            · have h := h.1 c21
              refine xRn.blk (pc1 := 93) (ls1 := [.int p1, .int p2]) (st1 := [.int 0]) (hp1 := hp) (ob := []) [(.iconst 0, 1, 0, 0, 0, 0)] [] (by decide +kernel) rfl xall_nil (xSee_nil _) rfl rfl ?_
              exact xRn.iret (by decide +kernel) rfl rfl ⟨_, rfl, rfl, h⟩
            · have h := h.2 c21
              refine xRn.blk (pc1 := 89) (ls1 := [.int p1, .int p2]) (st1 := [.int 108]) (hp1 := hp) (ob := []) [(.bipush 108, 2, 0, 0, 0, 108)] [] (by decide +kernel) rfl xall_nil (xSee_nil _) rfl rfl ?_
              refine xRn.goto (tgt := 93) (off := 4) (by decide +kernel) (by decide) ?_
              exact xRn.iret (by decide +kernel) rfl rfl ⟨_, rfl, rfl, h⟩
        · have h := h.2 c9
          refine xRn.blk (pc1 := 57) (ls1 := [.int p1, .int p2]) (st1 := [.int p2]) (hp1 := hp) (ob := []) [(.iload_n 1, 1, 1, 0, 0, 0)] [] (by decide +kernel) rfl xall_nil (xSee_nil _) rfl rfl ?_
          refine xRn.if_ne (tgt := 65) (nx := 60) (off := 8) (by decide +kernel) (by decide) rfl (fun c22 => ?_) (fun c22 => ?_)
          · have h := h.1 c22
            refine xRn.blk (pc1 := 67) (ls1 := [.int p1, .int p2]) (st1 := [.int 1, .int p2]) (hp1 := hp) (ob := []) [(.iload_n 1, 1, 1, 0, 0, 0), (.iconst 1, 1, 0, 0, 0, 1)] [] (by decide +kernel) rfl xall_nil (xSee_nil _) rfl rfl ?_
            refine xRn.ic_ne (tgt := 75) (nx := 70) (off := 8) (by decide +kernel) (by decide) rfl (fun c23 => ?_) (fun c23 => ?_)
            · have h := h.1 c23
              refine xRn.blk (pc1 := 76) (ls1 := [.int p1, .int p2]) (st1 := [.int 0]) (hp1 := hp) (ob := []) [(.iconst 0, 1, 0, 0, 0, 0)] [] (by decide +kernel) rfl xall_nil (xSee_nil _) rfl rfl ?_
              exact xRn.iret (by decide +kernel) rfl rfl ⟨_, rfl, rfl, h⟩
            · have h := h.2 c23
              refine xRn.blk (pc1 := 72) (ls1 := [.int p1, .int p2]) (st1 := [.int 123]) (hp1 := hp) (ob := []) [(.bipush 123, 2, 0, 0, 0, 123)] [] (by decide +kernel) rfl xall_nil (xSee_nil _) rfl rfl ?_
              refine xRn.goto (tgt := 76) (off := 4) (by decide +kernel) (by decide) ?_
              exact xRn.iret (by decide +kernel) rfl rfl ⟨_, rfl, rfl, h⟩
          · have h := h.2 c22
            refine xRn.blk (pc1 := 62) (ls1 := [.int p1, .int p2]) (st1 := [.int 36]) (hp1 := hp) (ob := []) [(.bipush 36, 2, 0, 0, 0, 36)] [] (by decide +kernel) rfl xall_nil (xSee_nil _) rfl rfl ?_
            refine xRn.goto (tgt := 76) (off := 14) (by decide +kernel) (by decide) ?_
            exact xRn.iret (by decide +kernel) rfl rfl ⟨_, rfl, rfl, h⟩
      · have h := h.2 c8
        refine xRn.blk (pc1 := 30) (ls1 := [.int p1, .int p2]) (st1 := [.int p2]) (hp1 := hp) (ob := []) [(.iload_n 1, 1, 1, 0, 0, 0)] [] (by decide +kernel) rfl xall_nil (xSee_nil _) rfl rfl ?_
        refine xRn.if_ne (tgt := 38) (nx := 33) (off := 8) (by decide +kernel) (by decide) rfl (fun c24 => ?_) (fun c24 => ?_)
        · have h := h.1 c24
          refine xRn.blk (pc1 := 40) (ls1 := [.int p1, .int p2]) (st1 := [.int 1, .int p2]) (hp1 := hp) (ob := []) [(.iload_n 1, 1, 1, 0, 0, 0), (.iconst 1, 1, 0, 0, 0, 1)] [] (by decide +kernel) rfl xall_nil (xSee_nil _) rfl rfl ?_
          refine xRn.ic_ne (tgt := 48) (nx := 43) (off := 8) (by decide +kernel) (by decide) rfl (fun c25 => ?_) (fun c25 => ?_)
          · have h := h.1 c25
            refine xRn.blk (pc1 := 49) (ls1 := [.int p1, .int p2]) (st1 := [.int 0]) (hp1 := hp) (ob := []) [(.iconst 0, 1, 0, 0, 0, 0)] [] (by decide +kernel) rfl xall_nil (xSee_nil _) rfl rfl ?_
            exact xRn.iret (by decide +kernel) rfl rfl ⟨_, rfl, rfl, h⟩
          · have h := h.2 c25
            refine xRn.blk (pc1 := 45) (ls1 := [.int p1, .int p2]) (st1 := [.int 16]) (hp1 := hp) (ob := []) [(.bipush 16, 2, 0, 0, 0, 16)] [] (by decide +kernel) rfl xall_nil (xSee_nil _) rfl rfl ?_
            refine xRn.goto (tgt := 49) (off := 4) (by decide +kernel) (by decide) ?_
            exact xRn.iret (by decide +kernel) rfl rfl ⟨_, rfl, rfl, h⟩
        · have h := h.2 c24
          refine xRn.blk (pc1 := 35) (ls1 := [.int p1, .int p2]) (st1 := [.int 7]) (hp1 := hp) (ob := []) [(.bipush 7, 2, 0, 0, 0, 7)] [] (by decide +kernel) rfl xall_nil (xSee_nil _) rfl rfl ?_
          refine xRn.goto (tgt := 49) (off := 14) (by decide +kernel) (by decide) ?_
          exact xRn.iret (by decide +kernel) rfl rfl ⟨_, rfl, rfl, h⟩
    · have h := h.2 c7
      refine xRn.forget (xle_no (xle_eq xle_nil)) ?_
      exact t_M_name_12 hp  p2 h
/-! M_isType -/
def w_M_isType_54   (K : Int32 → Prop)  : Prop :=
  (K 1)
set_option maxRecDepth 100000 in
theorem t_M_isType_54 {G : XG} {l : Launch} {d : Nat} (hp : List AE) {K : Int32 → Prop}  (h : w_M_isType_54 K ) : xRn G l (d + 0) xm_M_isType (nI_ hp K) 54 [.null] [] hp := by
  refine xRn.blk (pc1 := 55) (ls1 := [.null]) (st1 := [.int 1]) (hp1 := hp) (ob := []) [(.iconst 1, 1, 0, 0, 0, 1)] [] (by decide +kernel) rfl xall_nil (xSee_nil _) rfl rfl ?_
  refine xRn.goto (tgt := 59) (off := 4) (by decide +kernel) (by decide) ?_
  exact xRn.iret (by decide +kernel) rfl rfl ⟨_, rfl, rfl, h⟩
def w_M_isType  (p1 : Int32) (K : Int32 → Prop) : Prop :=
  ((p1 = (48 : Int32) → (w_M_isType_54 K)) ∧ (¬ p1 = (48 : Int32) → ((p1 = (49 : Int32) → (w_M_isType_54 K)) ∧ (¬ p1 = (49 : Int32) → ((p1 = (50 : Int32) → (w_M_isType_54 K)) ∧ (¬ p1 = (50 : Int32) → ((p1 = (52 : Int32) → (w_M_isType_54 K)) ∧ (¬ p1 = (52 : Int32) → ((p1 = (53 : Int32) → (w_M_isType_54 K)) ∧ (¬ p1 = (53 : Int32) → ((p1 = (65 : Int32) → (w_M_isType_54 K)) ∧ (¬ p1 = (65 : Int32) → ((p1 = (68 : Int32) → (w_M_isType_54 K)) ∧ (¬ p1 = (68 : Int32) → ((p1 = (70 : Int32) → (w_M_isType_54 K)) ∧ (¬ p1 = (70 : Int32) → ((¬ p1 = (71 : Int32) → (K 0)) ∧ (p1 = (71 : Int32) → (w_M_isType_54 K)))))))))))))))))))
set_option maxRecDepth 100000 in
theorem c_M_isType {G : XG} {l : Launch} {d : Nat} (hp : List AE) (p1 : Int32) {K : Int32 → Prop} (h : w_M_isType  p1 K) : xCt G l (d + 0) xm_M_isType [.int p1] hp (nI_ hp K) := by
  refine xCt.intro (by decide) (by decide) (List.forall_mem_cons.mpr ⟨rfl, (fun _ h => by cases h)⟩) (Nat.le_of_ble_eq_true rfl) rfl ?_
  show xRn G l _ xm_M_isType _ 0 [.int p1] [] hp
  refine xRn.blk (pc1 := 3) (ls1 := [.int p1]) (st1 := [.int 48, .int p1]) (hp1 := hp) (ob := []) [(.iload_n 0, 1, 0, 0, 0, 0), (.bipush 48, 2, 0, 0, 0, 48)] [] (by decide +kernel) rfl xall_nil (xSee_nil _) rfl rfl ?_
  refine xRn.ic_eq (tgt := 54) (nx := 6) (off := 51) (by decide +kernel) (by decide) rfl (fun c1 => ?_) (fun c1 => ?_)
  · have h := h.1 c1
    refine xRn.forget (xle_no xle_nil) ?_
    exact t_M_isType_54 hp   h
  · have h := h.2 c1
    refine xRn.blk (pc1 := 9) (ls1 := [.int p1]) (st1 := [.int 49, .int p1]) (hp1 := hp) (ob := []) [(.iload_n 0, 1, 0, 0, 0, 0), (.bipush 49, 2, 0, 0, 0, 49)] [] (by decide +kernel) rfl xall_nil (xSee_nil _) rfl rfl ?_
    refine xRn.ic_eq (tgt := 54) (nx := 12) (off := 45) (by decide +kernel) (by decide) rfl (fun c2 => ?_) (fun c2 => ?_)
    · have h := h.1 c2
      refine xRn.forget (xle_no xle_nil) ?_
      exact t_M_isType_54 hp   h
    · have h := h.2 c2
      refine xRn.blk (pc1 := 15) (ls1 := [.int p1]) (st1 := [.int 50, .int p1]) (hp1 := hp) (ob := []) [(.iload_n 0, 1, 0, 0, 0, 0), (.bipush 50, 2, 0, 0, 0, 50)] [] (by decide +kernel) rfl xall_nil (xSee_nil _) rfl rfl ?_
      refine xRn.ic_eq (tgt := 54) (nx := 18) (off := 39) (by decide +kernel) (by decide) rfl (fun c3 => ?_) (fun c3 => ?_)
      · have h := h.1 c3
        refine xRn.forget (xle_no xle_nil) ?_
        exact t_M_isType_54 hp   h
      · have h := h.2 c3
        refine xRn.blk (pc1 := 21) (ls1 := [.int p1]) (st1 := [.int 52, .int p1]) (hp1 := hp) (ob := []) [(.iload_n 0, 1, 0, 0, 0, 0), (.bipush 52, 2, 0, 0, 0, 52)] [] (by decide +kernel) rfl xall_nil (xSee_nil _) rfl rfl ?_
        refine xRn.ic_eq (tgt := 54) (nx := 24) (off := 33) (by decide +kernel) (by decide) rfl (fun c4 => ?_) (fun c4 => ?_)
        · have h := h.1 c4
          refine xRn.forget (xle_no xle_nil) ?_
          exact t_M_isType_54 hp   h
        · have h := h.2 c4
          refine xRn.blk (pc1 := 27) (ls1 := [.int p1]) (st1 := [.int 53, .int p1]) (hp1 := hp) (ob := []) [(.iload_n 0, 1, 0, 0, 0, 0), (.bipush 53, 2, 0, 0, 0, 53)] [] (by decide +kernel) rfl xall_nil (xSee_nil _) rfl rfl ?_
          refine xRn.ic_eq (tgt := 54) (nx := 30) (off := 27) (by decide +kernel) (by decide) rfl (fun c5 => ?_) (fun c5 => ?_)
          · have h := h.1 c5
            refine xRn.forget (xle_no xle_nil) ?_
            exact t_M_isType_54 hp   h
          · have h := h.2 c5
            refine xRn.blk (pc1 := 33) (ls1 := [.int p1]) (st1 := [.int 65, .int p1]) (hp1 := hp) (ob := []) [(.iload_n 0, 1, 0, 0, 0, 0), (.bipush 65, 2, 0, 0, 0, 65)] [] (by decide +kernel) rfl xall_nil (xSee_nil _) rfl rfl ?_
            refine xRn.ic_eq (tgt := 54) (nx := 36) (off := 21) (by decide +kernel) (by decide) rfl (fun c6 => ?_) (fun c6 => ?_)
            · have h := h.1 c6
              refine xRn.forget (xle_no xle_nil) ?_
              exact t_M_isType_54 hp   h
            · have h := h.2 c6
              refine xRn.blk (pc1 := 39) (ls1 := [.int p1]) (st1 := [.int 68, .int p1]) (hp1 := hp) (ob := []) [(.iload_n 0, 1, 0, 0, 0, 0), (.bipush 68, 2, 0, 0, 0, 68)] [] (by decide +kernel) rfl xall_nil (xSee_nil _) rfl rfl ?_
              refine xRn.ic_eq (tgt := 54) (nx := 42) (off := 15) (by decide +kernel) (by decide) rfl (fun c7 => ?_) (fun c7 => ?_)
              · have h := h.1 c7
                refine xRn.forget (xle_no xle_nil) ?_
                exact t_M_isType_54 hp   h
              · have h := h.2 c7
                refine xRn.blk (pc1 := 45) (ls1 := [.int p1]) (st1 := [.int 70, .int p1]) (hp1 := hp) (ob := []) [(.iload_n 0, 1, 0, 0, 0, 0), (.bipush 70, 2, 0, 0, 0, 70)] [] (by decide +kernel) rfl xall_nil (xSee_nil _) rfl rfl ?_
                refine xRn.ic_eq (tgt := 54) (nx := 48) (off := 9) (by decide +kernel) (by decide) rfl (fun c8 => ?_) (fun c8 => ?_)
                · have h := h.1 c8
                  refine xRn.forget (xle_no xle_nil) ?_
                  exact t_M_isType_54 hp   h
                · have h := h.2 c8
                  refine xRn.blk (pc1 := 51) (ls1 := [.int p1]) (st1 := [.int 71, .int p1]) (hp1 := hp) (ob := []) [(.iload_n 0, 1, 0, 0, 0, 0), (.bipush 71, 2, 0, 0, 0, 71)] [] (by decide +kernel) rfl xall_nil (xSee_nil _) rfl rfl ?_
                  refine xRn.ic_ne (tgt := 58) (nx := 54) (off := 7) (by decide +kernel) (by decide) rfl (fun c9 => ?_) (fun c9 => ?_)
                  · have h := h.1 c9
                    refine xRn.blk (pc1 := 59) (ls1 := [.int p1]) (st1 := [.int 0]) (hp1 := hp) (ob := []) [(.iconst 0, 1, 0, 0, 0, 0)] [] (by decide +kernel) rfl xall_nil (xSee_nil _) rfl rfl ?_
                    exact xRn.iret (by decide +kernel) rfl rfl ⟨_, rfl, rfl, h⟩
                  · have h := h.2 c9
                    refine xRn.forget (xle_no xle_nil) ?_
                    exact t_M_isType_54 hp   h
/-! M_digit -/
def w_M_digit_16   (K : Int32 → Prop)  : Prop :=
  (K 0)
set_option maxRecDepth 100000 in
theorem t_M_digit_16 {G : XG} {l : Launch} {d : Nat} (hp : List AE) {K : Int32 → Prop}  (h : w_M_digit_16 K ) : xRn G l (d + 0) xm_M_digit (nI_ hp K) 16 [.null] [] hp := by
  refine xRn.blk (pc1 := 17) (ls1 := [.null]) (st1 := [.int 0]) (hp1 := hp) (ob := []) [(.iconst 0, 1, 0, 0, 0, 0)] [] (by decide +kernel) rfl xall_nil (xSee_nil _) rfl rfl ?_
  exact xRn.iret (by decide +kernel) rfl rfl ⟨_, rfl, rfl, h⟩
def w_M_digit  (p1 : Int32) (K : Int32 → Prop) : Prop :=
  ((p1 < (48 : Int32) → (w_M_digit_16 K)) ∧ (¬ p1 < (48 : Int32) → (((57 : Int32) < p1 → (w_M_digit_16 K)) ∧ (¬ (57 : Int32) < p1 → (K 1)))))
set_option maxRecDepth 100000 in
theorem c_M_digit {G : XG} {l : Launch} {d : Nat} (hp : List AE) (p1 : Int32) {K : Int32 → Prop} (h : w_M_digit  p1 K) : xCt G l (d + 0) xm_M_digit [.int p1] hp (nI_ hp K) := by
  refine xCt.intro (by decide) (by decide) (List.forall_mem_cons.mpr ⟨rfl, (fun _ h => by cases h)⟩) (Nat.le_of_ble_eq_true rfl) rfl ?_
  show xRn G l _ xm_M_digit _ 0 [.int p1] [] hp
  refine xRn.blk (pc1 := 3) (ls1 := [.int p1]) (st1 := [.int 48, .int p1]) (hp1 := hp) (ob := []) [(.iload_n 0, 1, 0, 0, 0, 0), (.bipush 48, 2, 0, 0, 0, 48)] [] (by decide +kernel) rfl xall_nil (xSee_nil _) rfl rfl ?_
  refine xRn.ic_lt (tgt := 16) (nx := 6) (off := 13) (by decide +kernel) (by decide) rfl (fun c1 => ?_) (fun c1 => ?_)
  · have h := h.1 c1
    refine xRn.forget (xle_no xle_nil) ?_
    exact t_M_digit_16 hp   h
  · have h := h.2 c1
    refine xRn.blk (pc1 := 9) (ls1 := [.int p1]) (st1 := [.int 57, .int p1]) (hp1 := hp) (ob := []) [(.iload_n 0, 1, 0, 0, 0, 0), (.bipush 57, 2, 0, 0, 0, 57)] [] (by decide +kernel) rfl xall_nil (xSee_nil _) rfl rfl ?_
    refine xRn.ic_gt (tgt := 16) (nx := 12) (off := 7) (by decide +kernel) (by decide) rfl (fun c2 => ?_) (fun c2 => ?_)
    · have h := h.1 c2
      refine xRn.forget (xle_no xle_nil) ?_
      exact t_M_digit_16 hp   h
    · have h := h.2 c2
      refine xRn.blk (pc1 := 13) (ls1 := [.int p1]) (st1 := [.int 1]) (hp1 := hp) (ob := []) [(.iconst 1, 1, 0, 0, 0, 1)] [] (by decide +kernel) rfl xall_nil (xSee_nil _) rfl rfl ?_
      refine xRn.goto (tgt := 17) (off := 4) (by decide +kernel) (by decide) ?_
      exact xRn.iret (by decide +kernel) rfl rfl ⟨_, rfl, rfl, h⟩
/-! T_off -/
def w_T_off_10   (K : Int32 → Prop)  : Prop :=
  (K 1)
set_option maxRecDepth 100000 in
theorem t_T_off_10 {G : XG} {l : Launch} {d : Nat} (hp : List AE) {K : Int32 → Prop}  (h : w_T_off_10 K ) : xRn G l (d + 0) xm_T_off (nI_ hp K) 10 [.null] [] hp := by
  refine xRn.blk (pc1 := 11) (ls1 := [.null]) (st1 := [.int 1]) (hp1 := hp) (ob := []) [(.iconst 1, 1, 0, 0, 0, 1)] [] (by decide +kernel) rfl xall_nil (xSee_nil _) rfl rfl ?_
  refine xRn.goto (tgt := 15) (off := 4) (by decide +kernel) (by decide) ?_
  exact xRn.iret (by decide +kernel) rfl rfl ⟨_, rfl, rfl, h⟩
def w_T_off  (p1 : Int32) (K : Int32 → Prop) : Prop :=
  ((p1 < 0 → (w_T_off_10 K)) ∧ (¬ p1 < 0 → ((p1 ≤ (999999 : Int32) → (K 0)) ∧ (¬ p1 ≤ (999999 : Int32) → (w_T_off_10 K)))))
set_option maxRecDepth 100000 in
theorem c_T_off {G : XG} {l : Launch} {d : Nat} (hp : List AE) (p1 : Int32) {K : Int32 → Prop} (h : w_T_off  p1 K) : xCt G l (d + 0) xm_T_off [.int p1] hp (nI_ hp K) := by
  refine xCt.intro (by decide) (by decide) (List.forall_mem_cons.mpr ⟨rfl, (fun _ h => by cases h)⟩) (Nat.le_of_ble_eq_true rfl) rfl ?_
  show xRn G l _ xm_T_off _ 0 [.int p1] [] hp
  refine xRn.blk (pc1 := 1) (ls1 := [.int p1]) (st1 := [.int p1]) (hp1 := hp) (ob := []) [(.iload_n 0, 1, 0, 0, 0, 0)] [] (by decide +kernel) rfl xall_nil (xSee_nil _) rfl rfl ?_
  refine xRn.if_lt (tgt := 10) (nx := 4) (off := 9) (by decide +kernel) (by decide) rfl (fun c1 => ?_) (fun c1 => ?_)
  · have h := h.1 c1
    refine xRn.forget (xle_no xle_nil) ?_
    exact t_T_off_10 hp   h
  · have h := h.2 c1
    refine xRn.blk (pc1 := 7) (ls1 := [.int p1]) (st1 := [.int 999999, .int p1]) (hp1 := hp) (ob := []) [(.iload_n 0, 1, 0, 0, 0, 0), (.ldc 196, 2, 0, 0, 0, 999999)] [] (by decide +kernel) rfl xall_nil (xSee_nil _) rfl rfl ?_
    refine xRn.ic_le (tgt := 14) (nx := 10) (off := 7) (by decide +kernel) (by decide) rfl (fun c2 => ?_) (fun c2 => ?_)
    · have h := h.1 c2
      refine xRn.blk (pc1 := 15) (ls1 := [.int p1]) (st1 := [.int 0]) (hp1 := hp) (ob := []) [(.iconst 0, 1, 0, 0, 0, 0)] [] (by decide +kernel) rfl xall_nil (xSee_nil _) rfl rfl ?_
      exact xRn.iret (by decide +kernel) rfl rfl ⟨_, rfl, rfl, h⟩
    · have h := h.2 c2
      refine xRn.forget (xle_no xle_nil) ?_
      exact t_T_off_10 hp   h
/-! T_typeOf -/
def w_T_typeOf  (p1 : Int32) (K : Nat → Prop) : Prop :=
  (((p1).toInt < 48 ∨ 71 < (p1).toInt → (K 0)) ∧ ((p1).toInt = 48 → (K 1)) ∧ ((p1).toInt = 49 → (K 2)) ∧ ((p1).toInt = 50 → (K 3)) ∧ ((p1).toInt = 51 → (K 0)) ∧ ((p1).toInt = 52 → (K 4)) ∧ ((p1).toInt = 53 → (K 5)) ∧ ((p1).toInt = 54 → (K 0)) ∧ ((p1).toInt = 55 → (K 0)) ∧ ((p1).toInt = 56 → (K 10)) ∧ ((p1).toInt = 57 → (K 0)) ∧ ((p1).toInt = 58 → (K 0)) ∧ ((p1).toInt = 59 → (K 0)) ∧ ((p1).toInt = 60 → (K 0)) ∧ ((p1).toInt = 61 → (K 0)) ∧ ((p1).toInt = 62 → (K 0)) ∧ ((p1).toInt = 63 → (K 0)) ∧ ((p1).toInt = 64 → (K 0)) ∧ ((p1).toInt = 65 → (K 6)) ∧ ((p1).toInt = 66 → (K 0)) ∧ ((p1).toInt = 67 → (K 0)) ∧ ((p1).toInt = 68 → (K 7)) ∧ ((p1).toInt = 69 → (K 0)) ∧ ((p1).toInt = 70 → (K 8)) ∧ ((p1).toInt = 71 → (K 9)))
set_option maxRecDepth 100000 in
theorem c_T_typeOf {G : XG} {l : Launch} {d : Nat} (hp : List AE) (p1 : Int32) {K : Nat → Prop} (h : w_T_typeOf  p1 K) : xCt G l (d + 0) xm_T_typeOf [.int p1] hp (nR_ hp K) := by
  refine xCt.intro (by decide) (by decide) (List.forall_mem_cons.mpr ⟨rfl, (fun _ h => by cases h)⟩) (Nat.le_of_ble_eq_true rfl) rfl ?_
  show xRn G l _ xm_T_typeOf _ 0 [.int p1] [] hp
  refine xRn.blk (pc1 := 1) (ls1 := [.int p1]) (st1 := [.int p1]) (hp1 := hp) (ob := []) [(.iload_n 0, 1, 0, 0, 0, 0)] [] (by decide +kernel) rfl xall_nil (xSee_nil _) rfl rfl ?_
  have c1 : (((p1).toInt < 48 ∨ 71 < (p1).toInt) ∨ (p1).toInt = 48 ∨ (p1).toInt = 49 ∨ (p1).toInt = 50 ∨ (p1).toInt = 51 ∨ (p1).toInt = 52 ∨ (p1).toInt = 53 ∨ (p1).toInt = 54 ∨ (p1).toInt = 55 ∨ (p1).toInt = 56 ∨ (p1).toInt = 57 ∨ (p1).toInt = 58 ∨ (p1).toInt = 59 ∨ (p1).toInt = 60 ∨ (p1).toInt = 61 ∨ (p1).toInt = 62 ∨ (p1).toInt = 63 ∨ (p1).toInt = 64 ∨ (p1).toInt = 65 ∨ (p1).toInt = 66 ∨ (p1).toInt = 67 ∨ (p1).toInt = 68 ∨ (p1).toInt = 69 ∨ (p1).toInt = 70 ∨ (p1).toInt = 71) := by omega
  rcases c1 with c1 | c1 | c1 | c1 | c1 | c1 | c1 | c1 | c1 | c1 | c1 | c1 | c1 | c1 | c1 | c1 | c1 | c1 | c1 | c1 | c1 | c1 | c1 | c1 | c1
  · have h := h.1 c1
    refine xRn.swOut (tgt := 152) (dflt := 151) (lo := 48) (hi := 71) (offs := #[111, 115, 119, 151, 123, 127, 151, 151, 147, 151, 151, 151, 151, 151, 151, 151, 151, 131, 151, 151, 135, 151, 139, 143]) (len := 111) (by decide +kernel) c1 (by decide) ?_
    refine xRn.blk (pc1 := 153) (ls1 := [.int p1]) (st1 := [.ref 0]) (hp1 := hp) (ob := []) [(.aconst_null, 1, 0, 0, 0, 0)] [] (by decide +kernel) rfl xall_nil (xSee_nil _) rfl rfl ?_
    exact xRn.aret (by decide +kernel) rfl ⟨_, rfl, rfl, h⟩
  · have h := h.2.1 c1
    refine xRn.swIn (tgt := 112) (dflt := 151) (lo := 48) (hi := 71) (offs := #[111, 115, 119, 151, 123, 127, 151, 151, 147, 151, 151, 151, 151, 151, 151, 151, 151, 131, 151, 151, 135, 151, 139, 143]) (len := 111) (off := 111) 0 (by decide +kernel) c1 (by decide) (by decide) (by decide) ?_
    refine xRn.blk (pc1 := 115) (ls1 := [.int p1]) (st1 := [.ref 1]) (hp1 := hp) (ob := []) [(.getstatic 1, 3, 0, 0, 0, 0)] [] (by decide +kernel) rfl xall_nil (xSee_nil _) rfl rfl ?_
    exact xRn.aret (by decide +kernel) rfl ⟨_, rfl, rfl, h⟩
  · have h := h.2.2.1 c1
    refine xRn.swIn (tgt := 116) (dflt := 151) (lo := 48) (hi := 71) (offs := #[111, 115, 119, 151, 123, 127, 151, 151, 147, 151, 151, 151, 151, 151, 151, 151, 151, 131, 151, 151, 135, 151, 139, 143]) (len := 111) (off := 115) 1 (by decide +kernel) c1 (by decide) (by decide) (by decide) ?_
    refine xRn.blk (pc1 := 119) (ls1 := [.int p1]) (st1 := [.ref 2]) (hp1 := hp) (ob := []) [(.getstatic 7, 3, 1, 0, 0, 0)] [] (by decide +kernel) rfl xall_nil (xSee_nil _) rfl rfl ?_
    exact xRn.aret (by decide +kernel) rfl ⟨_, rfl, rfl, h⟩
  · have h := h.2.2.2.1 c1
    refine xRn.swIn (tgt := 120) (dflt := 151) (lo := 48) (hi := 71) (offs := #[111, 115, 119, 151, 123, 127, 151, 151, 147, 151, 151, 151, 151, 151, 151, 151, 151, 131, 151, 151, 135, 151, 139, 143]) (len := 111) (off := 119) 2 (by decide +kernel) c1 (by decide) (by decide) (by decide) ?_
    refine xRn.blk (pc1 := 123) (ls1 := [.int p1]) (st1 := [.ref 3]) (hp1 := hp) (ob := []) [(.getstatic 10, 3, 2, 0, 0, 0)] [] (by decide +kernel) rfl xall_nil (xSee_nil _) rfl rfl ?_
    exact xRn.aret (by decide +kernel) rfl ⟨_, rfl, rfl, h⟩
  · have h := h.2.2.2.2.1 c1
    refine xRn.swIn (tgt := 152) (dflt := 151) (lo := 48) (hi := 71) (offs := #[111, 115, 119, 151, 123, 127, 151, 151, 147, 151, 151, 151, 151, 151, 151, 151, 151, 131, 151, 151, 135, 151, 139, 143]) (len := 111) (off := 151) 3 (by decide +kernel) c1 (by decide) (by decide) (by decide) ?_
    refine xRn.blk (pc1 := 153) (ls1 := [.int p1]) (st1 := [.ref 0]) (hp1 := hp) (ob := []) [(.aconst_null, 1, 0, 0, 0, 0)] [] (by decide +kernel) rfl xall_nil (xSee_nil _) rfl rfl ?_
    exact xRn.aret (by decide +kernel) rfl ⟨_, rfl, rfl, h⟩
  · have h := h.2.2.2.2.2.1 c1
    refine xRn.swIn (tgt := 124) (dflt := 151) (lo := 48) (hi := 71) (offs := #[111, 115, 119, 151, 123, 127, 151, 151, 147, 151, 151, 151, 151, 151, 151, 151, 151, 131, 151, 151, 135, 151, 139, 143]) (len := 111) (off := 123) 4 (by decide +kernel) c1 (by decide) (by decide) (by decide) ?_
    refine xRn.blk (pc1 := 127) (ls1 := [.int p1]) (st1 := [.ref 4]) (hp1 := hp) (ob := []) [(.getstatic 13, 3, 3, 0, 0, 0)] [] (by decide +kernel) rfl xall_nil (xSee_nil _) rfl rfl ?_
    exact xRn.aret (by decide +kernel) rfl ⟨_, rfl, rfl, h⟩
  · have h := h.2.2.2.2.2.2.1 c1
    refine xRn.swIn (tgt := 128) (dflt := 151) (lo := 48) (hi := 71) (offs := #[111, 115, 119, 151, 123, 127, 151, 151, 147, 151, 151, 151, 151, 151, 151, 151, 151, 131, 151, 151, 135, 151, 139, 143]) (len := 111) (off := 127) 5 (by decide +kernel) c1 (by decide) (by decide) (by decide) ?_
    refine xRn.blk (pc1 := 131) (ls1 := [.int p1]) (st1 := [.ref 5]) (hp1 := hp) (ob := []) [(.getstatic 16, 3, 4, 0, 0, 0)] [] (by decide +kernel) rfl xall_nil (xSee_nil _) rfl rfl ?_
    exact xRn.aret (by decide +kernel) rfl ⟨_, rfl, rfl, h⟩
  · have h := h.2.2.2.2.2.2.2.1 c1
    refine xRn.swIn (tgt := 152) (dflt := 151) (lo := 48) (hi := 71) (offs := #[111, 115, 119, 151, 123, 127, 151, 151, 147, 151, 151, 151, 151, 151, 151, 151, 151, 131, 151, 151, 135, 151, 139, 143]) (len := 111) (off := 151) 6 (by decide +kernel) c1 (by decide) (by decide) (by decide) ?_
    refine xRn.blk (pc1 := 153) (ls1 := [.int p1]) (st1 := [.ref 0]) (hp1 := hp) (ob := []) [(.aconst_null, 1, 0, 0, 0, 0)] [] (by decide +kernel) rfl xall_nil (xSee_nil _) rfl rfl ?_
    exact xRn.aret (by decide +kernel) rfl ⟨_, rfl, rfl, h⟩
  · have h := h.2.2.2.2.2.2.2.2.1 c1
    refine xRn.swIn (tgt := 152) (dflt := 151) (lo := 48) (hi := 71) (offs := #[111, 115, 119, 151, 123, 127, 151, 151, 147, 151, 151, 151, 151, 151, 151, 151, 151, 131, 151, 151, 135, 151, 139, 143]) (len := 111) (off := 151) 7 (by decide +kernel) c1 (by decide) (by decide) (by decide) ?_
    refine xRn.blk (pc1 := 153) (ls1 := [.int p1]) (st1 := [.ref 0]) (hp1 := hp) (ob := []) [(.aconst_null, 1, 0, 0, 0, 0)] [] (by decide +kernel) rfl xall_nil (xSee_nil _) rfl rfl ?_
    exact xRn.aret (by decide +kernel) rfl ⟨_, rfl, rfl, h⟩
  · have h := h.2.2.2.2.2.2.2.2.2.1 c1
    refine xRn.swIn (tgt := 148) (dflt := 151) (lo := 48) (hi := 71) (offs := #[111, 115, 119, 151, 123, 127, 151, 151, 147, 151, 151, 151, 151, 151, 151, 151, 151, 131, 151, 151, 135, 151, 139, 143]) (len := 111) (off := 147) 8 (by decide +kernel) c1 (by decide) (by decide) (by decide) ?_
    refine xRn.blk (pc1 := 151) (ls1 := [.int p1]) (st1 := [.ref 10]) (hp1 := hp) (ob := []) [(.getstatic 31, 3, 9, 0, 0, 0)] [] (by decide +kernel) rfl xall_nil (xSee_nil _) rfl rfl ?_
    exact xRn.aret (by decide +kernel) rfl ⟨_, rfl, rfl, h⟩
  · have h := h.2.2.2.2.2.2.2.2.2.2.1 c1
    refine xRn.swIn (tgt := 152) (dflt := 151) (lo := 48) (hi := 71) (offs := #[111, 115, 119, 151, 123, 127, 151, 151, 147, 151, 151, 151, 151, 151, 151, 151, 151, 131, 151, 151, 135, 151, 139, 143]) (len := 111) (off := 151) 9 (by decide +kernel) c1 (by decide) (by decide) (by decide) ?_
    refine xRn.blk (pc1 := 153) (ls1 := [.int p1]) (st1 := [.ref 0]) (hp1 := hp) (ob := []) [(.aconst_null, 1, 0, 0, 0, 0)] [] (by decide +kernel) rfl xall_nil (xSee_nil _) rfl rfl ?_
    exact xRn.aret (by decide +kernel) rfl ⟨_, rfl, rfl, h⟩
  · have h := h.2.2.2.2.2.2.2.2.2.2.2.1 c1
    refine xRn.swIn (tgt := 152) (dflt := 151) (lo := 48) (hi := 71) (offs := #[111, 115, 119, 151, 123, 127, 151, 151, 147, 151, 151, 151, 151, 151, 151, 151, 151, 131, 151, 151, 135, 151, 139, 143]) (len := 111) (off := 151) 10 (by decide +kernel) c1 (by decide) (by decide) (by decide) ?_
    refine xRn.blk (pc1 := 153) (ls1 := [.int p1]) (st1 := [.ref 0]) (hp1 := hp) (ob := []) [(.aconst_null, 1, 0, 0, 0, 0)] [] (by decide +kernel) rfl xall_nil (xSee_nil _) rfl rfl ?_
    exact xRn.aret (by decide +kernel) rfl ⟨_, rfl, rfl, h⟩
  · have h := h.2.2.2.2.2.2.2.2.2.2.2.2.1 c1
    refine xRn.swIn (tgt := 152) (dflt := 151) (lo := 48) (hi := 71) (offs := #[111, 115, 119, 151, 123, 127, 151, 151, 147, 151, 151, 151, 151, 151, 151, 151, 151, 131, 151, 151, 135, 151, 139, 143]) (len := 111) (off := 151) 11 (by decide +kernel) c1 (by decide) (by decide) (by decide) ?_
    refine xRn.blk (pc1 := 153) (ls1 := [.int p1]) (st1 := [.ref 0]) (hp1 := hp) (ob := []) [(.aconst_null, 1, 0, 0, 0, 0)] [] (by decide +kernel) rfl xall_nil (xSee_nil _) rfl rfl ?_
    exact xRn.aret (by decide +kernel) rfl ⟨_, rfl, rfl, h⟩
  · have h := h.2.2.2.2.2.2.2.2.2.2.2.2.2.1 c1
    refine xRn.swIn (tgt := 152) (dflt := 151) (lo := 48) (hi := 71) (offs := #[111, 115, 119, 151, 123, 127, 151, 151, 147, 151, 151, 151, 151, 151, 151, 151, 151, 131, 151, 151, 135, 151, 139, 143]) (len := 111) (off := 151) 12 (by decide +kernel) c1 (by decide) (by decide) (by decide) ?_
    refine xRn.blk (pc1 := 153) (ls1 := [.int p1]) (st1 := [.ref 0]) (hp1 := hp) (ob := []) [(.aconst_null, 1, 0, 0, 0, 0)] [] (by decide +kernel) rfl xall_nil (xSee_nil _) rfl rfl ?_
    exact xRn.aret (by decide +kernel) rfl ⟨_, rfl, rfl, h⟩
  · have h := h.2.2.2.2.2.2.2.2.2.2.2.2.2.2.1 c1
    refine xRn.swIn (tgt := 152) (dflt := 151) (lo := 48) (hi := 71) (offs := #[111, 115, 119, 151, 123, 127, 151, 151, 147, 151, 151, 151, 151, 151, 151, 151, 151, 131, 151, 151, 135, 151, 139, 143]) (len := 111) (off := 151) 13 (by decide +kernel) c1 (by decide) (by decide) (by decide) ?_
    refine xRn.blk (pc1 := 153) (ls1 := [.int p1]) (st1 := [.ref 0]) (hp1 := hp) (ob := []) [(.aconst_null, 1, 0, 0, 0, 0)] [] (by decide +kernel) rfl xall_nil (xSee_nil _) rfl rfl ?_
    exact xRn.aret (by decide +kernel) rfl ⟨_, rfl, rfl, h⟩
  · have h := h.2.2.2.2.2.2.2.2.2.2.2.2.2.2.2.1 c1
    refine xRn.swIn (tgt := 152) (dflt := 151) (lo := 48) (hi := 71) (offs := #[111, 115, 119, 151, 123, 127, 151, 151, 147, 151, 151, 151, 151, 151, 151, 151, 151, 131, 151, 151, 135, 151, 139, 143]) (len := 111) (off := 151) 14 (by decide +kernel) c1 (by decide) (by decide) (by decide) ?_
    refine xRn.blk (pc1 := 153) (ls1 := [.int p1]) (st1 := [.ref 0]) (hp1 := hp) (ob := []) [(.aconst_null, 1, 0, 0, 0, 0)] [] (by decide +kernel) rfl xall_nil (xSee_nil _) rfl rfl ?_
    exact xRn.aret (by decide +kernel) rfl ⟨_, rfl, rfl, h⟩
  · have h := h.2.2.2.2.2.2.2.2.2.2.2.2.2.2.2.2.1 c1
    refine xRn.swIn (tgt := 152) (dflt := 151) (lo := 48) (hi := 71) (offs := #[111, 115, 119, 151, 123, 127, 151, 151, 147, 151, 151, 151, 151, 151, 151, 151, 151, 131, 151, 151, 135, 151, 139, 143]) (len := 111) (off := 151) 15 (by decide +kernel) c1 (by decide) (by decide) (by decide) ?_
    refine xRn.blk (pc1 := 153) (ls1 := [.int p1]) (st1 := [.ref 0]) (hp1 := hp) (ob := []) [(.aconst_null, 1, 0, 0, 0, 0)] [] (by decide +kernel) rfl xall_nil (xSee_nil _) rfl rfl ?_
    exact xRn.aret (by decide +kernel) rfl ⟨_, rfl, rfl, h⟩
  · have h := h.2.2.2.2.2.2.2.2.2.2.2.2.2.2.2.2.2.1 c1
    refine xRn.swIn (tgt := 152) (dflt := 151) (lo := 48) (hi := 71) (offs := #[111, 115, 119, 151, 123, 127, 151, 151, 147, 151, 151, 151, 151, 151, 151, 151, 151, 131, 151, 151, 135, 151, 139, 143]) (len := 111) (off := 151) 16 (by decide +kernel) c1 (by decide) (by decide) (by decide) ?_
    refine xRn.blk (pc1 := 153) (ls1 := [.int p1]) (st1 := [.ref 0]) (hp1 := hp) (ob := []) [(.aconst_null, 1, 0, 0, 0, 0)] [] (by decide +kernel) rfl xall_nil (xSee_nil _) rfl rfl ?_
    exact xRn.aret (by decide +kernel) rfl ⟨_, rfl, rfl, h⟩
  · have h := h.2.2.2.2.2.2.2.2.2.2.2.2.2.2.2.2.2.2.1 c1
    refine xRn.swIn (tgt := 132) (dflt := 151) (lo := 48) (hi := 71) (offs := #[111, 115, 119, 151, 123, 127, 151, 151, 147, 151, 151, 151, 151, 151, 151, 151, 151, 131, 151, 151, 135, 151, 139, 143]) (len := 111) (off := 131) 17 (by decide +kernel) c1 (by decide) (by decide) (by decide) ?_
    refine xRn.blk (pc1 := 135) (ls1 := [.int p1]) (st1 := [.ref 6]) (hp1 := hp) (ob := []) [(.getstatic 19, 3, 5, 0, 0, 0)] [] (by decide +kernel) rfl xall_nil (xSee_nil _) rfl rfl ?_
    exact xRn.aret (by decide +kernel) rfl ⟨_, rfl, rfl, h⟩
  · have h := h.2.2.2.2.2.2.2.2.2.2.2.2.2.2.2.2.2.2.2.1 c1
    refine xRn.swIn (tgt := 152) (dflt := 151) (lo := 48) (hi := 71) (offs := #[111, 115, 119, 151, 123, 127, 151, 151, 147, 151, 151, 151, 151, 151, 151, 151, 151, 131, 151, 151, 135, 151, 139, 143]) (len := 111) (off := 151) 18 (by decide +kernel) c1 (by decide) (by decide) (by decide) ?_
    refine xRn.blk (pc1 := 153) (ls1 := [.int p1]) (st1 := [.ref 0]) (hp1 := hp) (ob := []) [(.aconst_null, 1, 0, 0, 0, 0)] [] (by decide +kernel) rfl xall_nil (xSee_nil _) rfl rfl ?_
    exact xRn.aret (by decide +kernel) rfl ⟨_, rfl, rfl, h⟩
  · have h := h.2.2.2.2.2.2.2.2.2.2.2.2.2.2.2.2.2.2.2.2.1 c1
    refine xRn.swIn (tgt := 152) (dflt := 151) (lo := 48) (hi := 71) (offs := #[111, 115, 119, 151, 123, 127, 151, 151, 147, 151, 151, 151, 151, 151, 151, 151, 151, 131, 151, 151, 135, 151, 139, 143]) (len := 111) (off := 151) 19 (by decide +kernel) c1 (by decide) (by decide) (by decide) ?_
    refine xRn.blk (pc1 := 153) (ls1 := [.int p1]) (st1 := [.ref 0]) (hp1 := hp) (ob := []) [(.aconst_null, 1, 0, 0, 0, 0)] [] (by decide +kernel) rfl xall_nil (xSee_nil _) rfl rfl ?_
    exact xRn.aret (by decide +kernel) rfl ⟨_, rfl, rfl, h⟩
  · have h := h.2.2.2.2.2.2.2.2.2.2.2.2.2.2.2.2.2.2.2.2.2.1 c1
    refine xRn.swIn (tgt := 136) (dflt := 151) (lo := 48) (hi := 71) (offs := #[111, 115, 119, 151, 123, 127, 151, 151, 147, 151, 151, 151, 151, 151, 151, 151, 151, 131, 151, 151, 135, 151, 139, 143]) (len := 111) (off := 135) 20 (by decide +kernel) c1 (by decide) (by decide) (by decide) ?_
    refine xRn.blk (pc1 := 139) (ls1 := [.int p1]) (st1 := [.ref 7]) (hp1 := hp) (ob := []) [(.getstatic 22, 3, 6, 0, 0, 0)] [] (by decide +kernel) rfl xall_nil (xSee_nil _) rfl rfl ?_
    exact xRn.aret (by decide +kernel) rfl ⟨_, rfl, rfl, h⟩
  · have h := h.2.2.2.2.2.2.2.2.2.2.2.2.2.2.2.2.2.2.2.2.2.2.1 c1
    refine xRn.swIn (tgt := 152) (dflt := 151) (lo := 48) (hi := 71) (offs := #[111, 115, 119, 151, 123, 127, 151, 151, 147, 151, 151, 151, 151, 151, 151, 151, 151, 131, 151, 151, 135, 151, 139, 143]) (len := 111) (off := 151) 21 (by decide +kernel) c1 (by decide) (by decide) (by decide) ?_
    refine xRn.blk (pc1 := 153) (ls1 := [.int p1]) (st1 := [.ref 0]) (hp1 := hp) (ob := []) [(.aconst_null, 1, 0, 0, 0, 0)] [] (by decide +kernel) rfl xall_nil (xSee_nil _) rfl rfl ?_
    exact xRn.aret (by decide +kernel) rfl ⟨_, rfl, rfl, h⟩
  · have h := h.2.2.2.2.2.2.2.2.2.2.2.2.2.2.2.2.2.2.2.2.2.2.2.1 c1
    refine xRn.swIn (tgt := 140) (dflt := 151) (lo := 48) (hi := 71) (offs := #[111, 115, 119, 151, 123, 127, 151, 151, 147, 151, 151, 151, 151, 151, 151, 151, 151, 131, 151, 151, 135, 151, 139, 143]) (len := 111) (off := 139) 22 (by decide +kernel) c1 (by decide) (by decide) (by decide) ?_
    refine xRn.blk (pc1 := 143) (ls1 := [.int p1]) (st1 := [.ref 8]) (hp1 := hp) (ob := []) [(.getstatic 25, 3, 7, 0, 0, 0)] [] (by decide +kernel) rfl xall_nil (xSee_nil _) rfl rfl ?_
    exact xRn.aret (by decide +kernel) rfl ⟨_, rfl, rfl, h⟩
  · have h := h.2.2.2.2.2.2.2.2.2.2.2.2.2.2.2.2.2.2.2.2.2.2.2.2 c1
    refine xRn.swIn (tgt := 144) (dflt := 151) (lo := 48) (hi := 71) (offs := #[111, 115, 119, 151, 123, 127, 151, 151, 147, 151, 151, 151, 151, 151, 151, 151, 151, 131, 151, 151, 135, 151, 139, 143]) (len := 111) (off := 143) 23 (by decide +kernel) c1 (by decide) (by decide) (by decide) ?_
    refine xRn.blk (pc1 := 147) (ls1 := [.int p1]) (st1 := [.ref 9]) (hp1 := hp) (ob := []) [(.getstatic 28, 3, 8, 0, 0, 0)] [] (by decide +kernel) rfl xall_nil (xSee_nil _) rfl rfl ?_
    exact xRn.aret (by decide +kernel) rfl ⟨_, rfl, rfl, h⟩
/-! O_open -/
def w_O_open_22  (i s q f c : Int32) (K : Int32 → Prop)  : Prop :=
  (K 0)
set_option maxRecDepth 100000 in
theorem t_O_open_22 {G : XG} {l : Launch} {d : Nat} (hp : List AE) (a : Nat) {i s q f c : Int32} (ho : xat hp a = some (xO 4 [.int i, .int s, .int q, .int f, .int c])) {K : Int32 → Prop}  (h : w_O_open_22 i s q f c K ) : xRn G l (d + 0) xm_O_open (nI_ hp K) 22 [.null] [] hp := by
  refine xRn.blk (pc1 := 23) (ls1 := [.null]) (st1 := [.int 0]) (hp1 := hp) (ob := []) [(.iconst 0, 1, 0, 0, 0, 0)] [] (by decide +kernel) rfl xall_nil (xSee_nil _) rfl rfl ?_
  exact xRn.iret (by decide +kernel) rfl rfl ⟨_, rfl, rfl, h⟩
def w_O_open (i s q f c : Int32)  (K : Int32 → Prop) : Prop :=
  ((¬ c = 0 → (w_O_open_22 i s q f c K)) ∧ (c = 0 → ((q ≤ f → (w_O_open_22 i s q f c K)) ∧ (¬ q ≤ f → (K 1)))))
set_option maxRecDepth 100000 in
theorem c_O_open {G : XG} {l : Launch} {d : Nat} (hp : List AE) (a : Nat) {i s q f c : Int32} (ho : xat hp a = some (xO 4 [.int i, .int s, .int q, .int f, .int c]))  {K : Int32 → Prop} (h : w_O_open i s q f c  K) : xCt G l (d + 0) xm_O_open [.ref a] hp (nI_ hp K) := by
  refine xCt.intro (by decide) (by decide) (List.forall_mem_cons.mpr ⟨rfl, (fun _ h => by cases h)⟩) (Nat.le_of_ble_eq_true rfl) rfl ?_
  show xRn G l _ xm_O_open _ 0 [.ref a] [] hp
  refine xRn.blk (pc1 := 4) (ls1 := [.ref a]) (st1 := [.int c]) (hp1 := hp) (ob := [(a : Nat) = a]) [(.aload_n 0, 1, 0, 0, 0, 0), (.getfield 7, 3, 4, 4, 0, 0)] [(a, xO 4 [.int i, .int s, .int q, .int f, .int c])] (by decide +kernel) rfl (xall_cons rfl xall_nil) (xSee_cons ho (xne_nil _) (xSee_nil _)) rfl rfl ?_
  refine xRn.if_ne (tgt := 22) (nx := 7) (off := 18) (by decide +kernel) (by decide) rfl (fun c1 => ?_) (fun c1 => ?_)
  · have h := h.1 c1
    refine xRn.forget (xle_no xle_nil) ?_
    exact t_O_open_22 hp a ho   h
  · have h := h.2 c1
    refine xRn.blk (pc1 := 15) (ls1 := [.ref a]) (st1 := [.int q, .int f]) (hp1 := hp) (ob := [(a : Nat) = a, (a : Nat) = a]) [(.aload_n 0, 1, 0, 0, 0, 0), (.getfield 13, 3, 3, 4, 0, 0), (.aload_n 0, 1, 0, 0, 0, 0), (.getfield 17, 3, 2, 4, 0, 0)] [(a, xO 4 [.int i, .int s, .int q, .int f, .int c])] (by decide +kernel) rfl (xall_cons rfl (xall_cons rfl xall_nil)) (xSee_cons ho (xne_nil _) (xSee_nil _)) rfl rfl ?_
    refine xRn.ic_ge (tgt := 22) (nx := 18) (off := 7) (by decide +kernel) (by decide) rfl (fun c2 => ?_) (fun c2 => ?_)
    · have h := h.1 c2
      refine xRn.forget (xle_no xle_nil) ?_
      exact t_O_open_22 hp a ho   h
    · have h := h.2 c2
      refine xRn.blk (pc1 := 19) (ls1 := [.ref a]) (st1 := [.int 1]) (hp1 := hp) (ob := []) [(.iconst 1, 1, 0, 0, 0, 1)] [] (by decide +kernel) rfl xall_nil (xSee_nil _) rfl rfl ?_
      refine xRn.goto (tgt := 23) (off := 4) (by decide +kernel) (by decide) ?_
      exact xRn.iret (by decide +kernel) rfl rfl ⟨_, rfl, rfl, h⟩
/-! O_state -/
def w_O_state (i s q f c : Int32)  (K : Int32 → Prop) : Prop :=
  ((c = 0 → (w_O_open i s q f c (fun x2 => ((¬ x2 = 0 → ((f ≤ 0 → (K 0)) ∧ (¬ f ≤ 0 → (K 1)))) ∧ (x2 = 0 → (K 2)))))) ∧ (¬ c = 0 → (K 4)))
set_option maxRecDepth 100000 in
theorem c_O_state {G : XG} {l : Launch} {d : Nat} (hp : List AE) (a : Nat) {i s q f c : Int32} (ho : xat hp a = some (xO 4 [.int i, .int s, .int q, .int f, .int c]))  {K : Int32 → Prop} (h : w_O_state i s q f c  K) : xCt G l (d + 1) xm_O_state [.ref a] hp (nI_ hp K) := by
  refine xCt.intro (by decide) (by decide) (List.forall_mem_cons.mpr ⟨rfl, (fun _ h => by cases h)⟩) (Nat.le_of_ble_eq_true rfl) rfl ?_
  show xRn G l _ xm_O_state _ 0 [.ref a] [] hp
  refine xRn.blk (pc1 := 4) (ls1 := [.ref a]) (st1 := [.int c]) (hp1 := hp) (ob := [(a : Nat) = a]) [(.aload_n 0, 1, 0, 0, 0, 0), (.getfield 7, 3, 4, 4, 0, 0)] [(a, xO 4 [.int i, .int s, .int q, .int f, .int c])] (by decide +kernel) rfl (xall_cons rfl xall_nil) (xSee_cons ho (xne_nil _) (xSee_nil _)) rfl rfl ?_
  refine xRn.if_eq (tgt := 11) (nx := 7) (off := 7) (by decide +kernel) (by decide) rfl (fun c1 => ?_) (fun c1 => ?_)
  · have h := h.1 c1
    refine xRn.blk (pc1 := 12) (ls1 := [.ref a]) (st1 := [.ref a]) (hp1 := hp) (ob := []) [(.aload_n 0, 1, 0, 0, 0, 0)] [] (by decide +kernel) rfl xall_nil (xSee_nil _) rfl rfl ?_
    refine xRn.callV (al := []) (st := []) (nx := 15) (by decide +kernel) lk_V_O_state_20_O_open_4_0 ho rfl (c_O_open (d := d + 0) _ _ ho h) rfl (Nat.le_of_ble_eq_true rfl) rfl rfl ?_ ?_
    · rintro _ _ ⟨x2, e9, e8, h⟩
      cases e9
      rw [e8]
      show xRn G l _ _ _ 15 [.ref a] [.int x2] hp
      refine xRn.if_ne (tgt := 22) (nx := 18) (off := 7) (by decide +kernel) (by decide) rfl (fun c3 => ?_) (fun c3 => ?_)
      · have h := h.1 c3
        refine xRn.blk (pc1 := 26) (ls1 := [.ref a]) (st1 := [.int f]) (hp1 := hp) (ob := [(a : Nat) = a]) [(.aload_n 0, 1, 0, 0, 0, 0), (.getfield 13, 3, 3, 4, 0, 0)] [(a, xO 4 [.int i, .int s, .int q, .int f, .int c])] (by decide +kernel) rfl (xall_cons rfl xall_nil) (xSee_cons ho (xne_nil _) (xSee_nil _)) rfl rfl ?_
        refine xRn.if_le (tgt := 33) (nx := 29) (off := 7) (by decide +kernel) (by decide) rfl (fun c4 => ?_) (fun c4 => ?_)
        · have h := h.1 c4
          refine xRn.blk (pc1 := 34) (ls1 := [.ref a]) (st1 := [.int 0]) (hp1 := hp) (ob := []) [(.iconst 0, 1, 0, 0, 0, 0)] [] (by decide +kernel) rfl xall_nil (xSee_nil _) rfl rfl ?_
          exact xRn.iret (by decide +kernel) rfl rfl ⟨_, rfl, rfl, h⟩
        · have h := h.2 c4
          refine xRn.blk (pc1 := 30) (ls1 := [.ref a]) (st1 := [.int 1]) (hp1 := hp) (ob := []) [(.iconst 1, 1, 0, 0, 0, 1)] [] (by decide +kernel) rfl xall_nil (xSee_nil _) rfl rfl ?_
          refine xRn.goto (tgt := 34) (off := 4) (by decide +kernel) (by decide) ?_
          exact xRn.iret (by decide +kernel) rfl rfl ⟨_, rfl, rfl, h⟩
      · have h := h.2 c3
        refine xRn.blk (pc1 := 19) (ls1 := [.ref a]) (st1 := [.int 2]) (hp1 := hp) (ob := []) [(.iconst 2, 1, 0, 0, 0, 2)] [] (by decide +kernel) rfl xall_nil (xSee_nil _) rfl rfl ?_
        refine xRn.goto (tgt := 34) (off := 15) (by decide +kernel) (by decide) ?_
        exact xRn.iret (by decide +kernel) rfl rfl ⟨_, rfl, rfl, h⟩
    · rintro _ _ ⟨_, e9, _⟩
      cases e9
  · have h := h.2 c1
    refine xRn.blk (pc1 := 8) (ls1 := [.ref a]) (st1 := [.int 4]) (hp1 := hp) (ob := []) [(.iconst 4, 1, 0, 0, 0, 4)] [] (by decide +kernel) rfl xall_nil (xSee_nil _) rfl rfl ?_
    refine xRn.goto (tgt := 34) (off := 26) (by decide +kernel) (by decide) ?_
    exact xRn.iret (by decide +kernel) rfl rfl ⟨_, rfl, rfl, h⟩
/-! F_put -/
def w_F_put  (L : Int32) (B : Int32) (f : Nat → Int32) (p1 : Int32) (K : Int32 → Int32 → (Nat → Int32) → Prop) : Prop :=
  (vp_in L 120) ∧ (K (L + 1) B (upd f L.toNatClampNeg (vp_nar .byte (p1.toInt8.toInt32))))
set_option maxRecDepth 100000 in
theorem c_F_put {G : XG} {l : Launch} {d : Nat} {hp : List AE} {a g : Nat} (hv : xFv hp a g) (L : Int32) (B : Int32) (f : Nat → Int32) (p1 : Int32) {K : Int32 → Int32 → (Nat → Int32) → Prop} (h : w_F_put  L B f p1 K) : xCt G l (d + 0) xm_F_put [.ref a, .int p1] (hF hp a g L B f) (pFV hp a g K) := by
  refine xCt.intro (by decide) (by decide) (List.forall_mem_cons.mpr ⟨rfl, (List.forall_mem_cons.mpr ⟨rfl, (fun _ h => by cases h)⟩)⟩) (Nat.le_of_ble_eq_true rfl) rfl ?_
  show xRn G l _ xm_F_put _ 0 [.ref a, .int p1] [] (hF hp a g L B f)
  obtain ⟨o1, h⟩ := h
  refine xRn.blk (pc1 := 21) (ls1 := [.ref a, .int p1]) (st1 := []) (hp1 := (hF hp a g (L + 1) B (upd f L.toNatClampNeg (vp_nar .byte (p1.toInt8.toInt32))))) (ob := [(a : Nat) = a, (a : Nat) = a, (g : Nat) = g, vp_in L 120, (a : Nat) = a, (a : Nat) = a]) [(.aload_n 0, 1, 0, 0, 0, 0), (.getfield 7, 3, 0, 1, 0, 0), (.aload_n 0, 1, 0, 0, 0, 0), (.getfield 13, 3, 1, 1, 0, 0), (.iload_n 1, 1, 1, 0, 0, 0), (.i2b, 1, 0, 0, 0, 0), (.bastore, 1, 0, 0, 1, 0), (.aload_n 0, 1, 0, 0, 0, 0), (.dup, 1, 0, 0, 0, 0), (.getfield 13, 3, 1, 1, 0, 0), (.iconst 1, 1, 0, 0, 0, 1), (.iadd, 1, 0, 0, 0, 0), (.putfield 13, 3, 1, 1, 0, 0)] [(a, xO 1 [.ref g, .int L, .int B]), (g, xI 1 120 f)] (by decide +kernel) rfl (xall_cons rfl (xall_cons rfl (xall_cons rfl (xall_cons o1 (xall_cons rfl (xall_cons rfl xall_nil)))))) (hF_see hv) rfl (by simp only [xputs, List.nil_append, List.cons_append, List.append_nil, List.foldl_cons, List.foldl_nil, List.set_cons_zero, List.set_cons_succ, hF_g hv, hF_a hv]) ?_
  exact xRn.vret (by decide +kernel) rfl ⟨_, _, _, rfl, rfl, h⟩
/-! F_digits -/
def w_F_digits_20   (K : Int32 → Int32 → (Nat → Int32) → Prop) : Nat → Int32 → Int32 → (Nat → Int32) → Int32 → Int32 → Prop
  | 0, _, _, _, _, _ => False
  | n + 1, L, B, f, v1, v3 => ((v3 ≤ 0 → (K L B f)) ∧ (¬ v3 ≤ 0 → (¬ v3 = 0) ∧ (w_F_put L B f (48 + ((v1 / v3) - (v1 / v3) / 10 * 10)) (fun L4 B5 f6 => (w_F_digits_20 K n L4 B5 f6 v1 (v3 / 10))))))
set_option maxRecDepth 100000 in
theorem t_F_digits_20 {G : XG} {l : Launch} {d : Nat} {hp : List AE} {a g : Nat} (hv : xFv hp a g) {K : Int32 → Int32 → (Nat → Int32) → Prop} : ∀ (n : Nat) (L : Int32) (B : Int32) (f : Nat → Int32) (v1 : Int32) (v3 : Int32), w_F_digits_20 K n L B f v1 v3 → xRn G l (d + 1) xm_F_digits (pFV hp a g K) 20 [.ref a, .int v1, .null, .int v3] [] (hF hp a g L B f) := by
  intro n
  induction n with
  | zero => intro L B f v1 v3 h; exact h.elim
  | succ n ih =>
    intro L B f v1 v3 h
    refine xRn.blk (pc1 := 21) (ls1 := [.ref a, .int v1, .null, .int v3]) (st1 := [.int v3]) (hp1 := (hF hp a g L B f)) (ob := []) [(.iload_n 3, 1, 3, 0, 0, 0)] [] (by decide +kernel) rfl xall_nil (xSee_nil _) rfl rfl ?_
    refine xRn.if_le (tgt := 45) (nx := 24) (off := 24) (by decide +kernel) (by decide) rfl (fun c1 => ?_) (fun c1 => ?_)
    · have h := h.1 c1
      exact xRn.vret (by decide +kernel) rfl ⟨_, _, _, rfl, rfl, h⟩
    · have h := h.2 c1
      obtain ⟨o2, h⟩ := h
      refine xRn.blk (pc1 := 34) (ls1 := [.ref a, .int v1, .null, .int v3]) (st1 := [.int (48 + ((v1 / v3) - (v1 / v3) / 10 * 10)), .ref a]) (hp1 := (hF hp a g L B f)) (ob := [¬ v3 = 0, ¬ (10 : Int32) = 0]) [(.aload_n 0, 1, 0, 0, 0, 0), (.bipush 48, 2, 0, 0, 0, 48), (.iload_n 1, 1, 1, 0, 0, 0), (.iload_n 3, 1, 3, 0, 0, 0), (.idiv, 1, 0, 0, 0, 0), (.bipush 10, 2, 0, 0, 0, 10), (.irem, 1, 0, 0, 0, 0), (.iadd, 1, 0, 0, 0, 0)] [] (by decide +kernel) rfl (xall_cons o2 (xall_cons (by decide) xall_nil)) (xSee_nil _) rfl rfl ?_
      refine xRn.callV (al := [.int (48 + ((v1 / v3) - (v1 / v3) / 10 * 10))]) (st := []) (nx := 37) (by decide +kernel) lk_V_F_digits_17_F_put_1_1 (hF_at hv) rfl (c_F_put (d := d + 0) hv L B f (48 + ((v1 / v3) - (v1 / v3) / 10 * 10)) h) rfl (Nat.le_of_ble_eq_true rfl) rfl rfl ?_ ?_
      · rintro _ _ ⟨L4, B5, f6, e9, rfl, h⟩
        cases e9
        show xRn G l _ _ _ 37 [.ref a, .int v1, .null, .int v3] [] (hF hp a g L4 B5 f6)
        refine xRn.blk (pc1 := 42) (ls1 := [.ref a, .int v1, .null, .int (v3 / 10)]) (st1 := []) (hp1 := (hF hp a g L4 B5 f6)) (ob := [¬ (10 : Int32) = 0]) [(.iload_n 3, 1, 3, 0, 0, 0), (.bipush 10, 2, 0, 0, 0, 10), (.idiv, 1, 0, 0, 0, 0), (.istore_n 3, 1, 3, 0, 0, 0)] [] (by decide +kernel) rfl (xall_cons (by decide) xall_nil) (xSee_nil _) rfl rfl ?_
        refine xRn.goto (tgt := 20) (off := (-22)) (by decide +kernel) (by decide) ?_
        refine xRn.forget (xle_eq (xle_eq (xle_eq (xle_eq xle_nil)))) ?_
        exact ih L4 B5 f6 v1 (v3 / 10) h
      · rintro _ _ ⟨_, _, _, e9, _⟩
        cases e9
def w_F_digits_2   (K : Int32 → Int32 → (Nat → Int32) → Prop) : Nat → Int32 → Int32 → (Nat → Int32) → Int32 → Int32 → Prop
  | 0, _, _, _, _, _ => False
  | n + 1, L, B, f, v1, v2 => (¬ v2 = 0) ∧ (((v1 / v2) < (10 : Int32) → (∃ j, w_F_digits_20 K j L B f v1 v2)) ∧ (¬ (v1 / v2) < (10 : Int32) → (w_F_digits_2 K n L B f v1 (v2 * 10))))
set_option maxRecDepth 100000 in
theorem t_F_digits_2 {G : XG} {l : Launch} {d : Nat} {hp : List AE} {a g : Nat} (hv : xFv hp a g) {K : Int32 → Int32 → (Nat → Int32) → Prop} : ∀ (n : Nat) (L : Int32) (B : Int32) (f : Nat → Int32) (v1 : Int32) (v2 : Int32), w_F_digits_2 K n L B f v1 v2 → xRn G l (d + 1) xm_F_digits (pFV hp a g K) 2 [.ref a, .int v1, .int v2, .null] [] (hF hp a g L B f) := by
  intro n
  induction n with
  | zero => intro L B f v1 v2 h; exact h.elim
  | succ n ih =>
    intro L B f v1 v2 h
    obtain ⟨o7, h⟩ := h
    refine xRn.blk (pc1 := 7) (ls1 := [.ref a, .int v1, .int v2, .null]) (st1 := [.int 10, .int (v1 / v2)]) (hp1 := (hF hp a g L B f)) (ob := [¬ v2 = 0]) [(.iload_n 1, 1, 1, 0, 0, 0), (.iload_n 2, 1, 2, 0, 0, 0), (.idiv, 1, 0, 0, 0, 0), (.bipush 10, 2, 0, 0, 0, 10)] [] (by decide +kernel) rfl (xall_cons o7 xall_nil) (xSee_nil _) rfl rfl ?_
    refine xRn.ic_lt (tgt := 18) (nx := 10) (off := 11) (by decide +kernel) (by decide) rfl (fun c8 => ?_) (fun c8 => ?_)
    · have h := h.1 c8
      refine xRn.blk (pc1 := 20) (ls1 := [.ref a, .int v1, .int v2, .int v2]) (st1 := []) (hp1 := (hF hp a g L B f)) (ob := []) [(.iload_n 2, 1, 2, 0, 0, 0), (.istore_n 3, 1, 3, 0, 0, 0)] [] (by decide +kernel) rfl xall_nil (xSee_nil _) rfl rfl ?_
      refine xRn.forget (xle_eq (xle_eq (xle_no (xle_eq xle_nil)))) ?_
      obtain ⟨n9, h⟩ := h
      exact t_F_digits_20 hv  n9 L B f v1 v2 h
    · have h := h.2 c8
      refine xRn.blk (pc1 := 15) (ls1 := [.ref a, .int v1, .int (v2 * 10), .null]) (st1 := []) (hp1 := (hF hp a g L B f)) (ob := []) [(.iload_n 2, 1, 2, 0, 0, 0), (.bipush 10, 2, 0, 0, 0, 10), (.imul, 1, 0, 0, 0, 0), (.istore_n 2, 1, 2, 0, 0, 0)] [] (by decide +kernel) rfl xall_nil (xSee_nil _) rfl rfl ?_
      refine xRn.goto (tgt := 2) (off := (-13)) (by decide +kernel) (by decide) ?_
      refine xRn.forget (xle_eq (xle_eq (xle_eq (xle_eq xle_nil)))) ?_
      exact ih L B f v1 (v2 * 10) h
def w_F_digits  (L : Int32) (B : Int32) (f : Nat → Int32) (p1 : Int32) (K : Int32 → Int32 → (Nat → Int32) → Prop) : Prop :=
  (∃ j, w_F_digits_2 K j L B f p1 1)
set_option maxRecDepth 100000 in
theorem c_F_digits {G : XG} {l : Launch} {d : Nat} {hp : List AE} {a g : Nat} (hv : xFv hp a g) (L : Int32) (B : Int32) (f : Nat → Int32) (p1 : Int32) {K : Int32 → Int32 → (Nat → Int32) → Prop} (h : w_F_digits  L B f p1 K) : xCt G l (d + 1) xm_F_digits [.ref a, .int p1] (hF hp a g L B f) (pFV hp a g K) := by
  refine xCt.intro (by decide) (by decide) (List.forall_mem_cons.mpr ⟨rfl, (List.forall_mem_cons.mpr ⟨rfl, (fun _ h => by cases h)⟩)⟩) (Nat.le_of_ble_eq_true rfl) rfl ?_
  show xRn G l _ xm_F_digits _ 0 [.ref a, .int p1, .null, .null] [] (hF hp a g L B f)
  refine xRn.blk (pc1 := 2) (ls1 := [.ref a, .int p1, .int 1, .null]) (st1 := []) (hp1 := (hF hp a g L B f)) (ob := []) [(.iconst 1, 1, 0, 0, 0, 1), (.istore_n 2, 1, 2, 0, 0, 0)] [] (by decide +kernel) rfl xall_nil (xSee_nil _) rfl rfl ?_
  refine xRn.forget (xle_eq (xle_eq (xle_eq (xle_eq xle_nil)))) ?_
  obtain ⟨n10, h⟩ := h
  exact t_F_digits_2 hv  n10 L B f p1 1 h
/-! F_field -/
def w_F_field  (L : Int32) (B : Int32) (f : Nat → Int32) (p1 : Int32) (p2 : Int32) (K : Int32 → Int32 → (Nat → Int32) → Prop) : Prop :=
  (w_F_digits L B f p1 (fun L2 B3 f4 => (w_F_put L2 B3 f4 61 (fun L6 B7 f8 => (w_F_digits L6 B7 f8 p2 (fun L10 B11 f12 => (w_F_put L10 B11 f12 1 (fun L14 B15 f16 => (K L14 B15 f16)))))))))
set_option maxRecDepth 100000 in
theorem c_F_field {G : XG} {l : Launch} {d : Nat} {hp : List AE} {a g : Nat} (hv : xFv hp a g) (L : Int32) (B : Int32) (f : Nat → Int32) (p1 : Int32) (p2 : Int32) {K : Int32 → Int32 → (Nat → Int32) → Prop} (h : w_F_field  L B f p1 p2 K) : xCt G l (d + 2) xm_F_field [.ref a, .int p1, .int p2] (hF hp a g L B f) (pFV hp a g K) := by
  refine xCt.intro (by decide) (by decide) (List.forall_mem_cons.mpr ⟨rfl, (List.forall_mem_cons.mpr ⟨rfl, (List.forall_mem_cons.mpr ⟨rfl, (fun _ h => by cases h)⟩)⟩)⟩) (Nat.le_of_ble_eq_true rfl) rfl ?_
  show xRn G l _ xm_F_field _ 0 [.ref a, .int p1, .int p2] [] (hF hp a g L B f)
  refine xRn.blk (pc1 := 2) (ls1 := [.ref a, .int p1, .int p2]) (st1 := [.int p1, .ref a]) (hp1 := (hF hp a g L B f)) (ob := []) [(.aload_n 0, 1, 0, 0, 0, 0), (.iload_n 1, 1, 1, 0, 0, 0)] [] (by decide +kernel) rfl xall_nil (xSee_nil _) rfl rfl ?_
  refine xRn.callV (al := [.int p1]) (st := []) (nx := 5) (by decide +kernel) lk_V_F_field_21_F_digits_1_1 (hF_at hv) rfl (c_F_digits (d := d + 0) hv L B f p1 h) rfl (Nat.le_of_ble_eq_true rfl) rfl rfl ?_ ?_
  · rintro _ _ ⟨L2, B3, f4, e9, rfl, h⟩
    cases e9
    show xRn G l _ _ _ 5 [.ref a, .int p1, .int p2] [] (hF hp a g L2 B3 f4)
    refine xRn.blk (pc1 := 8) (ls1 := [.ref a, .int p1, .int p2]) (st1 := [.int 61, .ref a]) (hp1 := (hF hp a g L2 B3 f4)) (ob := []) [(.aload_n 0, 1, 0, 0, 0, 0), (.bipush 61, 2, 0, 0, 0, 61)] [] (by decide +kernel) rfl xall_nil (xSee_nil _) rfl rfl ?_
    refine xRn.callV (al := [.int 61]) (st := []) (nx := 11) (by decide +kernel) lk_V_F_field_17_F_put_1_1 (hF_at hv) rfl (c_F_put (d := d + 1) hv L2 B3 f4 61 h) rfl (Nat.le_of_ble_eq_true rfl) rfl rfl ?_ ?_
    · rintro _ _ ⟨L6, B7, f8, e9, rfl, h⟩
      cases e9
      show xRn G l _ _ _ 11 [.ref a, .int p1, .int p2] [] (hF hp a g L6 B7 f8)
      refine xRn.blk (pc1 := 13) (ls1 := [.ref a, .int p1, .int p2]) (st1 := [.int p2, .ref a]) (hp1 := (hF hp a g L6 B7 f8)) (ob := []) [(.aload_n 0, 1, 0, 0, 0, 0), (.iload_n 2, 1, 2, 0, 0, 0)] [] (by decide +kernel) rfl xall_nil (xSee_nil _) rfl rfl ?_
      refine xRn.callV (al := [.int p2]) (st := []) (nx := 16) (by decide +kernel) lk_V_F_field_21_F_digits_1_1 (hF_at hv) rfl (c_F_digits (d := d + 0) hv L6 B7 f8 p2 h) rfl (Nat.le_of_ble_eq_true rfl) rfl rfl ?_ ?_
      · rintro _ _ ⟨L10, B11, f12, e9, rfl, h⟩
        cases e9
        show xRn G l _ _ _ 16 [.ref a, .int p1, .int p2] [] (hF hp a g L10 B11 f12)
        refine xRn.blk (pc1 := 18) (ls1 := [.ref a, .int p1, .int p2]) (st1 := [.int 1, .ref a]) (hp1 := (hF hp a g L10 B11 f12)) (ob := []) [(.aload_n 0, 1, 0, 0, 0, 0), (.iconst 1, 1, 0, 0, 0, 1)] [] (by decide +kernel) rfl xall_nil (xSee_nil _) rfl rfl ?_
        refine xRn.callV (al := [.int 1]) (st := []) (nx := 21) (by decide +kernel) lk_V_F_field_17_F_put_1_1 (hF_at hv) rfl (c_F_put (d := d + 1) hv L10 B11 f12 1 h) rfl (Nat.le_of_ble_eq_true rfl) rfl rfl ?_ ?_
        · rintro _ _ ⟨L14, B15, f16, e9, rfl, h⟩
          cases e9
          show xRn G l _ _ _ 21 [.ref a, .int p1, .int p2] [] (hF hp a g L14 B15 f16)
          exact xRn.vret (by decide +kernel) rfl ⟨_, _, _, rfl, rfl, h⟩
        · rintro _ _ ⟨_, _, _, e9, _⟩
          cases e9
      · rintro _ _ ⟨_, _, _, e9, _⟩
        cases e9
    · rintro _ _ ⟨_, _, _, e9, _⟩
      cases e9
  · rintro _ _ ⟨_, _, _, e9, _⟩
    cases e9
/-! F_letter -/
def w_F_letter  (L : Int32) (B : Int32) (f : Nat → Int32) (p1 : Int32) (p2 : Int32) (K : Int32 → Int32 → (Nat → Int32) → Prop) : Prop :=
  (w_F_digits L B f p1 (fun L2 B3 f4 => (w_F_put L2 B3 f4 61 (fun L6 B7 f8 => (w_F_put L6 B7 f8 p2 (fun L10 B11 f12 => (w_F_put L10 B11 f12 1 (fun L14 B15 f16 => (K L14 B15 f16)))))))))
set_option maxRecDepth 100000 in
theorem c_F_letter {G : XG} {l : Launch} {d : Nat} {hp : List AE} {a g : Nat} (hv : xFv hp a g) (L : Int32) (B : Int32) (f : Nat → Int32) (p1 : Int32) (p2 : Int32) {K : Int32 → Int32 → (Nat → Int32) → Prop} (h : w_F_letter  L B f p1 p2 K) : xCt G l (d + 2) xm_F_letter [.ref a, .int p1, .int p2] (hF hp a g L B f) (pFV hp a g K) := by
  refine xCt.intro (by decide) (by decide) (List.forall_mem_cons.mpr ⟨rfl, (List.forall_mem_cons.mpr ⟨rfl, (List.forall_mem_cons.mpr ⟨rfl, (fun _ h => by cases h)⟩)⟩)⟩) (Nat.le_of_ble_eq_true rfl) rfl ?_
  show xRn G l _ xm_F_letter _ 0 [.ref a, .int p1, .int p2] [] (hF hp a g L B f)
  refine xRn.blk (pc1 := 2) (ls1 := [.ref a, .int p1, .int p2]) (st1 := [.int p1, .ref a]) (hp1 := (hF hp a g L B f)) (ob := []) [(.aload_n 0, 1, 0, 0, 0, 0), (.iload_n 1, 1, 1, 0, 0, 0)] [] (by decide +kernel) rfl xall_nil (xSee_nil _) rfl rfl ?_
  refine xRn.callV (al := [.int p1]) (st := []) (nx := 5) (by decide +kernel) lk_V_F_letter_21_F_digits_1_1 (hF_at hv) rfl (c_F_digits (d := d + 0) hv L B f p1 h) rfl (Nat.le_of_ble_eq_true rfl) rfl rfl ?_ ?_
  · rintro _ _ ⟨L2, B3, f4, e9, rfl, h⟩
    cases e9
    show xRn G l _ _ _ 5 [.ref a, .int p1, .int p2] [] (hF hp a g L2 B3 f4)
    refine xRn.blk (pc1 := 8) (ls1 := [.ref a, .int p1, .int p2]) (st1 := [.int 61, .ref a]) (hp1 := (hF hp a g L2 B3 f4)) (ob := []) [(.aload_n 0, 1, 0, 0, 0, 0), (.bipush 61, 2, 0, 0, 0, 61)] [] (by decide +kernel) rfl xall_nil (xSee_nil _) rfl rfl ?_
    refine xRn.callV (al := [.int 61]) (st := []) (nx := 11) (by decide +kernel) lk_V_F_letter_17_F_put_1_1 (hF_at hv) rfl (c_F_put (d := d + 1) hv L2 B3 f4 61 h) rfl (Nat.le_of_ble_eq_true rfl) rfl rfl ?_ ?_
    · rintro _ _ ⟨L6, B7, f8, e9, rfl, h⟩
      cases e9
      show xRn G l _ _ _ 11 [.ref a, .int p1, .int p2] [] (hF hp a g L6 B7 f8)
      refine xRn.blk (pc1 := 13) (ls1 := [.ref a, .int p1, .int p2]) (st1 := [.int p2, .ref a]) (hp1 := (hF hp a g L6 B7 f8)) (ob := []) [(.aload_n 0, 1, 0, 0, 0, 0), (.iload_n 2, 1, 2, 0, 0, 0)] [] (by decide +kernel) rfl xall_nil (xSee_nil _) rfl rfl ?_
      refine xRn.callV (al := [.int p2]) (st := []) (nx := 16) (by decide +kernel) lk_V_F_letter_17_F_put_1_1 (hF_at hv) rfl (c_F_put (d := d + 1) hv L6 B7 f8 p2 h) rfl (Nat.le_of_ble_eq_true rfl) rfl rfl ?_ ?_
      · rintro _ _ ⟨L10, B11, f12, e9, rfl, h⟩
        cases e9
        show xRn G l _ _ _ 16 [.ref a, .int p1, .int p2] [] (hF hp a g L10 B11 f12)
        refine xRn.blk (pc1 := 18) (ls1 := [.ref a, .int p1, .int p2]) (st1 := [.int 1, .ref a]) (hp1 := (hF hp a g L10 B11 f12)) (ob := []) [(.aload_n 0, 1, 0, 0, 0, 0), (.iconst 1, 1, 0, 0, 0, 1)] [] (by decide +kernel) rfl xall_nil (xSee_nil _) rfl rfl ?_
        refine xRn.callV (al := [.int 1]) (st := []) (nx := 21) (by decide +kernel) lk_V_F_letter_17_F_put_1_1 (hF_at hv) rfl (c_F_put (d := d + 1) hv L10 B11 f12 1 h) rfl (Nat.le_of_ble_eq_true rfl) rfl rfl ?_ ?_
        · rintro _ _ ⟨L14, B15, f16, e9, rfl, h⟩
          cases e9
          show xRn G l _ _ _ 21 [.ref a, .int p1, .int p2] [] (hF hp a g L14 B15 f16)
          exact xRn.vret (by decide +kernel) rfl ⟨_, _, _, rfl, rfl, h⟩
        · rintro _ _ ⟨_, _, _, e9, _⟩
          cases e9
      · rintro _ _ ⟨_, _, _, e9, _⟩
        cases e9
    · rintro _ _ ⟨_, _, _, e9, _⟩
      cases e9
  · rintro _ _ ⟨_, _, _, e9, _⟩
    cases e9
/-! F_sum -/
def w_F_sum_4   (K : Int32 → Int32 → Int32 → (Nat → Int32) → Prop) : Nat → Int32 → Int32 → (Nat → Int32) → Int32 → Int32 → Int32 → Prop
  | 0, _, _, _, _, _, _ => False
  | n + 1, L, B, f, v1, v2, v3 => ((v1 ≤ v3 → (K (v2 &&& 255) L B f)) ∧ (¬ v1 ≤ v3 → (vp_in v3 120) ∧ (w_F_sum_4 K n L B f v1 (v2 + (f v3.toNatClampNeg)) (v3 + 1))))
set_option maxRecDepth 100000 in
theorem t_F_sum_4 {G : XG} {l : Launch} {d : Nat} {hp : List AE} {a g : Nat} (hv : xFv hp a g) {K : Int32 → Int32 → Int32 → (Nat → Int32) → Prop} : ∀ (n : Nat) (L : Int32) (B : Int32) (f : Nat → Int32) (v1 : Int32) (v2 : Int32) (v3 : Int32), w_F_sum_4 K n L B f v1 v2 v3 → xRn G l (d + 0) xm_F_sum (pFI hp a g K) 4 [.ref a, .int v1, .int v2, .int v3] [] (hF hp a g L B f) := by
  intro n
  induction n with
  | zero => intro L B f v1 v2 v3 h; exact h.elim
  | succ n ih =>
    intro L B f v1 v2 v3 h
    refine xRn.blk (pc1 := 6) (ls1 := [.ref a, .int v1, .int v2, .int v3]) (st1 := [.int v1, .int v3]) (hp1 := (hF hp a g L B f)) (ob := []) [(.iload_n 3, 1, 3, 0, 0, 0), (.iload_n 1, 1, 1, 0, 0, 0)] [] (by decide +kernel) rfl xall_nil (xSee_nil _) rfl rfl ?_
    refine xRn.ic_ge (tgt := 24) (nx := 9) (off := 18) (by decide +kernel) (by decide) rfl (fun c1 => ?_) (fun c1 => ?_)
    · have h := h.1 c1
      refine xRn.blk (pc1 := 29) (ls1 := [.ref a, .int v1, .int v2, .int v3]) (st1 := [.int (v2 &&& 255)]) (hp1 := (hF hp a g L B f)) (ob := []) [(.iload_n 2, 1, 2, 0, 0, 0), (.sipush 255, 3, 0, 0, 0, 255), (.iand, 1, 0, 0, 0, 0)] [] (by decide +kernel) rfl xall_nil (xSee_nil _) rfl rfl ?_
      exact xRn.iret (by decide +kernel) rfl rfl ⟨_, _, _, _, rfl, rfl, h⟩
    · have h := h.2 c1
      obtain ⟨o2, h⟩ := h
      refine xRn.blk (pc1 := 21) (ls1 := [.ref a, .int v1, .int (v2 + (f v3.toNatClampNeg)), .int (v3 + 1)]) (st1 := []) (hp1 := (hF hp a g L B f)) (ob := [(a : Nat) = a, (g : Nat) = g, vp_in v3 120]) [(.iload_n 2, 1, 2, 0, 0, 0), (.aload_n 0, 1, 0, 0, 0, 0), (.getfield 7, 3, 0, 1, 0, 0), (.iload_n 3, 1, 3, 0, 0, 0), (.baload, 1, 0, 0, 1, 0), (.iadd, 1, 0, 0, 0, 0), (.istore_n 2, 1, 2, 0, 0, 0), (.iinc 3 1, 3, 3, 0, 0, 1)] [(a, xO 1 [.ref g, .int L, .int B]), (g, xI 1 120 f)] (by decide +kernel) rfl (xall_cons rfl (xall_cons rfl (xall_cons o2 xall_nil))) (hF_see hv) rfl rfl ?_
      refine xRn.goto (tgt := 4) (off := (-17)) (by decide +kernel) (by decide) ?_
      refine xRn.forget (xle_eq (xle_eq (xle_eq (xle_eq xle_nil)))) ?_
      exact ih L B f v1 (v2 + (f v3.toNatClampNeg)) (v3 + 1) h
def w_F_sum  (L : Int32) (B : Int32) (f : Nat → Int32) (p1 : Int32) (K : Int32 → Int32 → Int32 → (Nat → Int32) → Prop) : Prop :=
  (∃ j, w_F_sum_4 K j L B f p1 0 0)
set_option maxRecDepth 100000 in
theorem c_F_sum {G : XG} {l : Launch} {d : Nat} {hp : List AE} {a g : Nat} (hv : xFv hp a g) (L : Int32) (B : Int32) (f : Nat → Int32) (p1 : Int32) {K : Int32 → Int32 → Int32 → (Nat → Int32) → Prop} (h : w_F_sum  L B f p1 K) : xCt G l (d + 0) xm_F_sum [.ref a, .int p1] (hF hp a g L B f) (pFI hp a g K) := by
  refine xCt.intro (by decide) (by decide) (List.forall_mem_cons.mpr ⟨rfl, (List.forall_mem_cons.mpr ⟨rfl, (fun _ h => by cases h)⟩)⟩) (Nat.le_of_ble_eq_true rfl) rfl ?_
  show xRn G l _ xm_F_sum _ 0 [.ref a, .int p1, .null, .null] [] (hF hp a g L B f)
  refine xRn.blk (pc1 := 4) (ls1 := [.ref a, .int p1, .int 0, .int 0]) (st1 := []) (hp1 := (hF hp a g L B f)) (ob := []) [(.iconst 0, 1, 0, 0, 0, 0), (.istore_n 2, 1, 2, 0, 0, 0), (.iconst 0, 1, 0, 0, 0, 0), (.istore_n 3, 1, 3, 0, 0, 0)] [] (by decide +kernel) rfl xall_nil (xSee_nil _) rfl rfl ?_
  refine xRn.forget (xle_eq (xle_eq (xle_eq (xle_eq xle_nil)))) ?_
  obtain ⟨n3, h⟩ := h
  exact t_F_sum_4 hv  n3 L B f p1 0 0 h
/-! F_begin -/
def w_F_begin  (L : Int32) (B : Int32) (f : Nat → Int32) (p1 : Int32) (p2 : Int32) (p3 : Int32) (K : Int32 → Int32 → (Nat → Int32) → Prop) : Prop :=
  (w_F_letter 0 B f 8 70 (fun L2 B3 f4 => (w_F_letter L2 L2 f4 35 p1 (fun L6 B7 f8 => (w_F_field L6 B7 f8 34 p2 (fun L10 B11 f12 => ((p3 = 0 → (K L10 B11 f12)) ∧ (¬ p3 = 0 → (w_F_letter L10 B11 f12 43 89 (fun L15 B16 f17 => (K L15 B16 f17)))))))))))
set_option maxRecDepth 100000 in
theorem c_F_begin {G : XG} {l : Launch} {d : Nat} {hp : List AE} {a g : Nat} (hv : xFv hp a g) (L : Int32) (B : Int32) (f : Nat → Int32) (p1 : Int32) (p2 : Int32) (p3 : Int32) {K : Int32 → Int32 → (Nat → Int32) → Prop} (h : w_F_begin  L B f p1 p2 p3 K) : xCt G l (d + 3) xm_F_begin [.ref a, .int p1, .int p2, .int p3] (hF hp a g L B f) (pFV hp a g K) := by
  refine xCt.intro (by decide) (by decide) (List.forall_mem_cons.mpr ⟨rfl, (List.forall_mem_cons.mpr ⟨rfl, (List.forall_mem_cons.mpr ⟨rfl, (List.forall_mem_cons.mpr ⟨rfl, (fun _ h => by cases h)⟩)⟩)⟩)⟩) (Nat.le_of_ble_eq_true rfl) rfl ?_
  show xRn G l _ xm_F_begin _ 0 [.ref a, .int p1, .int p2, .int p3] [] (hF hp a g L B f)
  refine xRn.blk (pc1 := 10) (ls1 := [.ref a, .int p1, .int p2, .int p3]) (st1 := [.int 70, .int 8, .ref a]) (hp1 := (hF hp a g 0 B f)) (ob := [(a : Nat) = a]) [(.aload_n 0, 1, 0, 0, 0, 0), (.iconst 0, 1, 0, 0, 0, 0), (.putfield 13, 3, 1, 1, 0, 0), (.aload_n 0, 1, 0, 0, 0, 0), (.bipush 8, 2, 0, 0, 0, 8), (.bipush 70, 2, 0, 0, 0, 70)] [(a, xO 1 [.ref g, .int L, .int B]), (g, xI 1 120 f)] (by decide +kernel) rfl (xall_cons rfl xall_nil) (hF_see hv) rfl (by simp only [xputs, List.nil_append, List.cons_append, List.append_nil, List.foldl_cons, List.foldl_nil, List.set_cons_zero, List.set_cons_succ, hF_g hv, hF_a hv]) ?_
  refine xRn.callV (al := [.int 8, .int 70]) (st := []) (nx := 13) (by decide +kernel) lk_V_F_begin_24_F_letter_1_2 (hF_at hv) rfl (c_F_letter (d := d + 0) hv 0 B f 8 70 h) rfl (Nat.le_of_ble_eq_true rfl) rfl rfl ?_ ?_
  · rintro _ _ ⟨L2, B3, f4, e9, rfl, h⟩
    cases e9
    show xRn G l _ _ _ 13 [.ref a, .int p1, .int p2, .int p3] [] (hF hp a g L2 B3 f4)
    refine xRn.blk (pc1 := 25) (ls1 := [.ref a, .int p1, .int p2, .int p3]) (st1 := [.int p1, .int 35, .ref a]) (hp1 := (hF hp a g L2 L2 f4)) (ob := [(a : Nat) = a, (a : Nat) = a]) [(.aload_n 0, 1, 0, 0, 0, 0), (.aload_n 0, 1, 0, 0, 0, 0), (.getfield 13, 3, 1, 1, 0, 0), (.putfield 28, 3, 2, 1, 0, 0), (.aload_n 0, 1, 0, 0, 0, 0), (.bipush 35, 2, 0, 0, 0, 35), (.iload_n 1, 1, 1, 0, 0, 0)] [(a, xO 1 [.ref g, .int L2, .int B3]), (g, xI 1 120 f4)] (by decide +kernel) rfl (xall_cons rfl (xall_cons rfl xall_nil)) (hF_see hv) rfl (by simp only [xputs, List.nil_append, List.cons_append, List.append_nil, List.foldl_cons, List.foldl_nil, List.set_cons_zero, List.set_cons_succ, hF_g hv, hF_a hv]) ?_
    refine xRn.callV (al := [.int 35, .int p1]) (st := []) (nx := 28) (by decide +kernel) lk_V_F_begin_24_F_letter_1_2 (hF_at hv) rfl (c_F_letter (d := d + 0) hv L2 L2 f4 35 p1 h) rfl (Nat.le_of_ble_eq_true rfl) rfl rfl ?_ ?_
    · rintro _ _ ⟨L6, B7, f8, e9, rfl, h⟩
      cases e9
      show xRn G l _ _ _ 28 [.ref a, .int p1, .int p2, .int p3] [] (hF hp a g L6 B7 f8)
      refine xRn.blk (pc1 := 32) (ls1 := [.ref a, .int p1, .int p2, .int p3]) (st1 := [.int p2, .int 34, .ref a]) (hp1 := (hF hp a g L6 B7 f8)) (ob := []) [(.aload_n 0, 1, 0, 0, 0, 0), (.bipush 34, 2, 0, 0, 0, 34), (.iload_n 2, 1, 2, 0, 0, 0)] [] (by decide +kernel) rfl xall_nil (xSee_nil _) rfl rfl ?_
      refine xRn.callV (al := [.int 34, .int p2]) (st := []) (nx := 35) (by decide +kernel) lk_V_F_begin_31_F_field_1_2 (hF_at hv) rfl (c_F_field (d := d + 0) hv L6 B7 f8 34 p2 h) rfl (Nat.le_of_ble_eq_true rfl) rfl rfl ?_ ?_
      · rintro _ _ ⟨L10, B11, f12, e9, rfl, h⟩
        cases e9
        show xRn G l _ _ _ 35 [.ref a, .int p1, .int p2, .int p3] [] (hF hp a g L10 B11 f12)
        refine xRn.blk (pc1 := 36) (ls1 := [.ref a, .int p1, .int p2, .int p3]) (st1 := [.int p3]) (hp1 := (hF hp a g L10 B11 f12)) (ob := []) [(.iload_n 3, 1, 3, 0, 0, 0)] [] (by decide +kernel) rfl xall_nil (xSee_nil _) rfl rfl ?_
        refine xRn.if_eq (tgt := 47) (nx := 39) (off := 11) (by decide +kernel) (by decide) rfl (fun c13 => ?_) (fun c13 => ?_)
        · have h := h.1 c13
          exact xRn.vret (by decide +kernel) rfl ⟨_, _, _, rfl, rfl, h⟩
        · have h := h.2 c13
          refine xRn.blk (pc1 := 44) (ls1 := [.ref a, .int p1, .int p2, .int p3]) (st1 := [.int 89, .int 43, .ref a]) (hp1 := (hF hp a g L10 B11 f12)) (ob := []) [(.aload_n 0, 1, 0, 0, 0, 0), (.bipush 43, 2, 0, 0, 0, 43), (.bipush 89, 2, 0, 0, 0, 89)] [] (by decide +kernel) rfl xall_nil (xSee_nil _) rfl rfl ?_
          refine xRn.callV (al := [.int 43, .int 89]) (st := []) (nx := 47) (by decide +kernel) lk_V_F_begin_24_F_letter_1_2 (hF_at hv) rfl (c_F_letter (d := d + 0) hv L10 B11 f12 43 89 h) rfl (Nat.le_of_ble_eq_true rfl) rfl rfl ?_ ?_
          · rintro _ _ ⟨L15, B16, f17, e9, rfl, h⟩
            cases e9
            show xRn G l _ _ _ 47 [.ref a, .int p1, .int p2, .int p3] [] (hF hp a g L15 B16 f17)
            exact xRn.vret (by decide +kernel) rfl ⟨_, _, _, rfl, rfl, h⟩
          · rintro _ _ ⟨_, _, _, e9, _⟩
            cases e9
      · rintro _ _ ⟨_, _, _, e9, _⟩
        cases e9
    · rintro _ _ ⟨_, _, _, e9, _⟩
      cases e9
  · rintro _ _ ⟨_, _, _, e9, _⟩
    cases e9
/-! F_end -/
def w_F_end_40   (K : Int32 → Int32 → (Nat → Int32) → Prop) : Nat → Int32 → Int32 → (Nat → Int32) → Int32 → Int32 → Int32 → Prop
  | 0, _, _, _, _, _, _ => False
  | n + 1, L, B, f, v1, v2, v3 => ((v3 < B → (w_F_field B B f 9 v1 (fun L3 B4 f5 => (w_F_sum (L3 + v1) B4 f5 (L3 + v1) (fun x6 L7 B8 f9 => (w_F_digits L7 B8 f9 10 (fun L11 B12 f13 => (w_F_put L11 B12 f13 61 (fun L15 B16 f17 => (w_F_put L15 B16 f17 (48 + (x6 / 100)) (fun L19 B20 f21 => (w_F_put L19 B20 f21 (48 + ((x6 / 10) - (x6 / 10) / 10 * 10)) (fun L23 B24 f25 => (w_F_put L23 B24 f25 (48 + (x6 - x6 / 10 * 10)) (fun L27 B28 f29 => (w_F_put L27 B28 f29 1 (fun L31 B32 f33 => (K L31 B32 f33)))))))))))))))))) ∧ (¬ v3 < B → (vp_in v3 120) ∧ (vp_in (v3 + v2) 120) ∧ (w_F_end_40 K n L B (upd f (v3 + v2).toNatClampNeg (vp_nar .byte (f v3.toNatClampNeg))) v1 v2 (v3 + (-1)))))
set_option maxRecDepth 100000 in
theorem t_F_end_40 {G : XG} {l : Launch} {d : Nat} {hp : List AE} {a g : Nat} (hv : xFv hp a g) {K : Int32 → Int32 → (Nat → Int32) → Prop} : ∀ (n : Nat) (L : Int32) (B : Int32) (f : Nat → Int32) (v1 : Int32) (v2 : Int32) (v3 : Int32), w_F_end_40 K n L B f v1 v2 v3 → xRn G l (d + 3) xm_F_end (pFV hp a g K) 40 [.ref a, .int v1, .int v2, .int v3] [] (hF hp a g L B f) := by
  intro n
  induction n with
  | zero => intro L B f v1 v2 v3 h; exact h.elim
  | succ n ih =>
    intro L B f v1 v2 v3 h
    refine xRn.blk (pc1 := 45) (ls1 := [.ref a, .int v1, .int v2, .int v3]) (st1 := [.int B, .int v3]) (hp1 := (hF hp a g L B f)) (ob := [(a : Nat) = a]) [(.iload_n 3, 1, 3, 0, 0, 0), (.aload_n 0, 1, 0, 0, 0, 0), (.getfield 28, 3, 2, 1, 0, 0)] [(a, xO 1 [.ref g, .int L, .int B]), (g, xI 1 120 f)] (by decide +kernel) rfl (xall_cons rfl xall_nil) (hF_see hv) rfl rfl ?_
    refine xRn.ic_lt (tgt := 68) (nx := 48) (off := 23) (by decide +kernel) (by decide) rfl (fun c1 => ?_) (fun c1 => ?_)
    · have h := h.1 c1
      refine xRn.blk (pc1 := 80) (ls1 := [.ref a, .int v1, .int v2, .int v3]) (st1 := [.int v1, .int 9, .ref a]) (hp1 := (hF hp a g B B f)) (ob := [(a : Nat) = a, (a : Nat) = a]) [(.aload_n 0, 1, 0, 0, 0, 0), (.aload_n 0, 1, 0, 0, 0, 0), (.getfield 28, 3, 2, 1, 0, 0), (.putfield 13, 3, 1, 1, 0, 0), (.aload_n 0, 1, 0, 0, 0, 0), (.bipush 9, 2, 0, 0, 0, 9), (.iload_n 1, 1, 1, 0, 0, 0)] [(a, xO 1 [.ref g, .int L, .int B]), (g, xI 1 120 f)] (by decide +kernel) rfl (xall_cons rfl (xall_cons rfl xall_nil)) (hF_see hv) rfl (by simp only [xputs, List.nil_append, List.cons_append, List.append_nil, List.foldl_cons, List.foldl_nil, List.set_cons_zero, List.set_cons_succ, hF_g hv, hF_a hv]) ?_
      refine xRn.callV (al := [.int 9, .int v1]) (st := []) (nx := 83) (by decide +kernel) lk_V_F_end_31_F_field_1_2 (hF_at hv) rfl (c_F_field (d := d + 0) hv B B f 9 v1 h) rfl (Nat.le_of_ble_eq_true rfl) rfl rfl ?_ ?_
      · rintro _ _ ⟨L3, B4, f5, e9, rfl, h⟩
        cases e9
        show xRn G l _ _ _ 83 [.ref a, .int v1, .int v2, .int v3] [] (hF hp a g L3 B4 f5)
        refine xRn.blk (pc1 := 98) (ls1 := [.ref a, .int v1, .int v2, .int v3]) (st1 := [.int (L3 + v1), .ref a]) (hp1 := (hF hp a g (L3 + v1) B4 f5)) (ob := [(a : Nat) = a, (a : Nat) = a, (a : Nat) = a]) [(.aload_n 0, 1, 0, 0, 0, 0), (.dup, 1, 0, 0, 0, 0), (.getfield 13, 3, 1, 1, 0, 0), (.iload_n 1, 1, 1, 0, 0, 0), (.iadd, 1, 0, 0, 0, 0), (.putfield 13, 3, 1, 1, 0, 0), (.aload_n 0, 1, 0, 0, 0, 0), (.aload_n 0, 1, 0, 0, 0, 0), (.getfield 13, 3, 1, 1, 0, 0)] [(a, xO 1 [.ref g, .int L3, .int B4]), (g, xI 1 120 f5)] (by decide +kernel) rfl (xall_cons rfl (xall_cons rfl (xall_cons rfl xall_nil))) (hF_see hv) rfl (by simp only [xputs, List.nil_append, List.cons_append, List.append_nil, List.foldl_cons, List.foldl_nil, List.set_cons_zero, List.set_cons_succ, hF_g hv, hF_a hv]) ?_
        refine xRn.callV (al := [.int (L3 + v1)]) (st := []) (nx := 101) (by decide +kernel) lk_V_F_end_35_F_sum_1_1 (hF_at hv) rfl (c_F_sum (d := d + 2) hv (L3 + v1) B4 f5 (L3 + v1) h) rfl (Nat.le_of_ble_eq_true rfl) rfl rfl ?_ ?_
        · rintro _ _ ⟨x6, L7, B8, f9, e9, rfl, h⟩
          cases e9
          show xRn G l _ _ _ 101 [.ref a, .int v1, .int v2, .int v3] [.int x6] (hF hp a g L7 B8 f9)
          refine xRn.blk (pc1 := 105) (ls1 := [.ref a, .int v1, .int v2, .int x6]) (st1 := [.int 10, .ref a]) (hp1 := (hF hp a g L7 B8 f9)) (ob := []) [(.istore_n 3, 1, 3, 0, 0, 0), (.aload_n 0, 1, 0, 0, 0, 0), (.bipush 10, 2, 0, 0, 0, 10)] [] (by decide +kernel) rfl xall_nil (xSee_nil _) rfl rfl ?_
          refine xRn.callV (al := [.int 10]) (st := []) (nx := 108) (by decide +kernel) lk_V_F_end_21_F_digits_1_1 (hF_at hv) rfl (c_F_digits (d := d + 1) hv L7 B8 f9 10 h) rfl (Nat.le_of_ble_eq_true rfl) rfl rfl ?_ ?_
          · rintro _ _ ⟨L11, B12, f13, e9, rfl, h⟩
            cases e9
            show xRn G l _ _ _ 108 [.ref a, .int v1, .int v2, .int x6] [] (hF hp a g L11 B12 f13)
            refine xRn.blk (pc1 := 111) (ls1 := [.ref a, .int v1, .int v2, .int x6]) (st1 := [.int 61, .ref a]) (hp1 := (hF hp a g L11 B12 f13)) (ob := []) [(.aload_n 0, 1, 0, 0, 0, 0), (.bipush 61, 2, 0, 0, 0, 61)] [] (by decide +kernel) rfl xall_nil (xSee_nil _) rfl rfl ?_
            refine xRn.callV (al := [.int 61]) (st := []) (nx := 114) (by decide +kernel) lk_V_F_end_17_F_put_1_1 (hF_at hv) rfl (c_F_put (d := d + 2) hv L11 B12 f13 61 h) rfl (Nat.le_of_ble_eq_true rfl) rfl rfl ?_ ?_
            · rintro _ _ ⟨L15, B16, f17, e9, rfl, h⟩
              cases e9
              show xRn G l _ _ _ 114 [.ref a, .int v1, .int v2, .int x6] [] (hF hp a g L15 B16 f17)
              refine xRn.blk (pc1 := 122) (ls1 := [.ref a, .int v1, .int v2, .int x6]) (st1 := [.int (48 + (x6 / 100)), .ref a]) (hp1 := (hF hp a g L15 B16 f17)) (ob := [¬ (100 : Int32) = 0]) [(.aload_n 0, 1, 0, 0, 0, 0), (.bipush 48, 2, 0, 0, 0, 48), (.iload_n 3, 1, 3, 0, 0, 0), (.bipush 100, 2, 0, 0, 0, 100), (.idiv, 1, 0, 0, 0, 0), (.iadd, 1, 0, 0, 0, 0)] [] (by decide +kernel) rfl (xall_cons (by decide) xall_nil) (xSee_nil _) rfl rfl ?_
              refine xRn.callV (al := [.int (48 + (x6 / 100))]) (st := []) (nx := 125) (by decide +kernel) lk_V_F_end_17_F_put_1_1 (hF_at hv) rfl (c_F_put (d := d + 2) hv L15 B16 f17 (48 + (x6 / 100)) h) rfl (Nat.le_of_ble_eq_true rfl) rfl rfl ?_ ?_
              · rintro _ _ ⟨L19, B20, f21, e9, rfl, h⟩
                cases e9
                show xRn G l _ _ _ 125 [.ref a, .int v1, .int v2, .int x6] [] (hF hp a g L19 B20 f21)
                refine xRn.blk (pc1 := 136) (ls1 := [.ref a, .int v1, .int v2, .int x6]) (st1 := [.int (48 + ((x6 / 10) - (x6 / 10) / 10 * 10)), .ref a]) (hp1 := (hF hp a g L19 B20 f21)) (ob := [¬ (10 : Int32) = 0, ¬ (10 : Int32) = 0]) [(.aload_n 0, 1, 0, 0, 0, 0), (.bipush 48, 2, 0, 0, 0, 48), (.iload_n 3, 1, 3, 0, 0, 0), (.bipush 10, 2, 0, 0, 0, 10), (.idiv, 1, 0, 0, 0, 0), (.bipush 10, 2, 0, 0, 0, 10), (.irem, 1, 0, 0, 0, 0), (.iadd, 1, 0, 0, 0, 0)] [] (by decide +kernel) rfl (xall_cons (by decide) (xall_cons (by decide) xall_nil)) (xSee_nil _) rfl rfl ?_
                refine xRn.callV (al := [.int (48 + ((x6 / 10) - (x6 / 10) / 10 * 10))]) (st := []) (nx := 139) (by decide +kernel) lk_V_F_end_17_F_put_1_1 (hF_at hv) rfl (c_F_put (d := d + 2) hv L19 B20 f21 (48 + ((x6 / 10) - (x6 / 10) / 10 * 10)) h) rfl (Nat.le_of_ble_eq_true rfl) rfl rfl ?_ ?_
                · rintro _ _ ⟨L23, B24, f25, e9, rfl, h⟩
                  cases e9
                  show xRn G l _ _ _ 139 [.ref a, .int v1, .int v2, .int x6] [] (hF hp a g L23 B24 f25)
                  refine xRn.blk (pc1 := 147) (ls1 := [.ref a, .int v1, .int v2, .int x6]) (st1 := [.int (48 + (x6 - x6 / 10 * 10)), .ref a]) (hp1 := (hF hp a g L23 B24 f25)) (ob := [¬ (10 : Int32) = 0]) [(.aload_n 0, 1, 0, 0, 0, 0), (.bipush 48, 2, 0, 0, 0, 48), (.iload_n 3, 1, 3, 0, 0, 0), (.bipush 10, 2, 0, 0, 0, 10), (.irem, 1, 0, 0, 0, 0), (.iadd, 1, 0, 0, 0, 0)] [] (by decide +kernel) rfl (xall_cons (by decide) xall_nil) (xSee_nil _) rfl rfl ?_
                  refine xRn.callV (al := [.int (48 + (x6 - x6 / 10 * 10))]) (st := []) (nx := 150) (by decide +kernel) lk_V_F_end_17_F_put_1_1 (hF_at hv) rfl (c_F_put (d := d + 2) hv L23 B24 f25 (48 + (x6 - x6 / 10 * 10)) h) rfl (Nat.le_of_ble_eq_true rfl) rfl rfl ?_ ?_
                  · rintro _ _ ⟨L27, B28, f29, e9, rfl, h⟩
                    cases e9
                    show xRn G l _ _ _ 150 [.ref a, .int v1, .int v2, .int x6] [] (hF hp a g L27 B28 f29)
                    refine xRn.blk (pc1 := 152) (ls1 := [.ref a, .int v1, .int v2, .int x6]) (st1 := [.int 1, .ref a]) (hp1 := (hF hp a g L27 B28 f29)) (ob := []) [(.aload_n 0, 1, 0, 0, 0, 0), (.iconst 1, 1, 0, 0, 0, 1)] [] (by decide +kernel) rfl xall_nil (xSee_nil _) rfl rfl ?_
                    refine xRn.callV (al := [.int 1]) (st := []) (nx := 155) (by decide +kernel) lk_V_F_end_17_F_put_1_1 (hF_at hv) rfl (c_F_put (d := d + 2) hv L27 B28 f29 1 h) rfl (Nat.le_of_ble_eq_true rfl) rfl rfl ?_ ?_
                    · rintro _ _ ⟨L31, B32, f33, e9, rfl, h⟩
                      cases e9
                      show xRn G l _ _ _ 155 [.ref a, .int v1, .int v2, .int x6] [] (hF hp a g L31 B32 f33)
                      exact xRn.vret (by decide +kernel) rfl ⟨_, _, _, rfl, rfl, h⟩
                    · rintro _ _ ⟨_, _, _, e9, _⟩
                      cases e9
                  · rintro _ _ ⟨_, _, _, e9, _⟩
                    cases e9
                · rintro _ _ ⟨_, _, _, e9, _⟩
                  cases e9
              · rintro _ _ ⟨_, _, _, e9, _⟩
                cases e9
            · rintro _ _ ⟨_, _, _, e9, _⟩
              cases e9
          · rintro _ _ ⟨_, _, _, e9, _⟩
            cases e9
        · rintro _ _ ⟨_, _, _, _, e9, _⟩
          cases e9
      · rintro _ _ ⟨_, _, _, e9, _⟩
        cases e9
    · have h := h.2 c1
      obtain ⟨o34, o35, h⟩ := h
      refine xRn.blk (pc1 := 65) (ls1 := [.ref a, .int v1, .int v2, .int (v3 + (-1))]) (st1 := []) (hp1 := (hF hp a g L B (upd f (v3 + v2).toNatClampNeg (vp_nar .byte (f v3.toNatClampNeg))))) (ob := [(a : Nat) = a, (a : Nat) = a, (g : Nat) = g, vp_in v3 120, (g : Nat) = g, vp_in (v3 + v2) 120]) [(.aload_n 0, 1, 0, 0, 0, 0), (.getfield 7, 3, 0, 1, 0, 0), (.iload_n 3, 1, 3, 0, 0, 0), (.iload_n 2, 1, 2, 0, 0, 0), (.iadd, 1, 0, 0, 0, 0), (.aload_n 0, 1, 0, 0, 0, 0), (.getfield 7, 3, 0, 1, 0, 0), (.iload_n 3, 1, 3, 0, 0, 0), (.baload, 1, 0, 0, 1, 0), (.bastore, 1, 0, 0, 1, 0), (.iinc 3 (-1), 3, 3, 0, 0, (-1))] [(a, xO 1 [.ref g, .int L, .int B]), (g, xI 1 120 f)] (by decide +kernel) rfl (xall_cons rfl (xall_cons rfl (xall_cons rfl (xall_cons o34 (xall_cons rfl (xall_cons o35 xall_nil)))))) (hF_see hv) rfl (by simp only [xputs, List.nil_append, List.cons_append, List.append_nil, List.foldl_cons, List.foldl_nil, List.set_cons_zero, List.set_cons_succ, hF_g hv, hF_a hv]) ?_
      refine xRn.goto (tgt := 40) (off := (-25)) (by decide +kernel) (by decide) ?_
      refine xRn.forget (xle_eq (xle_eq (xle_eq (xle_eq xle_nil)))) ?_
      exact ih L B (upd f (v3 + v2).toNatClampNeg (vp_nar .byte (f v3.toNatClampNeg))) v1 v2 (v3 + (-1)) h
def w_F_end_33   (K : Int32 → Int32 → (Nat → Int32) → Prop) (L : Int32) (B : Int32) (f : Nat → Int32) (v1 : Int32) (v2 : Int32) : Prop :=
  (∃ j, w_F_end_40 K j L B f v1 v2 (L - 1))
set_option maxRecDepth 100000 in
theorem t_F_end_33 {G : XG} {l : Launch} {d : Nat} {hp : List AE} {a g : Nat} (hv : xFv hp a g) {K : Int32 → Int32 → (Nat → Int32) → Prop} (L : Int32) (B : Int32) (f : Nat → Int32) (v1 : Int32) (v2 : Int32) (h : w_F_end_33 K L B f v1 v2) : xRn G l (d + 3) xm_F_end (pFV hp a g K) 33 [.ref a, .int v1, .int v2, .null] [] (hF hp a g L B f) := by
  refine xRn.blk (pc1 := 40) (ls1 := [.ref a, .int v1, .int v2, .int (L - 1)]) (st1 := []) (hp1 := (hF hp a g L B f)) (ob := [(a : Nat) = a]) [(.aload_n 0, 1, 0, 0, 0, 0), (.getfield 13, 3, 1, 1, 0, 0), (.iconst 1, 1, 0, 0, 0, 1), (.isub, 1, 0, 0, 0, 0), (.istore_n 3, 1, 3, 0, 0, 0)] [(a, xO 1 [.ref g, .int L, .int B]), (g, xI 1 120 f)] (by decide +kernel) rfl (xall_cons rfl xall_nil) (hF_see hv) rfl rfl ?_
  refine xRn.forget (xle_eq (xle_eq (xle_eq (xle_eq xle_nil)))) ?_
  obtain ⟨n36, h⟩ := h
  exact t_F_end_40 hv  n36 L B f v1 v2 (L - 1) h
def w_F_end  (L : Int32) (B : Int32) (f : Nat → Int32) (K : Int32 → Int32 → (Nat → Int32) → Prop) : Prop :=
  (((L - B) ≤ (99 : Int32) → (((L - B) ≤ (9 : Int32) → (w_F_end_33 K L B f (L - B) 4)) ∧ (¬ (L - B) ≤ (9 : Int32) → (w_F_end_33 K L B f (L - B) 5)))) ∧ (¬ (L - B) ≤ (99 : Int32) → (w_F_end_33 K L B f (L - B) 6)))
set_option maxRecDepth 100000 in
theorem c_F_end {G : XG} {l : Launch} {d : Nat} {hp : List AE} {a g : Nat} (hv : xFv hp a g) (L : Int32) (B : Int32) (f : Nat → Int32) {K : Int32 → Int32 → (Nat → Int32) → Prop} (h : w_F_end  L B f K) : xCt G l (d + 3) xm_F_end [.ref a] (hF hp a g L B f) (pFV hp a g K) := by
  refine xCt.intro (by decide) (by decide) (List.forall_mem_cons.mpr ⟨rfl, (fun _ h => by cases h)⟩) (Nat.le_of_ble_eq_true rfl) rfl ?_
  show xRn G l _ xm_F_end _ 0 [.ref a, .null, .null, .null] [] (hF hp a g L B f)
  refine xRn.blk (pc1 := 13) (ls1 := [.ref a, .int (L - B), .null, .null]) (st1 := [.int 99, .int (L - B)]) (hp1 := (hF hp a g L B f)) (ob := [(a : Nat) = a, (a : Nat) = a]) [(.aload_n 0, 1, 0, 0, 0, 0), (.getfield 13, 3, 1, 1, 0, 0), (.aload_n 0, 1, 0, 0, 0, 0), (.getfield 28, 3, 2, 1, 0, 0), (.isub, 1, 0, 0, 0, 0), (.istore_n 1, 1, 1, 0, 0, 0), (.iload_n 1, 1, 1, 0, 0, 0), (.bipush 99, 2, 0, 0, 0, 99)] [(a, xO 1 [.ref g, .int L, .int B]), (g, xI 1 120 f)] (by decide +kernel) rfl (xall_cons rfl (xall_cons rfl xall_nil)) (hF_see hv) rfl rfl ?_
  refine xRn.ic_le (tgt := 21) (nx := 16) (off := 8) (by decide +kernel) (by decide) rfl (fun c37 => ?_) (fun c37 => ?_)
  · have h := h.1 c37
    refine xRn.blk (pc1 := 24) (ls1 := [.ref a, .int (L - B), .null, .null]) (st1 := [.int 9, .int (L - B)]) (hp1 := (hF hp a g L B f)) (ob := []) [(.iload_n 1, 1, 1, 0, 0, 0), (.bipush 9, 2, 0, 0, 0, 9)] [] (by decide +kernel) rfl xall_nil (xSee_nil _) rfl rfl ?_
    refine xRn.ic_le (tgt := 31) (nx := 27) (off := 7) (by decide +kernel) (by decide) rfl (fun c38 => ?_) (fun c38 => ?_)
    · have h := h.1 c38
      refine xRn.blk (pc1 := 33) (ls1 := [.ref a, .int (L - B), .int 4, .null]) (st1 := []) (hp1 := (hF hp a g L B f)) (ob := []) [(.iconst 4, 1, 0, 0, 0, 4), (.istore_n 2, 1, 2, 0, 0, 0)] [] (by decide +kernel) rfl xall_nil (xSee_nil _) rfl rfl ?_
      refine xRn.forget (xle_eq (xle_eq (xle_eq (xle_eq xle_nil)))) ?_
      exact t_F_end_33 hv  L B f (L - B) 4 h
    · have h := h.2 c38
      refine xRn.blk (pc1 := 28) (ls1 := [.ref a, .int (L - B), .null, .null]) (st1 := [.int 5]) (hp1 := (hF hp a g L B f)) (ob := []) [(.iconst 5, 1, 0, 0, 0, 5)] [] (by decide +kernel) rfl xall_nil (xSee_nil _) rfl rfl ?_
      refine xRn.goto (tgt := 32) (off := 4) (by decide +kernel) (by decide) ?_
      refine xRn.blk (pc1 := 33) (ls1 := [.ref a, .int (L - B), .int 5, .null]) (st1 := []) (hp1 := (hF hp a g L B f)) (ob := []) [(.istore_n 2, 1, 2, 0, 0, 0)] [] (by decide +kernel) rfl xall_nil (xSee_nil _) rfl rfl ?_
      refine xRn.forget (xle_eq (xle_eq (xle_eq (xle_eq xle_nil)))) ?_
      exact t_F_end_33 hv  L B f (L - B) 5 h
  · have h := h.2 c37
    refine xRn.blk (pc1 := 18) (ls1 := [.ref a, .int (L - B), .null, .null]) (st1 := [.int 6]) (hp1 := (hF hp a g L B f)) (ob := []) [(.bipush 6, 2, 0, 0, 0, 6)] [] (by decide +kernel) rfl xall_nil (xSee_nil _) rfl rfl ?_
    refine xRn.goto (tgt := 32) (off := 14) (by decide +kernel) (by decide) ?_
    refine xRn.blk (pc1 := 33) (ls1 := [.ref a, .int (L - B), .int 6, .null]) (st1 := []) (hp1 := (hF hp a g L B f)) (ob := []) [(.istore_n 2, 1, 2, 0, 0, 0)] [] (by decide +kernel) rfl xall_nil (xSee_nil _) rfl rfl ?_
    refine xRn.forget (xle_eq (xle_eq (xle_eq (xle_eq xle_nil)))) ?_
    exact t_F_end_33 hv  L B f (L - B) 6 h
