/-! ===== cells that come and go; constructors; the constants ===== -/
theorem rset_rset (r : List AE) (a : Nat) (e1 e2 : AE) : rset (rset r a e1) a e2 = rset r a e2 := List.set_set ..
theorem rl_rset {r : List AE} {a : Nat} {e0 : AE} (h : rl r a = some e0) (e : AE) : rl (rset r a e) a = some e := by
  obtain ⟨h1, h2⟩ := rl_ge h
  unfold rl rset
  rw [if_neg (by omega), List.getElem?_set_self h2]
theorem rl_rset2 {r : List AE} {a : Nat} {e0 e1 : AE} (h : rl (rset r a e1) a = some e0) (e : AE) : rl (rset r a e) a = some e := by
  obtain ⟨h1, h2⟩ := rl_ge h
  unfold rset at h2
  rw [List.length_set] at h2
  unfold rl rset
  rw [if_neg (by omega), List.getElem?_set_self h2]
theorem rl_new (r : List AE) (e : AE) : rl (r ++ [e]) (40 + r.length) = some e := by
  unfold rl
  rw [if_neg (by omega), show 40 + r.length - 40 = r.length by omega, List.getElem?_append_right (Nat.le_refl _), Nat.sub_self]
  rfl
theorem bud_1 {S : XS} {r : List AE} (h : bud r) : (hL S r).length + 1 ≤ xCB := by have := bud_ok (S := S) h; omega
theorem bud_2 {S : XS} {r : List AE} {ci : Nat} (h : bud r) (hc : xS ci ≤ 1000) : hsz (hL S r) + xS ci ≤ xSB := by have := bud_ok (S := S) h; omega
theorem bud_F {S : XS} {r : List AE} {fs : List Value} (h : bud r) : (hL S (r ++ [xO 1 fs])).length + 1 ≤ xCB ∧ hsz (hL S (r ++ [xO 1 fs])) + 120 ≤ xSB := by
  rw [hL_len, hL_hsz, hsz_app, List.length_append]
  obtain ⟨h1, h2⟩ := h
  exact ⟨by show _ + 1 + 24 + 1 ≤ 601024; omega, by show hsz r + (3 + 0) + _ + 120 ≤ 7293034; omega⟩
theorem xRn.heq {G : XG} {l : Launch} {d : Nat} {X : XM} {Q : XOut → List AE → Prop} {pc : Nat} {ls st : List Value} {hp hp1 : List AE} (h : hp = hp1) (k : xRn G l d X Q pc ls st hp1) : xRn G l d X Q pc ls st hp := h ▸ k
theorem xCt_eq {G : XG} {l : Launch} {d : Nat} {X : XM} {al : List Value} {Q : XOut → List AE → Prop} {hp hp1 : List AE} (h : hp = hp1) (k : xCt G l d X al hp Q) : xCt G l d X al hp1 Q := h ▸ k
theorem xFv_17 (S : XS) (r : List AE) : xFv (hL S r) 17 18 := ⟨by omega, by rw [hL_len]; omega, by omega, by rw [hL_len]; omega, by omega⟩
/-- a frame behind the fixed cells -/
def rF (r : List AE) (a g : Nat) (L B : Int32) (f : Nat → Int32) : List AE := rset (rset r g (xI 1 120 f)) a (xO 1 [.ref g, .int L, .int B])
def Rv (r : List AE) (a g : Nat) : Prop := 40 ≤ a ∧ a - 40 < r.length ∧ 40 ≤ g ∧ g - 40 < r.length ∧ a ≠ g
theorem Rv_of {r : List AE} {a g : Nat} {fs : List Value} {f : Nat → Int32} (h1 : rl r a = some (xO 1 fs)) (h2 : rl r g = some (xI 1 120 f)) : Rv r a g := by
  refine ⟨(rl_ge h1).1, (rl_ge h1).2, (rl_ge h2).1, (rl_ge h2).2, ?_⟩
  rintro rfl
  rw [h1] at h2
  cases h2
theorem rset_same {r : List AE} {a : Nat} {e : AE} (h : rl r a = some e) : rset r a e = r := by
  obtain ⟨h1, h2⟩ := rl_ge h
  unfold rl at h
  rw [if_neg (by omega)] at h
  unfold rset
  apply List.ext_getElem?
  intro i
  by_cases hi : a - 40 = i
  · subst hi
    rw [List.getElem?_set_self h2, h]
  · rw [List.getElem?_set_ne hi]
theorem rF_self {r : List AE} {a g : Nat} {L B : Int32} {f : Nat → Int32} (h1 : rl r a = some (xO 1 [.ref g, .int L, .int B])) (h2 : rl r g = some (xI 1 120 f)) : rF r a g L B f = r := by
  unfold rF
  rw [rset_same h2, rset_same h1]
theorem hF_rF {S : XS} {r : List AE} {a g : Nat} {L B : Int32} {f : Nat → Int32} (hv : Rv r a g) : hF (hL S r) a g L B f = hL S (rF r a g L B f) := by
  unfold hF rF
  rw [hL_put _ hv.2.2.1, hL_put _ hv.1]
theorem xFv_of {S : XS} {r : List AE} {a g : Nat} (hv : Rv r a g) : xFv (hL S r) a g := by
  obtain ⟨h1, h2, h3, h4, h5⟩ := hv
  exact ⟨by omega, by rw [hL_len]; omega, by omega, by rw [hL_len]; omega, h5⟩
theorem rl_rF {r : List AE} {a g : Nat} {L B : Int32} {f : Nat → Int32} (hv : Rv r a g) : rl (rF r a g L B f) a = some (xO 1 [.ref g, .int L, .int B]) := by
  obtain ⟨h1, h2, h3, h4, h5⟩ := hv
  unfold rl rF rset
  rw [if_neg (by omega), List.getElem?_set_self (by rw [List.length_set]; exact h2)]
theorem hL_newF {S : XS} {r : List AE} : xput (hL S (r ++ [xO 1 [.ref 0, .int 0, .int 0]]) ++ [xI 1 120 (fun _ => 0)]) (40 + r.length) (xO 1 [.ref (16 + (hL S (r ++ [xO 1 [.ref 0, .int 0, .int 0]])).length), .int 0, .int 0]) = hL S (r ++ [xO 1 [.ref (41 + r.length), .int 0, .int 0], xI 1 120 (fun _ => 0)]) := by
  rw [hL_app, hL_put _ (by omega), hL_len, List.length_append, List.append_assoc]
  unfold rset
  rw [show 40 + r.length - 40 = r.length by omega, List.set_append_right _ _ (Nat.le_refl _), Nat.sub_self, show 16 + (r.length + [xO 1 [.ref 0, .int 0, .int 0]].length + 24) = 41 + r.length by show 16 + (r.length + 1 + 24) = _; omega]
  rfl
theorem rl_newF (r : List AE) : rl (r ++ [xO 1 [.ref (41 + r.length), .int 0, .int 0], xI 1 120 (fun _ => 0)]) (40 + r.length) = some (xO 1 [.ref (41 + r.length), .int 0, .int 0]) := by
  unfold rl
  rw [if_neg (by omega), show 40 + r.length - 40 = r.length by omega, List.getElem?_append_right (Nat.le_refl _), Nat.sub_self]
  rfl
theorem ob_1 : Cond.instanceMethod objectInit ∈ xW := xw_in (by decide +kernel) rfl
theorem ob_2 : Cond.code objectInit ⟨#[0xb1]⟩ 1 none ∈ xW := xw_in (by decide +kernel) rfl
theorem c_R_init {G : XG} {l : Launch} {d : Nat} {n : Nat} (hn : n ≠ 0) (hp : List AE) : xCt G l (d + 1) xm_R_init [.ref n] hp (fun u hp' => u = .inl none ∧ hp' = hp) := by
  refine xCt.intro (by decide) (by decide) (List.forall_mem_cons.mpr ⟨rfl, (fun _ h => by cases h)⟩) (Nat.le_of_ble_eq_true rfl) rfl ?_
  show xRn G l _ xm_R_init _ 0 [.ref n] [] hp
  refine xRn.blk (pc1 := 1) (ls1 := [.ref n]) (st1 := [.ref n]) (hp1 := hp) (ob := []) [(.aload_n 0, 1, 0, 0, 0, 0)] [] (by decide +kernel) rfl xall_nil (xSee_nil _) rfl rfl ?_
  refine xRn.objInit (idx := 1) (nx := 4) (by decide +kernel) (xw_in (by decide +kernel) rfl) ob_1 ob_2 rfl (by omega) hn rfl ?_
  exact xRn.vret (by decide +kernel) rfl ⟨rfl, rfl⟩
theorem c_O_init {G : XG} {l : Launch} {d : Nat} {n : Nat} (hn : n ≠ 0) (hp : List AE) : xCt G l (d + 1) xm_O_init [.ref n] hp (fun u hp' => u = .inl none ∧ hp' = hp) := by
  refine xCt.intro (by decide) (by decide) (List.forall_mem_cons.mpr ⟨rfl, (fun _ h => by cases h)⟩) (Nat.le_of_ble_eq_true rfl) rfl ?_
  show xRn G l _ xm_O_init _ 0 [.ref n] [] hp
  refine xRn.blk (pc1 := 1) (ls1 := [.ref n]) (st1 := [.ref n]) (hp1 := hp) (ob := []) [(.aload_n 0, 1, 0, 0, 0, 0)] [] (by decide +kernel) rfl xall_nil (xSee_nil _) rfl rfl ?_
  refine xRn.objInit (idx := 1) (nx := 4) (by decide +kernel) (xw_in (by decide +kernel) rfl) ob_1 ob_2 rfl (by omega) hn rfl ?_
  exact xRn.vret (by decide +kernel) rfl ⟨rfl, rfl⟩
theorem c_Ms_init {G : XG} {l : Launch} {d : Nat} {n : Nat} (hn : n ≠ 0) (hp : List AE) : xCt G l (d + 1) xm_Ms_init [.ref n] hp (fun u hp' => u = .inl none ∧ hp' = hp) := by
  refine xCt.intro (by decide) (by decide) (List.forall_mem_cons.mpr ⟨rfl, (fun _ h => by cases h)⟩) (Nat.le_of_ble_eq_true rfl) rfl ?_
  show xRn G l _ xm_Ms_init _ 0 [.ref n] [] hp
  refine xRn.blk (pc1 := 1) (ls1 := [.ref n]) (st1 := [.ref n]) (hp1 := hp) (ob := []) [(.aload_n 0, 1, 0, 0, 0, 0)] [] (by decide +kernel) rfl xall_nil (xSee_nil _) rfl rfl ?_
  refine xRn.objInit (idx := 1) (nx := 4) (by decide +kernel) (xw_in (by decide +kernel) rfl) ob_1 ob_2 rfl (by omega) hn rfl ?_
  exact xRn.vret (by decide +kernel) rfl ⟨rfl, rfl⟩
theorem c_S_init {G : XG} {l : Launch} {d : Nat} {n : Nat} (hn : n ≠ 0) (hp : List AE) : xCt G l (d + 1) xm_S_init [.ref n] hp (fun u hp' => u = .inl none ∧ hp' = hp) := by
  refine xCt.intro (by decide) (by decide) (List.forall_mem_cons.mpr ⟨rfl, (fun _ h => by cases h)⟩) (Nat.le_of_ble_eq_true rfl) rfl ?_
  show xRn G l _ xm_S_init _ 0 [.ref n] [] hp
  refine xRn.blk (pc1 := 1) (ls1 := [.ref n]) (st1 := [.ref n]) (hp1 := hp) (ob := []) [(.aload_n 0, 1, 0, 0, 0, 0)] [] (by decide +kernel) rfl xall_nil (xSee_nil _) rfl rfl ?_
  refine xRn.objInit (idx := 1) (nx := 4) (by decide +kernel) (xw_in (by decide +kernel) rfl) ob_1 ob_2 rfl (by omega) hn rfl ?_
  exact xRn.vret (by decide +kernel) rfl ⟨rfl, rfl⟩
theorem c_F_init {G : XG} {l : Launch} {d : Nat} (hp : List AE) {n : Nat} (hn : xat hp n = some (xO 1 [.ref 0, .int 0, .int 0])) (hb : hp.length + 1 ≤ xCB ∧ hsz hp + 120 ≤ xSB) : xCt G l (d + 1) xm_F_init [.ref n] hp (fun u hp' => u = .inl none ∧ hp' = xput (hp ++ [xI 1 120 (fun _ => 0)]) n (xO 1 [.ref (16 + hp.length), .int 0, .int 0])) := by
  have hn0 : n ≠ 0 := by
    rintro rfl
    cases hn
  refine xCt.intro (by decide) (by decide) (List.forall_mem_cons.mpr ⟨rfl, (fun _ h => by cases h)⟩) (Nat.le_of_ble_eq_true rfl) rfl ?_
  show xRn G l _ xm_F_init _ 0 [.ref n] [] hp
  refine xRn.blk (pc1 := 1) (ls1 := [.ref n]) (st1 := [.ref n]) (hp1 := hp) (ob := []) [(.aload_n 0, 1, 0, 0, 0, 0)] [] (by decide +kernel) rfl xall_nil (xSee_nil _) rfl rfl ?_
  refine xRn.objInit (idx := 1) (nx := 4) (by decide +kernel) (xw_in (by decide +kernel) rfl) ob_1 ob_2 rfl (by omega) hn0 rfl ?_
  refine xRn.blk (pc1 := 7) (ls1 := [.ref n]) (st1 := [.int 120, .ref n]) (hp1 := hp) (ob := []) [(.aload_n 0, 1, 0, 0, 0, 0), (.bipush 120, 2, 0, 0, 0, 120)] [] (by decide +kernel) rfl xall_nil (xSee_nil _) rfl rfl ?_
  refine xRn.newarr (k := 1) (N := 120) (n := 16 + hp.length) (nx := 9) (at_ := .byte) (hp1 := hp ++ [xI 1 120 (fun _ => 0)]) (by decide +kernel) (by decide) rfl (xw_in (by decide +kernel) rfl) (by decide) (by decide) (by decide) rfl rfl hb.1 hb.2 rfl ?_
  have hn' : xat (hp ++ [xI 1 120 (fun _ => 0)]) n = some (xO 1 [.ref 0, .int 0, .int 0]) := by
    unfold xat at hn ⊢
    split at hn
    · cases hn
    · rename_i h16
      rw [if_neg h16, List.getElem?_append_left (List.getElem?_eq_some_iff.mp hn).1]
      exact hn
  refine xRn.blk (pc1 := 12) (ls1 := [.ref n]) (st1 := []) (hp1 := xput (hp ++ [xI 1 120 (fun _ => 0)]) n (xO 1 [.ref (16 + hp.length), .int 0, .int 0])) (ob := [n = n]) [(.putfield 7, 3, 0, 1, 0, 0)] [(n, xO 1 [.ref 0, .int 0, .int 0])] (by decide +kernel) rfl (xall_cons rfl xall_nil) (xSee_cons hn' (xne_nil _) (xSee_nil _)) rfl rfl ?_
  exact xRn.vret (by decide +kernel) rfl ⟨rfl, rfl⟩
theorem c_ordinal {G : XG} {l : Launch} {d : Nat} (hp : List AE) (n : Nat) (hn : 1 ≤ n ∧ n ≤ 10) : xCt G l d xm_ordinal [.ref n] hp (fun u hp' => u = .inl (some (.int (xcf 4 n))) ∧ hp' = hp) := by
  refine xCt.intro (by decide) (by decide) (List.forall_mem_cons.mpr ⟨rfl, (fun _ h => by cases h)⟩) (Nat.le_of_ble_eq_true rfl) rfl ?_
  show xRn G l _ xm_ordinal _ 0 [.ref n] [] hp
  refine xRn.blk (pc1 := 4) (ls1 := [.ref n]) (st1 := [.int (xcf 4 n)]) (hp1 := hp) (ob := [1 ≤ n ∧ n ≤ 10]) [(.aload_n 0, 1, 0, 0, 0, 0), (.getfield 7, 3, 4, 12, 0, 0)] [] (by decide +kernel) rfl (xall_cons hn xall_nil) (xSee_nil _) rfl rfl ?_
  exact xRn.iret (by decide +kernel) rfl rfl ⟨rfl, rfl⟩
/-! Y_order -/
def w_Y_order_21   (K : Int32 → Prop)  : Prop :=
  (K 1)
set_option maxRecDepth 100000 in
theorem t_Y_order_21 {G : XG} {l : Launch} {d : Nat} (hp : List AE) {K : Int32 → Prop}  (h : w_Y_order_21 K ) : xRn G l (d + 0) xm_Y_order (nI_ hp K) 21 [.null] [] hp := by
  refine xRn.blk (pc1 := 22) (ls1 := [.null]) (st1 := [.int 1]) (hp1 := hp) (ob := []) [(.iconst 1, 1, 0, 0, 0, 1)] [] (by decide +kernel) rfl xall_nil (xSee_nil _) rfl rfl ?_
  refine xRn.goto (tgt := 26) (off := 4) (by decide +kernel) (by decide) ?_
  exact xRn.iret (by decide +kernel) rfl rfl ⟨_, rfl, rfl, h⟩
def w_Y_order  (p0 : Nat) (K : Int32 → Prop) : Prop :=
  (p0 ≤ 10) ∧ ((p0 = 7 → (w_Y_order_21 K)) ∧ (¬ p0 = 7 → (p0 ≤ 10) ∧ ((p0 = 8 → (w_Y_order_21 K)) ∧ (¬ p0 = 8 → (p0 ≤ 10) ∧ ((¬ p0 = 9 → (K 0)) ∧ (p0 = 9 → (w_Y_order_21 K)))))))
set_option maxRecDepth 100000 in
theorem c_Y_order {G : XG} {l : Launch} {d : Nat} (hp : List AE) (p0 : Nat) {K : Int32 → Prop} (h : w_Y_order  p0 K) : xCt G l (d + 0) xm_Y_order [.ref p0] hp (nI_ hp K) := by
  refine xCt.intro (by decide) (by decide) (List.forall_mem_cons.mpr ⟨rfl, (fun _ h => by cases h)⟩) (Nat.le_of_ble_eq_true rfl) rfl ?_
  show xRn G l _ xm_Y_order _ 0 [.ref p0] [] hp
  refine xRn.blk (pc1 := 4) (ls1 := [.ref p0]) (st1 := [.ref 7, .ref p0]) (hp1 := hp) (ob := []) [(.aload_n 0, 1, 0, 0, 0, 0), (.getstatic 22, 3, 6, 0, 0, 0)] [] (by decide +kernel) rfl xall_nil (xSee_nil _) rfl rfl ?_
  obtain ⟨o1, h⟩ := h
  refine xRn.ac_eq (tgt := 21) (nx := 7) (off := 17) (by decide +kernel) (by decide) rfl o1 (by decide) (fun c2 => ?_) (fun c2 => ?_)
  · have h := h.1 c2
    refine xRn.forget (xle_no xle_nil) ?_
    exact t_Y_order_21 hp   h
  · have h := h.2 c2
    refine xRn.blk (pc1 := 11) (ls1 := [.ref p0]) (st1 := [.ref 8, .ref p0]) (hp1 := hp) (ob := []) [(.aload_n 0, 1, 0, 0, 0, 0), (.getstatic 25, 3, 7, 0, 0, 0)] [] (by decide +kernel) rfl xall_nil (xSee_nil _) rfl rfl ?_
    obtain ⟨o3, h⟩ := h
    refine xRn.ac_eq (tgt := 21) (nx := 14) (off := 10) (by decide +kernel) (by decide) rfl o3 (by decide) (fun c4 => ?_) (fun c4 => ?_)
    · have h := h.1 c4
      refine xRn.forget (xle_no xle_nil) ?_
      exact t_Y_order_21 hp   h
    · have h := h.2 c4
      refine xRn.blk (pc1 := 18) (ls1 := [.ref p0]) (st1 := [.ref 9, .ref p0]) (hp1 := hp) (ob := []) [(.aload_n 0, 1, 0, 0, 0, 0), (.getstatic 28, 3, 8, 0, 0, 0)] [] (by decide +kernel) rfl xall_nil (xSee_nil _) rfl rfl ?_
      obtain ⟨o5, h⟩ := h
      refine xRn.ac_ne (tgt := 25) (nx := 21) (off := 7) (by decide +kernel) (by decide) rfl o5 (by decide) (fun c6 => ?_) (fun c6 => ?_)
      · have h := h.1 c6
        refine xRn.blk (pc1 := 26) (ls1 := [.ref p0]) (st1 := [.int 0]) (hp1 := hp) (ob := []) [(.iconst 0, 1, 0, 0, 0, 0)] [] (by decide +kernel) rfl xall_nil (xSee_nil _) rfl rfl ?_
        exact xRn.iret (by decide +kernel) rfl rfl ⟨_, rfl, rfl, h⟩
      · have h := h.2 c6
        refine xRn.forget (xle_no xle_nil) ?_
        exact t_Y_order_21 hp   h
