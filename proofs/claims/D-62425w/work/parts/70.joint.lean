/-! ===== both sides together: what one side does keeps the other ===== -/
def kX (S S' : XS) : Prop := (∀ k, 800 ≤ k → gF S' k = gF S k) ∧ (∀ j, 9 ≤ j → gA S' j = gA S j)
def kY (S S' : XS) : Prop := (∀ k, k < 800 → gF S' k = gF S k) ∧ (∀ j, j < 9 → gA S' j = gA S j) ∧ (∀ k, gR S' k = gR S k) ∧ (∀ j, gB S' j = gB S j) ∧ gO S' = gO S
theorem kX.refl (S : XS) : kX S S := ⟨fun _ _ => rfl, fun _ _ => rfl⟩
theorem kX.trans {S T U : XS} (h : kX S T) (g : kX T U) : kX S U := ⟨fun k hk => (g.1 k hk).trans (h.1 k hk), fun j hj => (g.2 j hj).trans (h.2 j hj)⟩
theorem kY.refl (S : XS) : kY S S := ⟨fun _ _ => rfl, fun _ _ => rfl, fun _ => rfl, fun _ => rfl, rfl⟩
theorem kY.trans {S T U : XS} (h : kY S T) (g : kY T U) : kY S U := ⟨fun k hk => (g.1 k hk).trans (h.1 k hk), fun j hj => (g.2.1 j hj).trans (h.2.1 j hj), fun k => (g.2.2.1 k).trans (h.2.2.1 k), fun j => (g.2.2.2.1 j).trans (h.2.2.2.1 j), g.2.2.2.2.trans h.2.2.2.2⟩
theorem kX_sF {S : XS} {k : Nat} {v : Int32} (hk : k < 800) : kX S (sF S k v) := ⟨fun j hj => by rw [gF_sF, if_neg (by omega)], fun _ _ => rfl⟩
theorem kX_sA {S : XS} {k : Nat} {v : Nat → Int32} (hk : k < 9) : kX S (sA S k v) := ⟨fun _ _ => rfl, fun j hj => by rw [gA_sA, if_neg (by omega)]⟩
theorem kX_sO {S : XS} {v : Nat → Int64} : kX S (sO S v) := ⟨fun _ _ => rfl, fun _ _ => rfl⟩
theorem kY_sF {S : XS} {k : Nat} {v : Int32} (hk : 800 ≤ k) : kY S (sF S k v) := ⟨fun j hj => by rw [gF_sF, if_neg (by omega)], fun _ _ => rfl, fun _ => rfl, fun _ => rfl, rfl⟩
theorem kY_sA {S : XS} {k : Nat} {v : Nat → Int32} (hk : 9 ≤ k) : kY S (sA S k v) := ⟨fun _ _ => rfl, fun j hj => by rw [gA_sA, if_neg (by omega)], fun _ => rfl, fun _ => rfl, rfl⟩
theorem kT.x {S S' : XS} (h : kT S S') : kX S S' := ⟨fun k hk => h.1 k (by simp; omega), fun j hj => h.2.1 j (by omega)⟩
theorem kS.x {S S' : XS} (h : kS S S') : kX S S' := ⟨fun k hk => h.1 k (by simp; omega), fun j hj => h.2.1 j⟩
theorem kM.y {S S' : XS} (h : kM S S') : kY S S' := ⟨fun k hk => h.1 k (by simp; omega), fun j hj => h.2.1 j (by simp; omega), h.2.2.1, h.2.2.2.1, h.2.2.2.2⟩
theorem kH.y {S S' : XS} (h : kH S S') : kY S S' := ⟨fun k hk => h.1 k (by simp; omega), fun j hj => h.2.1 j (by simp; omega), h.2.2.1, h.2.2.2.1, h.2.2.2.2⟩
theorem MS.same {c : Nat → Nat} {S S' : XS} (h : MS c S) (k : ∀ k ∈ [819, 820, 821, 826, 822, 823, 824, 825, 836], gF S' k = gF S k) : MS c S' := by
  unfold MS
  rw [k 819 (by decide), k 820 (by decide), k 821 (by decide), k 826 (by decide), k 822 (by decide), k 823 (by decide), k 824 (by decide), k 825 (by decide), k 836 (by decide)]
  exact h
theorem TS.same {c : Nat → Nat} {S S' : XS} (h : TS c S) (k : ∀ k ∈ [5, 6, 7, 8, 9, 10, 11, 12, 17], gF S' k = gF S k) : TS c S' := by
  unfold TS
  rw [k 5 (by decide), k 6 (by decide), k 7 (by decide), k 8 (by decide), k 9 (by decide), k 10 (by decide), k 11 (by decide), k 12 (by decide), k 17 (by decide)]
  exact h
/-- the model's state stays where its own fields and arrays stay -/
theorem MA.same {A : AS} {S S' : XS} (h : MA A S) (k : ∀ k ∈ [815, 819, 820, 821, 822, 823, 824, 825, 826, 829, 835, 836], gF S' k = gF S k) (g : ∀ j ∈ [13, 14, 15, 16, 17, 18, 19, 20, 21, 22], gA S' j = gA S j) : MA A S' :=
  ⟨h.1.same (fun x hx => k x (by revert x; decide)), h.2.1.same (k _ (by decide)) (g _ (by decide)) (g _ (by decide)), h.2.2.1.same (g _ (by decide)) (g _ (by decide)), h.2.2.2.1.same (k _ (by decide)) (g _ (by decide)) (g _ (by decide)) (g _ (by decide)) (g _ (by decide)) (g _ (by decide)), h.2.2.2.2.same (k _ (by decide)) (g _ (by decide))⟩
theorem MA.x {A : AS} {S S' : XS} (h : MA A S) (k : kX S S') : MA A S' := h.same (fun x hx => k.1 x (by revert x; decide)) (fun x hx => k.2 x (by revert x; decide))
theorem TA.same {A : AS} {q : Nat} {r : List AE} {S S' : XS} (h : TA A q S r) (k : ∀ k ∈ [4, 5, 6, 7, 8, 9, 10, 11, 12, 16, 17, 18], gF S' k = gF S k) (g : gA S' 7 = gA S 7) (e : ∀ k, k = 13 ∨ k = 14 → gR S' k = gR S k) (b : ∀ j, gB S' j = gB S j) : TA A q S' r :=
  ⟨h.1.same (fun x hx => k x (by revert x; decide)), h.2.1.same (k _ (by decide)) (b _), h.2.2.1.same (e _ (Or.inl rfl)) (e _ (Or.inr rfl)), h.2.2.2.1.same (k _ (by decide)) (b _), h.2.2.2.2.same (k _ (by decide)) g⟩
theorem TA.y {A : AS} {q : Nat} {r : List AE} {S S' : XS} (h : TA A q S r) (k : kY S S') : TA A q S' r := h.same (fun x hx => k.1 x (by revert x; decide)) (k.2.1 _ (by decide)) (fun x _ => k.2.2.1 x) k.2.2.2.1
theorem TA.s {A : AS} {q : Nat} {r : List AE} {S S' : XS} (h : TA A q S r) (k : kS S S') : TA A q S' r := h.same (fun x hx => k.1 x (by revert x; decide)) (k.2.1 _) (fun x hx => k.2.2.1 x (by omega) (by omega)) k.2.2.2.1
theorem TA.o {A : AS} {q : Nat} {r : List AE} {S : XS} {v : Nat → Int64} (h : TA A q S r) : TA A q (sO S v) r := h
theorem TI.y {ib : List Nat} {S S' : XS} (h : TI ib S) (k : kY S S') : TI ib S' := ⟨(k.1 101 (by decide)).trans h.1, h.2.1, h.2.2.1, by rw [k.2.1 2 (by decide)]; exact h.2.2.2⟩
theorem TI.t {ib : List Nat} {S S' : XS} (h : TI ib S) (k : kT S S') : TI ib S' := ⟨(k.1 101 (by decide)).trans h.1, h.2.1, h.2.2.1, by rw [k.2.1 2 (by decide)]; exact h.2.2.2⟩
theorem TI.o {ib : List Nat} {S : XS} {v : Nat → Int64} (h : TI ib S) : TI ib (sO S v) := h
/-- the model's inbox -/
def MI (ib : List Nat) (S : XS) : Prop := gF S 801 = (if ib = [] then 0 else 1) ∧ (ib ≠ [] → MB ib S)
theorem MI.same {ib : List Nat} {S S' : XS} (h : MI ib S) (k1 : gF S' 801 = gF S 801) (k2 : gF S' 802 = gF S 802) (k3 : gA S' 9 = gA S 9) : MI ib S' := by
  unfold MI MB
  rw [k1, k2, k3]
  exact h
theorem MI.x {ib : List Nat} {S S' : XS} (h : MI ib S) (k : kX S S') : MI ib S' := h.same (k.1 _ (by decide)) (k.1 _ (by decide)) (k.2 _ (by decide))
theorem MI.m {ib : List Nat} {S S' : XS} (h : MI ib S) (k : kM S S') : MI ib S' := h.same (k.1 _ (by decide)) (k.1 _ (by decide)) (k.2.1 _ (by decide))
theorem MI_nil {S : XS} (h : gF S 801 = 0) : MI [] S := ⟨by rw [if_pos rfl]; exact h, fun w => absurd rfl w⟩
theorem MI_some {ib : List Nat} {S : XS} (hne : ib ≠ []) (h : gF S 801 = 1) (hB : MB ib S) : MI ib S := ⟨by rw [if_neg hne]; exact h, fun _ => hB⟩
/-- an object more (an exception) -/
theorem TA.app {A : AS} {q : Nat} {r : List AE} {S : XS} {e : Nat} (he : 7 ≤ e) (h : TA A q S r) : TA A (q + 1) S (r ++ [xO e []]) := by
  obtain ⟨h1, ⟨f1, f2, na, fa, g1, g2, g3, g4, g5, g6, g7⟩, ⟨ra, p1, p2, p3, p4⟩, ⟨oa, o1, o2, o3, o4⟩, h5⟩ := h
  refine ⟨h1, ⟨f1, f2, na, fa, g1, g2, fun k hk => ?_, g4, g5, ?_, ?_⟩, ⟨ra, fun i hi => rl_app (p1 i hi), p2, p3, p4⟩, ⟨oa, o1, o2, fun k hk => ⟨(o3 k hk).1, rl_app (o3 k hk).2⟩, o4⟩, h5⟩
  · obtain ⟨L, B, f, q1, q2, q3⟩ := g3 k hk
    exact ⟨L, B, f, rl_app q1, rl_app q2, q3⟩
  · rw [List.length_append, List.length_singleton]
    omega
  · rw [hsz_app]
    have : hsz [xO e []] = 6 := by
      show xS e + 0 = 6
      unfold xS
      rw [if_neg (by omega)]
    omega
/-- what holds ahead of each call; N: calls so far -/
def J (N : Nat) (S : XS) (r : List AE) : Prop := ∃ (A : AS) (ib : List Nat) (q : Nat), inv (1 + 3 * N) N A ∧ TA A q S r ∧ MA A S ∧ TI ib S ∧ MI ib S ∧ q ≤ 3 * N
/-- the law looks at what both answered -/
def chk (K : Int32 → XS → List AE → Prop) (C : XS → List AE → Prop) (k b : Int32) (S : XS) (r : List AE) : Prop :=
  w_M_thrown S r (fun x S r => ((x = k → ((¬ k = 0 → C S r) ∧ (k = 0 → (((lg_cmp ((gO S) (0 : Int32).toNatClampNeg) (b.toInt64)) = 0 → C S r) ∧ (¬ (lg_cmp ((gO S) (0 : Int32).toNatClampNeg) (b.toInt64)) = 0 → (K 0 S r)))))) ∧ (¬ x = k → (K 0 S r))))
theorem lg_self (x : Int64) : lg_cmp x x = 0 := by
  unfold lg_cmp
  simp
section CHK
variable {K : Int32 → XS → List AE → Prop} {C : XS → List AE → Prop} {k b : Int32} {S : XS} {r : List AE}
theorem chk_err (h8 : gF S 800 = k) (hk : k ≠ 0) (hC : C S r) : chk K C k b S r := ⟨fun _ => ⟨fun _ => hC, fun e => absurd e hk⟩, fun w => absurd h8 w⟩
theorem chk_ok (h8 : gF S 800 = 0) (hO : gO S 0 = b.toInt64) (hC : C S r) : chk K C 0 b S r := by
  refine ⟨fun _ => ⟨fun w => absurd rfl w, fun _ => ⟨fun _ => hC, fun w => absurd ?_ w⟩⟩, fun w => absurd h8 w⟩
  show lg_cmp (gO S 0) b.toInt64 = 0
  rw [hO]
  exact lg_self _
end CHK
theorem gO_set (S : XS) (x : Int64) : gO (sO S (vp_updL (gO S) (0 : Int32).toNatClampNeg x)) 0 = x := by
  show vp_updL (gO S) 0 x 0 = x
  unfold vp_updL
  exact if_pos rfl
