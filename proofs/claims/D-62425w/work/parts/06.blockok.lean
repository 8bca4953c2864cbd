theorem xchk_spec {X : XM} {pc : Nat} {i : BI} (h : xchk X pc i = true) : decode X.code pc = .ok (i.1, xil i.1) ∧ i.2.1 = xil i.1 ∧ xres X i = true := by
  unfold xchk at h
  simp only [Bool.and_eq_true, decide_eq_true_eq] at h
  obtain ⟨⟨h1, h2⟩, h3⟩ := h
  exact ⟨by rw [h1, h2], h2, h3⟩
set_option maxHeartbeats 4000000 in
theorem exi_ok {G : XG} {l : Launch} {d : Nat} {X : XM} {he : List AE} {p : Program} {e : Env} {s : State} {m : MethodId} {args : Array Value} {below : List Frame} {meth : Method} {c : Code} {Q : XOut → List AE → Prop} {pc : Nat} {ls st : List Value} {hp : List AE}
    (C : xCx G l X he p s m meth c) {i : BI} {ws ws1 log : List (Nat × AE)} {ob : List Prop} {ls1 st1 : List Value} (hc : xchk X pc i = true) (hx : exi G i ls st ws = some (ob, ls1, st1, ws1, log)) (ho : xall ob) (hs : xSee hp ws) :
    (xAt G l d he p e s m args below meth c Q (pc + i.2.1) ls1 st1 (xputs hp log) → xAt G l d he p e s m args below meth c Q pc ls st hp) ∧ xSee (xputs hp log) ws1 := by
  obtain ⟨hd, hlen, hr⟩ := xchk_spec hc
  rw [hlen]
  clear hlen hc
  unfold exi at hx
  split at hx
  · cases hx; exact ⟨xi_iconst C hd (of_decide_eq_true hr), hs⟩
  · cases hx; exact ⟨xi_bipush C hd (of_decide_eq_true hr), hs⟩
  · cases hx; exact ⟨xi_sipush C hd (of_decide_eq_true hr), hs⟩
  · cases hx; exact ⟨xi_ldc C hd (of_decide_eq_true hr), hs⟩
  · cases hx; exact ⟨xi_null C hd, hs⟩
  · split at hx
    · rename_i h; cases hx; have hr' := of_decide_eq_true hr; exact ⟨xi_iload_n C hd (by rw [hr']; exact h), hs⟩
    · cases hx
  · split at hx
    · rename_i h; cases hx; have hr' := of_decide_eq_true hr; exact ⟨xi_iload C hd (by rw [hr']; exact h), hs⟩
    · cases hx
  · split at hx
    · rename_i h; cases hx; have hr' := of_decide_eq_true hr; exact ⟨xi_aload_n C hd (by rw [hr']; exact h), hs⟩
    · cases hx
  · split at hx
    · rename_i h; cases hx; have hr' := of_decide_eq_true hr; exact ⟨xi_aload C hd (by rw [hr']; exact h), hs⟩
    · cases hx
  · split at hx
    · rename_i h; cases hx; have hr' := of_decide_eq_true hr; subst hr'; exact ⟨xi_istore_n C hd h, hs⟩
    · cases hx
  · split at hx
    · rename_i h; cases hx; have hr' := of_decide_eq_true hr; subst hr'; exact ⟨xi_istore C hd h, hs⟩
    · cases hx
  · split at hx
    · rename_i h; cases hx; have hr' := of_decide_eq_true hr; subst hr'; exact ⟨xi_astore_n C hd h, hs⟩
    · cases hx
  · split at hx
    · rename_i h; cases hx; have hr' := of_decide_eq_true hr; subst hr'; exact ⟨xi_astore C hd h, hs⟩
    · cases hx
  · split at hx
    · rename_i h; cases hx; have hr' := of_decide_eq_true hr; obtain ⟨rfl, hv⟩ := hr'; exact ⟨xi_iinc C hd h hv, hs⟩
    · cases hx
  · cases hx; exact ⟨xi_iadd C hd, hs⟩
  · cases hx; exact ⟨xi_isub C hd, hs⟩
  · cases hx; exact ⟨xi_imul C hd, hs⟩
  · cases hx; exact ⟨xi_iand C hd, hs⟩
  · cases hx; exact ⟨xi_ixor C hd, hs⟩
  · cases hx; exact ⟨xi_idiv C hd ho.1, hs⟩
  · cases hx; exact ⟨xi_irem C hd ho.1, hs⟩
  · cases hx; exact ⟨xi_i2l C hd, hs⟩
  · cases hx; exact ⟨xi_i2b C hd, hs⟩
  · cases hx; exact ⟨xi_i2c C hd, hs⟩
  · cases hx; exact ⟨xi_lcmp C hd, hs⟩
  · cases hx; exact ⟨xi_dup C hd rfl, hs⟩
  · cases hx; exact ⟨xi_dup C hd rfl, hs⟩
  · cases hx; exact ⟨xi_pop C hd rfl, hs⟩
  · cases hx; exact ⟨xi_pop C hd rfl, hs⟩
  · cases hx; exact ⟨xi_dup2 C hd rfl rfl, hs⟩
  · cases hx; have hr' := of_decide_eq_true hr; exact ⟨xi_getstatic C hd hr'.1 hr'.2, hs⟩
  · rename_i idx len a b q v0 n st0
    by_cases h12 : b = 12
    · subst h12
      rw [if_pos rfl] at hx
      cases hx
      have hr' := of_decide_eq_true (show decide (((X.own, idx, a, true) ∈ xCf ∨ (X.own, idx, a, false) ∈ xCf) ∧ a < 5) = true from hr)
      rcases hr'.1 with h | h
      · exact ⟨xi_getconst C hd h hr'.2 ho.1, hs⟩
      · exact ⟨xi_getconst C hd h hr'.2 ho.1, hs⟩
    · rw [if_neg h12] at hx
      have hr2 : (if b = 12 then decide (((X.own, idx, a, true) ∈ xCf ∨ (X.own, idx, a, false) ∈ xCf) ∧ a < 5) else decide (((X.own, idx, b, a, true) ∈ xFr ∨ (X.own, idx, b, a, false) ∈ xFr) ∧ b < 7 ∧ a < xN b)) = true := hr
      rw [if_neg h12] at hr2
      have hr' := of_decide_eq_true hr2
      split at hx
      · rename_i n' ci fs hq
        by_cases hcb : ci = b
        · rw [if_pos hcb] at hx
          subst hcb
          split at hx
          · rename_i v hv
            cases hx
            have hnn := ho.1
            subst hnn
            have hat := hs.1 q _ hq
            rcases hr'.1 with h | h
            · exact ⟨xi_getfield C hd h hr'.2.1 hr'.2.2 hat hv, hs⟩
            · exact ⟨xi_getfield C hd h hr'.2.1 hr'.2.2 hat hv, hs⟩
          · cases hx
        · rw [if_neg hcb] at hx
          cases hx
      · cases hx
  · rename_i idx len a b q v0 v n st0
    split at hx
    · rename_i n' ci fs hq
      by_cases hcb : ci = b
      · rw [if_pos hcb] at hx
        subst hcb
        cases hx
        have hnn := ho.1
        subst hnn
        have hat := hs.1 q _ hq
        have hty := xobl_ok (G := G) ho.2
        have hr2 : (decide (ci < 7 ∧ a < xN ci) && (if (xF ci a).2.2.2 then decide ((X.own, idx, ci, a, false) ∈ xFr ∧ ci = X.own ∧ X.y.name = "<init>") else decide ((X.own, idx, ci, a, true) ∈ xFr ∨ (X.own, idx, ci, a, false) ∈ xFr))) = true := hr
        rw [Bool.and_eq_true] at hr2
        obtain ⟨hr3, hr4⟩ := hr2
        have hr3 := of_decide_eq_true hr3
        refine ⟨?_, hs.put hq⟩
        by_cases hf : (xF ci a).2.2.2 = true
        · rw [if_pos hf] at hr4
          obtain ⟨g1, g2, g3⟩ := of_decide_eq_true hr4
          subst g2
          exact xi_putfinal C hd g1 hr3.1 hr3.2 hf g3 hat hty
        · rw [if_neg hf] at hr4
          have hf' : (xF ci a).2.2.2 = false := by simpa using hf
          rcases of_decide_eq_true hr4 with h | h
          · exact xi_putfield C hd h hr3.1 hr3.2 hf' hat hty
          · exact xi_putfield C hd h hr3.1 hr3.2 hf' hat hty
      · rw [if_neg hcb] at hx
        cases hx
    · cases hx
  · rename_i len a b q v0 i n st0
    by_cases h11 : b = 11
    · rw [if_pos h11] at hx
      cases hx
      have hnn := ho.1
      subst hnn
      exact ⟨xi_sload C hd ho.2.1, hs⟩
    · rw [if_neg h11] at hx
      split at hx
      · rename_i n' N f hq
        cases hx
        have hnn := ho.1
        subst hnn
        exact ⟨xi_iaload C hd (hs.1 q _ hq) ho.2.1, hs⟩
      · cases hx
  · rename_i len a b q v0 i n st0
    split at hx
    · rename_i n' N f hq
      cases hx
      have hnn := ho.1
      subst hnn
      exact ⟨xi_baload C hd (hs.1 q _ hq) ho.2.1, hs⟩
    · rename_i n' N f hq
      cases hx
      have hnn := ho.1
      subst hnn
      exact ⟨xi_zaload C hd (hs.1 q _ hq) ho.2.1, hs⟩
    · cases hx
  · rename_i len a b q v0 i n st0
    split at hx
    · rename_i n' N f hq
      cases hx
      have hnn := ho.1
      subst hnn
      exact ⟨xi_laload C hd (hs.1 q _ hq) ho.2.1, hs⟩
    · cases hx
  · rename_i len a b q v0 i n st0
    split at hx
    · rename_i n' k N f hq
      cases hx
      have hnn := ho.1
      subst hnn
      exact ⟨xi_aaload C hd (hs.1 q _ hq) ho.2.1, hs⟩
    · cases hx
  · rename_i len a b q v0 x i n st0
    split at hx
    · rename_i n' N f hq
      cases hx
      have hnn := ho.1
      subst hnn
      exact ⟨xi_iastore C hd (hs.1 q _ hq) ho.2.1, hs.put hq⟩
    · cases hx
  · rename_i len a b q v0 x i n st0
    split at hx
    · rename_i n' N f hq
      cases hx
      have hnn := ho.1
      subst hnn
      exact ⟨xi_bastore C hd (hs.1 q _ hq) ho.2.1, hs.put hq⟩
    · rename_i n' N f hq
      cases hx
      have hnn := ho.1
      subst hnn
      exact ⟨xi_zastore C hd (hs.1 q _ hq) ho.2.1, hs.put hq⟩
    · cases hx
  · rename_i len a b q v0 x i n st0
    split at hx
    · rename_i n' N f hq
      cases hx
      have hnn := ho.1
      subst hnn
      exact ⟨xi_lastore C hd (hs.1 q _ hq) ho.2.1, hs.put hq⟩
    · cases hx
  · rename_i len a b q v0 x i n st0
    split at hx
    · rename_i n' k N f v' ci fs hq hb
      by_cases hcb : ci = xkc k
      · rw [if_pos hcb] at hx
        subst hcb
        cases hx
        obtain ⟨h1, h2, h3, -⟩ := ho
        subst h1
        subst h2
        exact ⟨xi_aastore C hd (hs.1 q _ hq) (hs.1 b _ hb) h3, hs.put hq⟩
      · rw [if_neg hcb] at hx
        cases hx
    · cases hx
  · rename_i len a b q v0 n st0
    cases hx
    have hnn := ho.1
    subst hnn
    exact ⟨xi_slen C hd, hs⟩
  · cases hx
theorem xall_app {a b : List Prop} (h : xall (a ++ b)) : xall a ∧ xall b := by
  induction a with
  | nil => exact ⟨trivial, h⟩
  | cons P r ih =>
    obtain ⟨h1, h2⟩ := h
    exact ⟨⟨h1, (ih h2).1⟩, (ih h2).2⟩
theorem exb_ok {G : XG} {l : Launch} {d : Nat} {X : XM} {he : List AE} {p : Program} {e : Env} {s : State} {m : MethodId} {args : Array Value} {below : List Frame} {meth : Method} {c : Code} {Q : XOut → List AE → Prop}
    (C : xCx G l X he p s m meth c) : ∀ (is : List BI) {pc : Nat} {ls st ls1 st1 : List Value} {hp : List AE} {ws ws1 log : List (Nat × AE)} {ob : List Prop}, xchks X pc is = true → exb G is ls st ws = some (ob, ls1, st1, ws1, log) → xall ob → xSee hp ws →
      xAt G l d he p e s m args below meth c Q (pc + xlens is) ls1 st1 (xputs hp log) → xAt G l d he p e s m args below meth c Q pc ls st hp := by
  intro is
  induction is with
  | nil =>
    intro pc ls st ls1 st1 hp ws ws1 log ob hc hx ho hs k
    cases hx
    exact k
  | cons i r ih =>
    intro pc ls st ls1 st1 hp ws ws1 log ob hc hx ho hs k
    unfold xchks at hc
    rw [Bool.and_eq_true] at hc
    unfold exb at hx
    cases hi : exi G i ls st ws with
    | none => rw [hi] at hx; cases hx
    | some q =>
      obtain ⟨o1, ls2, st2, ws2, w1⟩ := q
      rw [hi] at hx
      dsimp only at hx
      cases hr : exb G r ls2 st2 ws2 with
      | none => rw [hr] at hx; cases hx
      | some q =>
        obtain ⟨o2, ls3, st3, ws3, w2⟩ := q
        rw [hr] at hx
        cases hx
        obtain ⟨h1, h2⟩ := xall_app ho
        obtain ⟨g1, g2⟩ := exi_ok (d := d) (e := e) (args := args) (below := below) (Q := Q) C hc.1 hi h1 hs
        refine g1 (ih hc.2 hr h2 g2 ?_)
        have e1 : pc + i.2.1 + xlens r = pc + xlens (i :: r) := by simp only [xlens]; omega
        have e2 : xputs (xputs hp w1) w2 = xputs hp (w1 ++ w2) := by simp [xputs]
        rw [e1, e2]
        exact k
/-- THE BLOCK: a run of plain instructions, checked by decide +kernel, computed by rfl -/
theorem xRn.blk {G : XG} {l : Launch} {d : Nat} {X : XM} {Q : XOut → List AE → Prop} {pc pc1 : Nat} {ls st ls1 st1 : List Value} {hp hp1 : List AE} (is : List BI) (ws : List (Nat × AE)) {ws1 log : List (Nat × AE)} {ob : List Prop} (hc : xchks X pc is = true) (hx : exb G is ls st ws = some (ob, ls1, st1, ws1, log)) (ho : xall ob) (hs : xSee hp ws) (hpc : pc + xlens is = pc1) (hh : xputs hp log = hp1)
    (k : xRn G l d X Q pc1 ls1 st1 hp1) : xRn G l d X Q pc ls st hp := by
  subst hpc
  subst hh
  intro he p e s m args below meth c C
  exact exb_ok C is hc hx ho hs (k he p e s m args below meth c C)
