/-! ===== the model's state, and its sending =====
c: the numbers of a session (0 in, 1 awaited, 2 next, 3 missing, 4 time, 5 heard, 6 said, 7 asked, 8 done) -/
def up (c : Nat → Nat) (k v : Nat) : Nat → Nat := fun j => if j = k then v else c j
theorem up_at (c : Nat → Nat) (k v : Nat) : up c k v k = v := if_pos rfl
theorem up_ne (c : Nat → Nat) {k j : Nat} (v : Nat) (h : j ≠ k) : up c k v j = c j := if_neg h
abbrev RP : Type := Nat × Nat × Nat × Nat × Nat
def MS (c : Nat → Nat) (S : XS) : Prop := gF S 819 = nI (c 0) ∧ gF S 820 = nI (c 1) ∧ gF S 821 = nI (c 2) ∧ gF S 826 = nI (c 3) ∧ gF S 822 = nI (c 4) ∧ (c 0 = 1 → gF S 823 = nI (c 5)) ∧ gF S 824 = nI (c 6) ∧ gF S 825 = nI (c 7) ∧ gF S 836 = nI (c 8)
def rok (rp : List RP) (nx : Nat) : Prop := (∀ x ∈ rp, 1 ≤ x.1 ∧ x.1 < nx ∧ x.2.1 < 1000000 ∧ x.2.2.1 < 128 ∧ x.2.2.2.1 < 1000000 ∧ x.2.2.2.2 < 1000000) ∧ rp.Pairwise (fun a b => a.1 < b.1)
def fnd (rp : List RP) (n : Nat) : Option RP := rp.find? (fun x => x.1 == n)
def MR (nx : Nat) (rp : List RP) (S : XS) : Prop := ∀ n, 1 ≤ n → n < nx → match fnd rp n with
  | none => gA S 15 n = 0
  | some x => gA S 15 n = 1 ∧ gA S 16 (4 * n) = nI x.2.1 ∧ gA S 16 (4 * n + 1) = nI x.2.2.1 ∧ gA S 16 (4 * n + 2) = nI x.2.2.2.1 ∧ gA S 16 (4 * n + 3) = nI x.2.2.2.2
def oz : RP := (0, 0, 0, 0, 0)
/-- orders: id, side, quantity, filled, cancelled -/
def MD (od : List RP) (S : XS) : Prop := gF S 829 = nI od.length ∧ od.length ≤ 40 ∧ ∀ k < od.length, gA S 17 k = nI (od.getD k oz).1 ∧ gA S 18 k = nI (od.getD k oz).2.1 ∧ gA S 19 k = nI (od.getD k oz).2.2.1 ∧ gA S 20 k = nI (od.getD k oz).2.2.2.1 ∧ gA S 21 k = nI (od.getD k oz).2.2.2.2
def MU (us : List Nat) (S : XS) : Prop := gF S 835 = nI us.length ∧ ∀ k < us.length, gA S 22 k = nI (us.getD k 0)
def MM (c : Nat → Nat) (fr : List (List Nat)) (rp od : List RP) (us : List Nat) (S : XS) : Prop := MS c S ∧ MF fr S ∧ MR (c 2) rp S ∧ MD od S ∧ MU us S
def kM (S S' : XS) : Prop := ke [815, 818, 819, 820, 821, 823, 824, 825, 826, 829, 835, 836, 838] [13, 14, 15, 16, 17, 18, 19, 20, 21, 22] S S'
theorem MS.of {c : Nat → Nat} {S S' : XS} {c' : Nat → Nat} (h : MS c S) (h0 : gF S' 819 = gF S 819 ∧ c' 0 = c 0 ∨ False) (h1 : gF S' 820 = gF S 820 ∧ c' 1 = c 1 ∨ gF S' 820 = nI (c' 1)) (h2 : gF S' 821 = gF S 821 ∧ c' 2 = c 2 ∨ gF S' 821 = nI (c' 2)) (h3 : gF S' 826 = gF S 826 ∧ c' 3 = c 3 ∨ gF S' 826 = nI (c' 3)) (h4 : gF S' 822 = gF S 822 ∧ c' 4 = c 4 ∨ gF S' 822 = nI (c' 4)) (h5 : gF S' 823 = gF S 823 ∧ c' 5 = c 5 ∨ (c' 0 = 1 → gF S' 823 = nI (c' 5))) (h6 : gF S' 824 = gF S 824 ∧ c' 6 = c 6 ∨ gF S' 824 = nI (c' 6)) (h7 : gF S' 825 = gF S 825 ∧ c' 7 = c 7 ∨ gF S' 825 = nI (c' 7)) (h8 : gF S' 836 = gF S 836 ∧ c' 8 = c 8 ∨ gF S' 836 = nI (c' 8)) : MS c' S' := by
  obtain ⟨a0, a1, a2, a3, a4, a5, a6, a7, a8⟩ := h
  refine ⟨?_, ?_, ?_, ?_, ?_, ?_, ?_, ?_, ?_⟩
  · rcases h0 with ⟨e, f⟩ | e
    · rw [e, f, a0]
    · exact e.elim
  · rcases h1 with ⟨e, f⟩ | e
    · rw [e, f, a1]
    · exact e
  · rcases h2 with ⟨e, f⟩ | e
    · rw [e, f, a2]
    · exact e
  · rcases h3 with ⟨e, f⟩ | e
    · rw [e, f, a3]
    · exact e
  · rcases h4 with ⟨e, f⟩ | e
    · rw [e, f, a4]
    · exact e
  · rcases h5 with ⟨e, f⟩ | e
    · rcases h0 with ⟨-, f0⟩ | e0
      · intro hz
        rw [e, f, a5 (f0 ▸ hz)]
      · exact e0.elim
    · exact e
  · rcases h6 with ⟨e, f⟩ | e
    · rw [e, f, a6]
    · exact e
  · rcases h7 with ⟨e, f⟩ | e
    · rw [e, f, a7]
    · exact e
  · rcases h8 with ⟨e, f⟩ | e
    · rw [e, f, a8]
    · exact e
theorem MR.same {nx : Nat} {rp : List RP} {S S' : XS} (h : MR nx rp S) (h1 : gA S' 15 = gA S 15) (h2 : gA S' 16 = gA S 16) : MR nx rp S' := by
  unfold MR
  rw [h1, h2]
  exact h
theorem MD.same {od : List RP} {S S' : XS} (h : MD od S) (h0 : gF S' 829 = gF S 829) (h1 : gA S' 17 = gA S 17) (h2 : gA S' 18 = gA S 18) (h3 : gA S' 19 = gA S 19) (h4 : gA S' 20 = gA S 20) (h5 : gA S' 21 = gA S 21) : MD od S' := by
  unfold MD
  rw [h0, h1, h2, h3, h4, h5]
  exact h
theorem MU.same {us : List Nat} {S S' : XS} (h : MU us S) (h0 : gF S' 835 = gF S 835) (h1 : gA S' 22 = gA S 22) : MU us S' := by
  unfold MU
  rw [h0, h1]
  exact h
theorem fnd_none {rp : List RP} {nx n : Nat} (h : rok rp nx) (hn : nx ≤ n) : fnd rp n = none := by
  unfold fnd
  rw [List.find?_eq_none]
  intro x hx
  have := (h.1 x hx).2.1
  simp
  omega
theorem fnd_app {rp : List RP} {x : RP} {n : Nat} (h : x.1 ≠ n) : fnd (rp ++ [x]) n = fnd rp n := by
  unfold fnd
  rw [List.find?_append]
  have e : List.find? (fun x : RP => x.1 == n) [x] = none := by
    rw [List.find?_eq_none]
    intro y hy
    rw [List.mem_singleton] at hy
    subst hy
    simp [h]
  rw [e, Option.or_none]
theorem fnd_new {rp : List RP} {x : RP} (h : fnd rp x.1 = none) : fnd (rp ++ [x]) x.1 = some x := by
  unfold fnd at *
  rw [List.find?_append, h]
  simp
theorem rok_app {rp : List RP} {nx : Nat} {x : RP} (h : rok rp nx) (hx : x.1 = nx) (h1 : 1 ≤ nx) (h2 : x.2.1 < 1000000 ∧ x.2.2.1 < 128 ∧ x.2.2.2.1 < 1000000 ∧ x.2.2.2.2 < 1000000) : rok (rp ++ [x]) (nx + 1) := by
  refine ⟨fun y hy => ?_, ?_⟩
  · rcases List.mem_append.mp hy with hy | hy
    · obtain ⟨a, b, q⟩ := h.1 y hy
      exact ⟨a, by omega, q⟩
    · rw [List.mem_singleton] at hy
      subst hy
      exact ⟨by omega, by omega, h2⟩
  · rw [List.pairwise_append]
    refine ⟨h.2, List.pairwise_singleton _ _, fun a ha b hb => ?_⟩
    rw [List.mem_singleton] at hb
    subst hb
    rw [hx]
    exact (h.1 a ha).2.1
theorem rok_up {rp : List RP} {nx : Nat} (h : rok rp nx) : rok rp (nx + 1) := ⟨fun y hy => by obtain ⟨a, b, q⟩ := h.1 y hy; exact ⟨a, by omega, q⟩, h.2⟩
/-- the state that send begins with: the table gets its row -/
def sn (S : XS) (nx : Nat) (x : Int32) (vs : Nat → Int32) : XS := sA (sA S 15 (upd (gA S 15) nx x)) 16 (upd (upd (upd (upd (gA S 16) (4 * nx) (vs 0)) (4 * nx + 1) (vs 1)) (4 * nx + 2) (vs 2)) (4 * nx + 3) (vs 3))
theorem rM_send0 {K : XS → List AE → Prop} {S : XS} {r : List AE} {nx kind : Nat} {vs : Nat → Int32} (hk : kind < 128) (hnx : gF S 821 = nI nx) (hb : nx < 1600) (h : (gF S 819 = 0 → w_M_send_99 K (sn S nx (if kind = 56 then 1 else 0) vs) r) ∧ (¬ gF S 819 = 0 → w_M_goes (sn S nx (if kind = 56 then 1 else 0) vs) r (nI kind) (nI nx) 0 (vs 0) (vs 1) (vs 2) (vs 3) (fun S7 r8 => (w_M_send_99 K S7 r8)))) : w_M_send S r (nI kind) (vs 0) (vs 1) (vs 2) (vs 3) K := by
  have key : ∀ x : Int32, x = (if kind = 56 then 1 else 0) → w_M_send_20 K (sA S 15 (upd (gA S 15) nx x)) r (nI kind) (vs 0) (vs 1) (vs 2) (vs 3) := by
    rintro x rfl
    unfold w_M_send_20
    simp only [gF_sA, gA_sA, hnx]
    rw [li_4, nI_mul, li_1, nI_add, li_2, nI_add, li_3, nI_add, nI_clamp (by omega), nI_clamp (by omega), nI_clamp (by omega), nI_clamp (by omega)]
    exact ⟨vp_in_nI (by omega) (by decide), vp_in_nI (by omega) (by decide), vp_in_nI (by omega) (by decide), vp_in_nI (by omega) (by decide), h⟩
  unfold w_M_send
  rw [hnx, nI_clamp (by omega)]
  refine ⟨fun c => ⟨vp_in_nI hb (by decide), key _ ?_⟩, fun c => ⟨vp_in_nI hb (by decide), key _ ?_⟩⟩
  · rw [if_neg]
    · rfl
    · rintro rfl
      exact c rfl
  · rw [if_pos]
    · rfl
    · rw [li_56, nI_eq (by omega) (by omega)] at c
      exact c
theorem sn_ke (S : XS) (nx : Nat) (x : Int32) (vs : Nat → Int32) : ke [] [15, 16] S (sn S nx x vs) := (ke_sA (by decide)).trans (ke_sA (by decide))
theorem sn_MR {S : XS} {nx : Nat} {rp : List RP} {vs : Nat → Int32} (hr : rok rp nx) (h : MR nx rp S) : MR (nx + 1) rp (sn S nx 0 vs) := by
  intro n h1 h2
  show match fnd rp n with
    | none => upd (gA S 15) nx 0 n = 0
    | some x => upd (gA S 15) nx 0 n = 1 ∧ upd (upd (upd (upd (gA S 16) (4 * nx) (vs 0)) (4 * nx + 1) (vs 1)) (4 * nx + 2) (vs 2)) (4 * nx + 3) (vs 3) (4 * n) = nI x.2.1 ∧ upd (upd (upd (upd (gA S 16) (4 * nx) (vs 0)) (4 * nx + 1) (vs 1)) (4 * nx + 2) (vs 2)) (4 * nx + 3) (vs 3) (4 * n + 1) = nI x.2.2.1 ∧ upd (upd (upd (upd (gA S 16) (4 * nx) (vs 0)) (4 * nx + 1) (vs 1)) (4 * nx + 2) (vs 2)) (4 * nx + 3) (vs 3) (4 * n + 2) = nI x.2.2.2.1 ∧ upd (upd (upd (upd (gA S 16) (4 * nx) (vs 0)) (4 * nx + 1) (vs 1)) (4 * nx + 2) (vs 2)) (4 * nx + 3) (vs 3) (4 * n + 3) = nI x.2.2.2.2
  by_cases he : n = nx
  · subst he
    rw [fnd_none hr (Nat.le_refl _)]
    exact upd_at _ _ _
  · have h3 := h n h1 (by omega)
    rw [upd_ne _ _ he]
    cases e : fnd rp n with
    | none =>
      rw [e] at h3
      exact h3
    | some x =>
      rw [e] at h3
      obtain ⟨b0, b1, b2, b3, b4⟩ := h3
      refine ⟨b0, ?_, ?_, ?_, ?_⟩
      · rw [upd_ne _ _ (by omega), upd_ne _ _ (by omega), upd_ne _ _ (by omega), upd_ne _ _ (by omega)]; exact b1
      · rw [upd_ne _ _ (by omega), upd_ne _ _ (by omega), upd_ne _ _ (by omega), upd_ne _ _ (by omega)]; exact b2
      · rw [upd_ne _ _ (by omega), upd_ne _ _ (by omega), upd_ne _ _ (by omega), upd_ne _ _ (by omega)]; exact b3
      · rw [upd_ne _ _ (by omega), upd_ne _ _ (by omega), upd_ne _ _ (by omega), upd_ne _ _ (by omega)]; exact b4
theorem sn_MR1 {S : XS} {nx : Nat} {rp : List RP} {vs : Nat → Int32} {x : RP} (hr : rok rp nx) (hx : x.1 = nx) (hv : vs 0 = nI x.2.1 ∧ vs 1 = nI x.2.2.1 ∧ vs 2 = nI x.2.2.2.1 ∧ vs 3 = nI x.2.2.2.2) (h : MR nx rp S) : MR (nx + 1) (rp ++ [x]) (sn S nx 1 vs) := by
  intro n h1 h2
  show match fnd (rp ++ [x]) n with
    | none => upd (gA S 15) nx 1 n = 0
    | some x => upd (gA S 15) nx 1 n = 1 ∧ upd (upd (upd (upd (gA S 16) (4 * nx) (vs 0)) (4 * nx + 1) (vs 1)) (4 * nx + 2) (vs 2)) (4 * nx + 3) (vs 3) (4 * n) = nI x.2.1 ∧ upd (upd (upd (upd (gA S 16) (4 * nx) (vs 0)) (4 * nx + 1) (vs 1)) (4 * nx + 2) (vs 2)) (4 * nx + 3) (vs 3) (4 * n + 1) = nI x.2.2.1 ∧ upd (upd (upd (upd (gA S 16) (4 * nx) (vs 0)) (4 * nx + 1) (vs 1)) (4 * nx + 2) (vs 2)) (4 * nx + 3) (vs 3) (4 * n + 2) = nI x.2.2.2.1 ∧ upd (upd (upd (upd (gA S 16) (4 * nx) (vs 0)) (4 * nx + 1) (vs 1)) (4 * nx + 2) (vs 2)) (4 * nx + 3) (vs 3) (4 * n + 3) = nI x.2.2.2.2
  by_cases he : n = nx
  · subst he
    rw [← hx, fnd_new (by rw [hx]; exact fnd_none hr (Nat.le_refl _)), hx]
    refine ⟨upd_at _ _ _, ?_, ?_, ?_, ?_⟩
    · rw [upd_ne _ _ (by omega), upd_ne _ _ (by omega), upd_ne _ _ (by omega), upd_at]; exact hv.1
    · rw [upd_ne _ _ (by omega), upd_ne _ _ (by omega), upd_at]; exact hv.2.1
    · rw [upd_ne _ _ (by omega), upd_at]; exact hv.2.2.1
    · rw [upd_at]; exact hv.2.2.2
  · have h3 := h n h1 (by omega)
    rw [upd_ne _ _ he, fnd_app (by omega)]
    cases e : fnd rp n with
    | none =>
      rw [e] at h3
      exact h3
    | some x =>
      rw [e] at h3
      obtain ⟨b0, b1, b2, b3, b4⟩ := h3
      refine ⟨b0, ?_, ?_, ?_, ?_⟩
      · rw [upd_ne _ _ (by omega), upd_ne _ _ (by omega), upd_ne _ _ (by omega), upd_ne _ _ (by omega)]; exact b1
      · rw [upd_ne _ _ (by omega), upd_ne _ _ (by omega), upd_ne _ _ (by omega), upd_ne _ _ (by omega)]; exact b2
      · rw [upd_ne _ _ (by omega), upd_ne _ _ (by omega), upd_ne _ _ (by omega), upd_ne _ _ (by omega)]; exact b3
      · rw [upd_ne _ _ (by omega), upd_ne _ _ (by omega), upd_ne _ _ (by omega), upd_ne _ _ (by omega)]; exact b4
