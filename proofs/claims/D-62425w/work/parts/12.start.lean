theorem xk_forget {s t : State} {L : List Loc} {k n k' n' : Nat} (h : s.sameButNew t L k n) (hL : ∀ q ∈ L, s.heap.size ≤ q.base) (hk : k ≤ k') (hn : n ≤ n') : s.sameButNew t [] k' n' := by
  obtain ⟨h1, h2, h3, h4, h5, h6⟩ := h
  refine ⟨h1, h2, by omega, h4, by omega, fun a c hc => ?_⟩
  obtain ⟨c', g1, g2, g3, g4⟩ := h6 a c hc
  refine ⟨c', g1, g2, g3, fun i _ => g4 i (fun hm => ?_)⟩
  have h7 := hL _ hm
  have h8 := (Array.getElem?_eq_some_iff.mp hc).1
  exact absurd h8 (Nat.not_lt.mpr h7)
theorem xk_room {p : Program} {l : Launch} {e : Env} {R R' : Room} {s : State} {m : MethodId} {args : Array Value} {below : List Frame} {meth : Method} {c : Code} {T : State} {locs : List Loc} {cells slots : Nat} (X : Stand p l e R s m args below meth c T locs cells slots) (h1 : R'.frames ≤ R.frames) (h2 : R'.cells ≤ R.cells) (h3 : R'.slots ≤ R.slots) (h4 : R'.locals ≤ R.locals) : Stand p l e R' s m args below meth c T locs cells slots := by
  refine { X with room := ?_ }
  have h := X.room
  simp only [State.hasRoom, Bool.and_eq_true, decide_eq_true_eq] at h ⊢
  obtain ⟨⟨⟨⟨a1, a2, a3, a4, a5, a6⟩, a7⟩, a8⟩, a9⟩ := h
  exact ⟨⟨⟨⟨by omega, by omega, by omega, by omega, by omega, a6⟩, by omega⟩, by omega⟩, a9⟩
theorem xk_arr {s : State} {args : Array Value} {ty : FieldType} (h : (Cond.arrayClass ty).before args s = true) : ∃ cA, ArrOfT s cA ty ∧ s.vm.findClass ("[" ++ ty.toString) = some cA := by
  obtain ⟨cA, kA, comp, h1, h2, h3⟩ := Cond.arrayClass_spec h
  exact ⟨cA, fun n z => ⟨(fun k h => by cases h), kA, h2, comp, h3⟩, h1⟩
theorem xk_over {s : State} {args : Array Value} {C : String} (h : (Cond.arrayOver (.object C)).before args s = true) : ∃ cA, ArrOfT s cA (.object C) ∧ va_RA s cA (.object C) := by
  obtain ⟨comp, cA, kA, h1, -, h3, h4, h5⟩ := Cond.arrayOver_spec h
  exact ⟨cA, fun n z => ⟨(fun k h => by cases h), kA, h3, comp, h4⟩, kA, comp, h3, h4, h1, h5⟩
theorem xk_known {s : State} {args : Array Value} (hts : ∀ w ∈ lw_tbl, w.before args s = true) : ∃ (dC : Nat → ClassId) (dI : Nat → Nat → Nat), ∀ (k : Nat) (q : vw_C), xC[k]? = some q → u_Kn s q.1 q.2.1 q.2.2 (dC k) (dI k) := by
  have key : ∀ ci : Nat, ∃ z : ClassId × (Nat → Nat), ci < 11 → u_Kn s (xR ci) (xF ci) (xN ci) z.1 z.2 := by
    intro ci
    by_cases hc : ci < 11
    · by_cases h7 : ci < 7
      · obtain ⟨cC, iS, h⟩ := u_known (C := xR ci) (T := xF ci) (N := xN ci) (n := xS ci) hts (xlay_ok ci h7) (hts _ (xinst_ok ci hc))
        exact ⟨(cC, iS), fun _ => h⟩
      · obtain ⟨cC, h⟩ := classAt_of (hts _ (xinst_ok ci hc))
        have hxn : xN ci = 0 := by
          have : ci = 7 ∨ ci = 8 ∨ ci = 9 ∨ ci = 10 := by omega
          rcases this with rfl | rfl | rfl | rfl <;> rfl
        exact ⟨(cC, fun _ => 0), fun _ => ⟨fun k hk => by rw [hxn] at hk; exact absurd hk (Nat.not_lt_zero k), h⟩⟩
    · exact ⟨(0, fun _ => 0), fun h => absurd h hc⟩
  obtain ⟨f, hf⟩ := Classical.axiomOfChoice key
  refine ⟨fun k => (f k).1, fun k => (f k).2, fun k q hq => ?_⟩
  have hk : k < 11 := (List.getElem?_eq_some_iff.mp hq).1
  rw [xC_at hk] at hq
  cases hq
  exact hf k hk
def xm_law : XM := (11, x, code, maxLocals, ret, [])
