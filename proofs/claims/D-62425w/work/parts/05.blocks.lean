/-! ===== blocks of plain instructions, by computing ===== -/
/-- an instruction as a block holds it: the instruction, its length, two numbers (field and class; a local's place), the place in the view of the cell it touches, an int -/
abbrev BI : Type := Instr × Nat × Nat × Nat × Nat × Int32
def xil (i : Instr) : Nat := match i with
  | .bipush _ => 2
  | .sipush _ => 3
  | .ldc _ => 2
  | .iload _ => 2
  | .aload _ => 2
  | .istore _ => 2
  | .astore _ => 2
  | .iinc _ _ => 3
  | .getfield _ => 3
  | .putfield _ => 3
  | .getstatic _ => 3
  | _ => 1
def xres (X : XM) (i : BI) : Bool := match i with
  | (.iconst n, _, _, _, _, v) => decide (Int32.ofInt n = v)
  | (.bipush n, _, _, _, _, v) => decide ((Int8.ofInt n).toInt32 = v)
  | (.sipush n, _, _, _, _, v) => decide ((Int16.ofInt n).toInt32 = v)
  | (.ldc n, _, _, _, _, v) => decide ((X.own, n, v) ∈ xKr)
  | (.iload_n j, _, a, _, _, _) => decide (j.val = a)
  | (.iload j, _, a, _, _, _) => decide (j = a)
  | (.aload_n j, _, a, _, _, _) => decide (j.val = a)
  | (.aload j, _, a, _, _, _) => decide (j = a)
  | (.istore_n j, _, a, _, _, _) => decide (j.val = a)
  | (.istore j, _, a, _, _, _) => decide (j = a)
  | (.astore_n j, _, a, _, _, _) => decide (j.val = a)
  | (.astore j, _, a, _, _, _) => decide (j = a)
  | (.iinc j n, _, a, _, _, v) => decide (j = a ∧ Int32.ofInt n = v)
  | (.getfield n, _, a, b, _, _) => if b = 12 then decide (((X.own, n, a, true) ∈ xCf ∨ (X.own, n, a, false) ∈ xCf) ∧ a < 5) else decide (((X.own, n, b, a, true) ∈ xFr ∨ (X.own, n, b, a, false) ∈ xFr) ∧ b < 7 ∧ a < xN b)
  | (.putfield n, _, a, b, _, _) => decide (b < 7 ∧ a < xN b) && (if (xF b a).2.2.2 then decide ((X.own, n, b, a, false) ∈ xFr ∧ b = X.own ∧ X.y.name = "<init>") else decide ((X.own, n, b, a, true) ∈ xFr ∨ (X.own, n, b, a, false) ∈ xFr))
  | (.getstatic n, _, a, _, _, _) => decide ((X.own, n, a) ∈ xSr ∧ a < 10)
  | _ => true
def xchk (X : XM) (pc : Nat) (i : BI) : Bool := decide (decode X.code pc = .ok (i.1, i.2.1)) && decide (i.2.1 = xil i.1) && xres X i
def xchks (X : XM) : Nat → List BI → Bool
  | _, [] => true
  | pc, i :: r => xchk X pc i && xchks X (pc + i.2.1) r
def xlens : List BI → Nat
  | [] => 0
  | i :: r => i.2.1 + xlens r
def xall : List Prop → Prop
  | [] => True
  | P :: r => P ∧ xall r
/-- what a store into a field of this type asks -/
def xobl (ty : FieldType) (v : Value) : List Prop := match ty, v with
  | .int, .int _ => []
  | .object _, .ref _ => []
  | .array _, .ref _ => []
  | t, .int x => [narrow t (.int x) = .int x ∧ fits t (.int x) = true]
  | _, _ => [False]
abbrev XR : Type := Option (List Prop × List Value × List Value × List (Nat × AE) × List (Nat × AE))
def exi (G : XG) (i : BI) (ls st : List Value) (ws : List (Nat × AE)) : XR := match i, st with
  | (.iconst _, _, _, _, _, v), st => some ([], ls, .int v :: st, ws, [])
  | (.bipush _, _, _, _, _, v), st => some ([], ls, .int v :: st, ws, [])
  | (.sipush _, _, _, _, _, v), st => some ([], ls, .int v :: st, ws, [])
  | (.ldc _, _, _, _, _, v), st => some ([], ls, .int v :: st, ws, [])
  | (.aconst_null, _, _, _, _, _), st => some ([], ls, .ref 0 :: st, ws, [])
  | (.iload_n _, _, a, _, _, _), st => match ls[a]? with
    | some (.int x) => some ([], ls, .int x :: st, ws, [])
    | _ => none
  | (.iload _, _, a, _, _, _), st => match ls[a]? with
    | some (.int x) => some ([], ls, .int x :: st, ws, [])
    | _ => none
  | (.aload_n _, _, a, _, _, _), st => match ls[a]? with
    | some (.ref x) => some ([], ls, .ref x :: st, ws, [])
    | _ => none
  | (.aload _, _, a, _, _, _), st => match ls[a]? with
    | some (.ref x) => some ([], ls, .ref x :: st, ws, [])
    | _ => none
  | (.istore_n _, _, a, _, _, _), .int x :: st => if a < ls.length then some ([], ls.set a (.int x), st, ws, []) else none
  | (.istore _, _, a, _, _, _), .int x :: st => if a < ls.length then some ([], ls.set a (.int x), st, ws, []) else none
  | (.astore_n _, _, a, _, _, _), .ref x :: st => if a < ls.length then some ([], ls.set a (.ref x), st, ws, []) else none
  | (.astore _, _, a, _, _, _), .ref x :: st => if a < ls.length then some ([], ls.set a (.ref x), st, ws, []) else none
  | (.iinc _ _, _, a, _, _, v), st => match ls[a]? with
    | some (.int x) => some ([], ls.set a (.int (x + v)), st, ws, [])
    | _ => none
  | (.iadd, _, _, _, _, _), .int y :: .int x :: st => some ([], ls, .int (x + y) :: st, ws, [])
  | (.isub, _, _, _, _, _), .int y :: .int x :: st => some ([], ls, .int (x - y) :: st, ws, [])
  | (.imul, _, _, _, _, _), .int y :: .int x :: st => some ([], ls, .int (x * y) :: st, ws, [])
  | (.iand, _, _, _, _, _), .int y :: .int x :: st => some ([], ls, .int (x &&& y) :: st, ws, [])
  | (.ixor, _, _, _, _, _), .int y :: .int x :: st => some ([], ls, .int (x ^^^ y) :: st, ws, [])
  | (.idiv, _, _, _, _, _), .int y :: .int x :: st => some ([¬ y = 0], ls, .int (x / y) :: st, ws, [])
  | (.irem, _, _, _, _, _), .int y :: .int x :: st => some ([¬ y = 0], ls, .int (x - x / y * y) :: st, ws, [])
  | (.i2l, _, _, _, _, _), .int x :: st => some ([], ls, .long x.toInt64 :: st, ws, [])
  | (.i2b, _, _, _, _, _), .int x :: st => some ([], ls, .int x.toInt8.toInt32 :: st, ws, [])
  | (.i2c, _, _, _, _, _), .int x :: st => some ([], ls, .int (x.toUInt32 % 65536).toInt32 :: st, ws, [])
  | (.lcmp, _, _, _, _, _), .long y :: .long x :: st => some ([], ls, .int (lg_cmp x y) :: st, ws, [])
  | (.dup, _, _, _, _, _), .int x :: st => some ([], ls, .int x :: .int x :: st, ws, [])
  | (.dup, _, _, _, _, _), .ref x :: st => some ([], ls, .ref x :: .ref x :: st, ws, [])
  | (.pop, _, _, _, _, _), .int _ :: st => some ([], ls, st, ws, [])
  | (.pop, _, _, _, _, _), .ref _ :: st => some ([], ls, st, ws, [])
  | (.dup2, _, _, _, _, _), .int x :: .ref y :: st => some ([], ls, .int x :: .ref y :: .int x :: .ref y :: st, ws, [])
  | (.getstatic _, _, a, _, _, _), st => some ([], ls, .ref (a + 1) :: st, ws, [])
  | (.getfield _, _, a, b, q, _), .ref n :: st => if b = 12 then some ([1 ≤ n ∧ n ≤ 10], ls, .int (xcf a n) :: st, ws, []) else match ws[q]? with
    | some (n', .inr (.inr (.inr (ci, fs)))) => if ci = b then (match fs[a]? with
      | some v => some ([n = n'], ls, v :: st, ws, [])
      | none => none) else none
    | _ => none
  | (.putfield _, _, a, b, q, _), v :: .ref n :: st => match ws[q]? with
    | some (n', .inr (.inr (.inr (ci, fs)))) => if ci = b then some ((n = n') :: xobl (xT b a) v, ls, st, ws.set q (n', xO ci (fs.set a v)), [(n', xO ci (fs.set a v))]) else none
    | _ => none
  | (.iaload, _, _, b, q, _), .int i :: .ref n :: st => if b = 11 then some ([n = 11, vp_in i G.L], ls, .int (G.xs i.toNatClampNeg) :: st, ws, []) else match ws[q]? with
    | some (n', .inl (0, N, f)) => some ([n = n', vp_in i N], ls, .int (f i.toNatClampNeg) :: st, ws, [])
    | _ => none
  | (.baload, _, _, _, q, _), .int i :: .ref n :: st => match ws[q]? with
    | some (n', .inl (1, N, f)) => some ([n = n', vp_in i N], ls, .int (f i.toNatClampNeg) :: st, ws, [])
    | some (n', .inl (2, N, f)) => some ([n = n', vp_in i N], ls, .int (f i.toNatClampNeg) :: st, ws, [])
    | _ => none
  | (.laload, _, _, _, q, _), .int i :: .ref n :: st => match ws[q]? with
    | some (n', .inr (.inl (N, f))) => some ([n = n', vp_in i N], ls, .long (f i.toNatClampNeg) :: st, ws, [])
    | _ => none
  | (.aaload, _, _, _, q, _), .int i :: .ref n :: st => match ws[q]? with
    | some (n', .inr (.inr (.inl (_, N, f)))) => some ([n = n', vp_in i N], ls, .ref (f i.toNatClampNeg) :: st, ws, [])
    | _ => none
  | (.iastore, _, _, _, q, _), .int x :: .int i :: .ref n :: st => match ws[q]? with
    | some (n', .inl (0, N, f)) => some ([n = n', vp_in i N], ls, st, ws.set q (n', xI 0 N (upd f i.toNatClampNeg x)), [(n', xI 0 N (upd f i.toNatClampNeg x))])
    | _ => none
  | (.bastore, _, _, _, q, _), .int x :: .int i :: .ref n :: st => match ws[q]? with
    | some (n', .inl (1, N, f)) => some ([n = n', vp_in i N], ls, st, ws.set q (n', xI 1 N (upd f i.toNatClampNeg (vp_nar .byte x))), [(n', xI 1 N (upd f i.toNatClampNeg (vp_nar .byte x)))])
    | some (n', .inl (2, N, f)) => some ([n = n', vp_in i N], ls, st, ws.set q (n', xI 2 N (upd f i.toNatClampNeg (vp_nar .boolean x))), [(n', xI 2 N (upd f i.toNatClampNeg (vp_nar .boolean x)))])
    | _ => none
  | (.lastore, _, _, _, q, _), .long x :: .int i :: .ref n :: st => match ws[q]? with
    | some (n', .inr (.inl (N, f))) => some ([n = n', vp_in i N], ls, st, ws.set q (n', xL N (vp_updL f i.toNatClampNeg x)), [(n', xL N (vp_updL f i.toNatClampNeg x))])
    | _ => none
  | (.aastore, _, _, b, q, _), .ref v :: .int i :: .ref n :: st => match ws[q]?, ws[b]? with
    | some (n', .inr (.inr (.inl (k, N, f)))), some (v', .inr (.inr (.inr (ci, _)))) => if ci = xkc k then some ([n = n', v = v', vp_in i N], ls, st, ws.set q (n', xA k N (va_up f i.toNatClampNeg v)), [(n', xA k N (va_up f i.toNatClampNeg v))]) else none
    | _, _ => none
  | (.arraylength, _, _, _, _, _), .ref n :: st => some ([n = 11], ls, .int (Int32.ofNat G.L) :: st, ws, [])
  | _, _ => none
def exb (G : XG) : List BI → List Value → List Value → List (Nat × AE) → XR
  | [], ls, st, ws => some ([], ls, st, ws, [])
  | i :: r, ls, st, ws => match exi G i ls st ws with
    | some (o1, ls1, st1, ws1, w1) => (match exb G r ls1 st1 ws1 with
      | some (o2, ls2, st2, ws2, w2) => some (o1 ++ o2, ls2, st2, ws2, w1 ++ w2)
      | none => none)
    | none => none
def xputs (hp : List AE) (log : List (Nat × AE)) : List AE := log.foldl (fun h q => xput h q.1 q.2) hp
/-- the view: cells of the heap, at places that differ -/
def xSee (hp : List AE) (ws : List (Nat × AE)) : Prop := (∀ (j : Nat) (q : Nat × AE), ws[j]? = some q → xat hp q.1 = some q.2) ∧ ∀ (i j : Nat) (x y : Nat × AE), ws[i]? = some x → ws[j]? = some y → x.1 = y.1 → i = j
theorem xat_put_self {hp : List AE} {n : Nat} {e0 e : AE} (h : xat hp n = some e0) : xat (xput hp n e) n = some e := by
  unfold xat xput at *
  split at h
  · cases h
  · rename_i h16
    rw [if_neg h16, List.getElem?_set_self (List.getElem?_eq_some_iff.mp h).1]
theorem xat_put_ne {hp : List AE} {n k : Nat} {e : AE} (h : k ≠ n) (h0 : xat hp n ≠ none) : xat (xput hp n e) k = xat hp k := by
  unfold xat xput at *
  by_cases h16 : k < 16
  · rw [if_pos h16, if_pos h16]
  · have hn : ¬ n < 16 := fun hn => h0 (by rw [if_pos hn])
    rw [if_neg h16, if_neg h16, List.getElem?_set_ne (by omega)]
theorem xSee.put {hp : List AE} {ws : List (Nat × AE)} {q n : Nat} {e0 e : AE} (h : xSee hp ws) (hq : ws[q]? = some (n, e0)) : xSee (xput hp n e) (ws.set q (n, e)) := by
  have hl := (List.getElem?_eq_some_iff.mp hq).1
  have h0 := h.1 q _ hq
  have key : ∀ (k : Nat) (x : Nat × AE), (ws.set q (n, e))[k]? = some x → (k = q ∧ x = (n, e)) ∨ (k ≠ q ∧ ws[k]? = some x) := by
    intro k x hk
    by_cases hkq : k = q
    · subst hkq
      rw [List.getElem?_set_self hl] at hk
      cases hk
      exact Or.inl ⟨rfl, rfl⟩
    · rw [List.getElem?_set_ne (Ne.symm hkq)] at hk
      exact Or.inr ⟨hkq, hk⟩
  refine ⟨fun j x hj => ?_, fun i j x y hi hj hxy => ?_⟩
  · rcases key j x hj with ⟨-, rfl⟩ | ⟨hne, hk⟩
    · exact xat_put_self h0
    · rw [xat_put_ne (fun hx => hne (h.2 j q x (n, e0) hk hq hx)) (by rw [show xat hp n = some e0 from h0]; simp)]
      exact h.1 j x hk
  · rcases key i x hi with ⟨rfl, rfl⟩ | ⟨hne, hk⟩ <;> rcases key j y hj with ⟨rfl, rfl⟩ | ⟨hne2, hk2⟩
    · rfl
    · exact h.2 i j (n, e0) y hq hk2 hxy
    · exact h.2 i j x (n, e0) hk hq hxy
    · exact h.2 i j x y hk hk2 hxy
theorem xobl_ok {G : XG} {ty : FieldType} {v : Value} (h : xall (xobl ty v)) : narrow ty (xcv G v) = xcv G v ∧ fits ty (xcv G v) = true := by
  unfold xobl at h
  split at h
  · exact ⟨rfl, rfl⟩
  · exact xnar_ref (Or.inl ⟨_, rfl⟩) _
  · exact xnar_ref (Or.inr ⟨_, rfl⟩) _
  · exact h.1
  · exact h.1.elim
