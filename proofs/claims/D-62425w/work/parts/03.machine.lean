/-! ===== methods, contexts, the judgement xAt (a walk stands here) and xRn (for every invocation of a method) ===== -/
/-- a method: its class's number, name, bytes, locals, return type, handlers -/
abbrev XM : Type := Nat × MethodName × ByteArray × Nat × Option FieldType × List (Nat × Nat × Nat × Nat)
abbrev XM.own (X : XM) : Nat := X.1
abbrev XM.y (X : XM) : MethodName := X.2.1
abbrev XM.code (X : XM) : ByteArray := X.2.2.1
abbrev XM.maxL (X : XM) : Nat := X.2.2.2.1
abbrev XM.ret (X : XM) : Option FieldType := X.2.2.2.2.1
abbrev XM.hh (X : XM) : List (Nat × Nat × Nat × Nat) := X.2.2.2.2.2
def esz (e : AE) : Nat := match e with
  | .inl (_, n, _) => n
  | .inr (.inl (n, _)) => n
  | .inr (.inr (.inl (_, n, _))) => n
  | .inr (.inr (.inr (ci, _))) => xS ci
def hsz : List AE → Nat
  | [] => 0
  | e :: r => esz e + hsz r
theorem hsz_app (a b : List AE) : hsz (a ++ b) = hsz a + hsz b := by
  induction a with
  | nil => simp [hsz]
  | cons e r ih => simp only [List.cons_append, hsz, ih]; omega
theorem hsz_set : ∀ (hp : List AE) (i : Nat) (e e0 : AE), hp[i]? = some e0 → esz e = esz e0 → hsz (hp.set i e) = hsz hp
  | [], i, e, e0, h, _ => by simp at h
  | a :: r, 0, e, e0, h, he => by
    simp only [List.getElem?_cons_zero, Option.some.injEq] at h
    subst h
    simp [hsz, he]
  | a :: r, i + 1, e, e0, h, he => by
    rw [List.getElem?_cons_succ] at h
    simp only [List.set_cons_succ, hsz, hsz_set r i e e0 h he]
theorem xput_len (hp : List AE) (n : Nat) (e : AE) : (xput hp n e).length = hp.length := List.length_set
theorem xput_hsz {hp : List AE} {n : Nat} {e e0 : AE} (h : xat hp n = some e0) (he : esz e = esz e0) : hsz (xput hp n e) = hsz hp := by
  unfold xat at h
  split at h
  · cases h
  · exact hsz_set hp _ e e0 h he
/-- an outcome: returned (a value or nothing), or threw -/
abbrev XOut : Type := Option Value ⊕ Nat
def xOr (G : XG) (u : XOut) (o : Outcome) : Prop := match u with
  | .inl v => o = .returned (v.map (xcv G))
  | .inr n => o = .threw (xloc G n) ∧ 16 ≤ n
abbrev xCB : Nat := 601024
abbrev xSB : Nat := 7293034
def xroom (d : Nat) (he : List AE) : Room := { frames := d, cells := xCB - he.length, slots := xSB - hsz he, locals := 37 * d }
def xZ (G : XG) (he : List AE) (below : List Frame) (s : State) (Q : XOut → List AE → Prop) : State → Prop := fun t =>
  ∃ o, t.status = .running ∧ Ended t below o ∧ ∃ (u : XOut) (hp : List AE), xOr G u o ∧ Q u hp ∧ xRep G hp t.heap ∧ (he.length ≤ hp.length ∧ hp.length ≤ xCB) ∧ (hsz he ≤ hsz hp ∧ hsz hp ≤ xSB) ∧ s.WarmedH t.vm ∧ (∀ q : Nat, q < G.base → t.heap[q]? = s.heap[q]?) ∧
    ∃ L : List Loc, s.sameButNew ({ t with vm := s.vm } : State) L (hp.length - he.length) (hsz hp - hsz he) ∧ ∀ q ∈ L, G.base ≤ q.base
/-- what holds through one invocation of X -/
def xCx (G : XG) (l : Launch) (X : XM) (he : List AE) (p : Program) (s : State) (m : MethodId) (meth : Method) (c : Code) : Prop :=
  p.tables.exec = Jvm.exec ∧ c.code = X.code ∧ c.maxLocals = X.maxL ∧ meth.sig.returnType = X.ret ∧ meth.locks = false ∧ s.vm.findClass (xR X.own) = some m.cls ∧ meth.name = X.y.name ∧
  c.exceptionTable.toList.map (fun h => (h.startPc, h.endPc, h.handlerPc, h.catchType)) = X.hh ∧ xGs G s ∧ xRep G he s.heap ∧ l.stackTraces = false
def xAt (G : XG) (l : Launch) (d : Nat) (he : List AE) (p : Program) (e : Env) (s : State) (m : MethodId) (args : Array Value) (below : List Frame) (meth : Method) (c : Code) (Q : XOut → List AE → Prop) (pc : Nat) (ls st : List Value) (hp : List AE) : Prop :=
  ∀ (H : Heap) (locs : List Loc) (cls : Array Slot), xRep G hp H → (∀ q : Nat, q < G.base → H[q]? = s.heap[q]?) → (∀ q ∈ locs, G.base ≤ q.base) → (he.length ≤ hp.length ∧ hp.length ≤ xCB) → (hsz he ≤ hsz hp ∧ hsz hp ≤ xSB) → xLoc G cls ls →
    W p l e (xroom d he) s m args below meth c H locs (hp.length - he.length) (hsz hp - hsz he) (xZ G he below s Q) (F0 m pc cls (st.map (xcv G)))
/-- THE JUDGEMENT: method X at pc, at depth d, with these locals, stack and heap, comes to its end with Q -/
def xRn (G : XG) (l : Launch) (d : Nat) (X : XM) (Q : XOut → List AE → Prop) (pc : Nat) (ls st : List Value) (hp : List AE) : Prop :=
  ∀ (he : List AE) (p : Program) (e : Env) (s : State) (m : MethodId) (args : Array Value) (below : List Frame) (meth : Method) (c : Code), xCx G l X he p s m meth c → xAt G l d he p e s m args below meth c Q pc ls st hp
section XI
variable {G : XG} {l : Launch} {d : Nat} {X : XM} {he : List AE} {p : Program} {e : Env} {s : State} {m : MethodId} {args : Array Value} {below : List Frame} {meth : Method} {c : Code} {Q : XOut → List AE → Prop} {pc : Nat} {ls st : List Value} {hp : List AE}
theorem xCx.ex (C : xCx G l X he p s m meth c) : p.tables.exec = Jvm.exec := C.1
theorem xCx.cd (C : xCx G l X he p s m meth c) : c.code = X.code := C.2.1
theorem xCx.ml (C : xCx G l X he p s m meth c) : c.maxLocals = X.maxL := C.2.2.1
theorem xCx.rt (C : xCx G l X he p s m meth c) : meth.sig.returnType = X.ret := C.2.2.2.1
theorem xCx.lk (C : xCx G l X he p s m meth c) : meth.locks = false := C.2.2.2.2.1
theorem xCx.ow (C : xCx G l X he p s m meth c) : s.vm.findClass (xR X.own) = some m.cls := C.2.2.2.2.2.1
theorem xCx.nm (C : xCx G l X he p s m meth c) : meth.name = X.y.name := C.2.2.2.2.2.2.1
theorem xCx.hd (C : xCx G l X he p s m meth c) : c.exceptionTable.toList.map (fun h => (h.startPc, h.endPc, h.handlerPc, h.catchType)) = X.hh := C.2.2.2.2.2.2.2.1
theorem xCx.gs (C : xCx G l X he p s m meth c) : xGs G s := C.2.2.2.2.2.2.2.2.1
theorem xCx.rp (C : xCx G l X he p s m meth c) : xRep G he s.heap := C.2.2.2.2.2.2.2.2.2.1
theorem xCx.tr (C : xCx G l X he p s m meth c) : l.stackTraces = false := C.2.2.2.2.2.2.2.2.2.2
theorem xCx.wd (C : xCx G l X he p s m meth c) (args : Array Value) : ∀ w ∈ xW, w.before args s = true := C.gs.word args
/-! rows that touch no heap -/
theorem xi_iconst (C : xCx G l X he p s m meth c) {n : Int} {v : Int32} (hd : decode X.code pc = .ok (.iconst n, 1)) (hv : Int32.ofInt n = v) (k : xAt G l d he p e s m args below meth c Q (pc + 1) ls (.int v :: st) hp) : xAt G l d he p e s m args below meth c Q pc ls st hp :=
  fun H locs cls h1 h2 h3 h4 h5 h6 => lv_iconst C.ex C.cd hd hv (k H locs cls h1 h2 h3 h4 h5 h6)
theorem xi_bipush (C : xCx G l X he p s m meth c) {n : Int} {v : Int32} (hd : decode X.code pc = .ok (.bipush n, 2)) (hv : (Int8.ofInt n).toInt32 = v) (k : xAt G l d he p e s m args below meth c Q (pc + 2) ls (.int v :: st) hp) : xAt G l d he p e s m args below meth c Q pc ls st hp :=
  fun H locs cls h1 h2 h3 h4 h5 h6 => lv_bipush C.ex C.cd hd hv (k H locs cls h1 h2 h3 h4 h5 h6)
theorem xi_sipush (C : xCx G l X he p s m meth c) {n : Int} {v : Int32} (hd : decode X.code pc = .ok (.sipush n, 3)) (hv : (Int16.ofInt n).toInt32 = v) (k : xAt G l d he p e s m args below meth c Q (pc + 3) ls (.int v :: st) hp) : xAt G l d he p e s m args below meth c Q pc ls st hp :=
  fun H locs cls h1 h2 h3 h4 h5 h6 => lv_sipush C.ex C.cd hd hv (k H locs cls h1 h2 h3 h4 h5 h6)
theorem xi_ldc (C : xCx G l X he p s m meth c) {n : Nat} {v : Int32} (hd : decode X.code pc = .ok (.ldc n, 2)) (hv : (X.own, n, v) ∈ xKr) (k : xAt G l d he p e s m args below meth c Q (pc + 2) ls (.int v :: st) hp) : xAt G l d he p e s m args below meth c Q pc ls st hp :=
  fun H locs cls h1 h2 h3 h4 h5 h6 => lv_ldc C.ex C.cd C.ow (C.wd args _ (xKr_w _ hv)) hd (k H locs cls h1 h2 h3 h4 h5 h6)
theorem xi_null (C : xCx G l X he p s m meth c) (hd : decode X.code pc = .ok (.aconst_null, 1)) (k : xAt G l d he p e s m args below meth c Q (pc + 1) ls (.ref 0 :: st) hp) : xAt G l d he p e s m args below meth c Q pc ls st hp :=
  fun H locs cls h1 h2 h3 h4 h5 h6 => lv_null C.ex C.cd hd (k H locs cls h1 h2 h3 h4 h5 h6)
theorem xi_iload_n (C : xCx G l X he p s m meth c) {j : Fin 4} {x : Int32} (hd : decode X.code pc = .ok (.iload_n j, 1)) (hx : ls[j.val]? = some (.int x)) (k : xAt G l d he p e s m args below meth c Q (pc + 1) ls (.int x :: st) hp) : xAt G l d he p e s m args below meth c Q pc ls st hp :=
  fun H locs cls h1 h2 h3 h4 h5 h6 => lv_iload_n C.ex C.cd hd rfl (h6.at hx (by simp)) (k H locs cls h1 h2 h3 h4 h5 h6)
theorem xi_iload (C : xCx G l X he p s m meth c) {j : Nat} {x : Int32} (hd : decode X.code pc = .ok (.iload j, 2)) (hx : ls[j]? = some (.int x)) (k : xAt G l d he p e s m args below meth c Q (pc + 2) ls (.int x :: st) hp) : xAt G l d he p e s m args below meth c Q pc ls st hp :=
  fun H locs cls h1 h2 h3 h4 h5 h6 => lv_iload C.ex C.cd hd (h6.at hx (by simp)) (k H locs cls h1 h2 h3 h4 h5 h6)
theorem xi_aload_n (C : xCx G l X he p s m meth c) {j : Fin 4} {x : Nat} (hd : decode X.code pc = .ok (.aload_n j, 1)) (hx : ls[j.val]? = some (.ref x)) (k : xAt G l d he p e s m args below meth c Q (pc + 1) ls (.ref x :: st) hp) : xAt G l d he p e s m args below meth c Q pc ls st hp := by
  intro H locs cls h1 h2 h3 h4 h5 h6
  have h7 := h6.at hx (by simp)
  have h8 := k H locs cls h1 h2 h3 h4 h5 h6
  rw [List.map_cons] at h8
  by_cases h0 : x = 0
  · subst h0
    exact lv_aload_nN C.ex C.cd hd rfl h7 h8
  · rw [xcv_loc G h0] at h7 h8
    exact lv_aload_n C.ex C.cd hd rfl h7 h8
theorem xi_aload (C : xCx G l X he p s m meth c) {j : Nat} {x : Nat} (hd : decode X.code pc = .ok (.aload j, 2)) (hx : ls[j]? = some (.ref x)) (k : xAt G l d he p e s m args below meth c Q (pc + 2) ls (.ref x :: st) hp) : xAt G l d he p e s m args below meth c Q pc ls st hp := by
  intro H locs cls h1 h2 h3 h4 h5 h6
  have h7 := h6.at hx (by simp)
  have h8 := k H locs cls h1 h2 h3 h4 h5 h6
  rw [List.map_cons] at h8
  by_cases h0 : x = 0
  · subst h0
    exact lv_aloadN C.ex C.cd hd h7 h8
  · rw [xcv_loc G h0] at h7 h8
    exact lv_aload C.ex C.cd hd h7 h8
theorem xi_istore_n (C : xCx G l X he p s m meth c) {j : Fin 4} {x : Int32} (hd : decode X.code pc = .ok (.istore_n j, 1)) (hj : j.val < ls.length) (k : xAt G l d he p e s m args below meth c Q (pc + 1) (ls.set j.val (.int x)) st hp) : xAt G l d he p e s m args below meth c Q pc ls (.int x :: st) hp :=
  fun H locs cls h1 h2 h3 h4 h5 h6 => lv_istore_n C.ex C.cd hd rfl h6.has hj rfl (fun cls' h7 => k H locs cls' h1 h2 h3 h4 h5 (h6.store (v := .int x) rfl hj h7))
theorem xi_istore (C : xCx G l X he p s m meth c) {j : Nat} {x : Int32} (hd : decode X.code pc = .ok (.istore j, 2)) (hj : j < ls.length) (k : xAt G l d he p e s m args below meth c Q (pc + 2) (ls.set j (.int x)) st hp) : xAt G l d he p e s m args below meth c Q pc ls (.int x :: st) hp :=
  fun H locs cls h1 h2 h3 h4 h5 h6 => lv_istore C.ex C.cd hd h6.has hj rfl (fun cls' h7 => k H locs cls' h1 h2 h3 h4 h5 (h6.store (v := .int x) rfl hj h7))
theorem xi_astore_n (C : xCx G l X he p s m meth c) {j : Fin 4} {x : Nat} (hd : decode X.code pc = .ok (.astore_n j, 1)) (hj : j.val < ls.length) (k : xAt G l d he p e s m args below meth c Q (pc + 1) (ls.set j.val (.ref x)) st hp) : xAt G l d he p e s m args below meth c Q pc ls (.ref x :: st) hp := by
  intro H locs cls h1 h2 h3 h4 h5 h6
  have h8 : ∀ cls', lv_has cls' ls.length ((j.val, xcv G (.ref x)) :: (xlv G ls).filter (fun q => !(q.1 == j.val) && !(q.1 + 1 == j.val && q.2.category == 2))) → _ := fun cls' h7 => k H locs cls' h1 h2 h3 h4 h5 (h6.store (v := .ref x) rfl hj h7)
  rw [List.map_cons]
  by_cases h0 : x = 0
  · subst h0
    exact lv_astore_nN C.ex C.cd hd rfl h6.has hj rfl h8
  · rw [xcv_loc G h0] at h8 ⊢
    exact lv_astore_n C.ex C.cd hd rfl h6.has hj rfl h8
theorem xi_astore (C : xCx G l X he p s m meth c) {j : Nat} {x : Nat} (hd : decode X.code pc = .ok (.astore j, 2)) (hj : j < ls.length) (k : xAt G l d he p e s m args below meth c Q (pc + 2) (ls.set j (.ref x)) st hp) : xAt G l d he p e s m args below meth c Q pc ls (.ref x :: st) hp := by
  intro H locs cls h1 h2 h3 h4 h5 h6
  have h8 : ∀ cls', lv_has cls' ls.length ((j, xcv G (.ref x)) :: (xlv G ls).filter (fun q => !(q.1 == j) && !(q.1 + 1 == j && q.2.category == 2))) → _ := fun cls' h7 => k H locs cls' h1 h2 h3 h4 h5 (h6.store (v := .ref x) rfl hj h7)
  rw [List.map_cons]
  by_cases h0 : x = 0
  · subst h0
    exact lv_astoreN C.ex C.cd hd h6.has hj rfl h8
  · rw [xcv_loc G h0] at h8 ⊢
    exact lv_astore C.ex C.cd hd h6.has hj rfl h8
theorem xi_iinc (C : xCx G l X he p s m meth c) {j : Nat} {n : Int} {x v : Int32} (hd : decode X.code pc = .ok (.iinc j n, 3)) (hx : ls[j]? = some (.int x)) (hv : Int32.ofInt n = v) (k : xAt G l d he p e s m args below meth c Q (pc + 3) (ls.set j (.int (x + v))) st hp) : xAt G l d he p e s m args below meth c Q pc ls st hp := by
  intro H locs cls h1 h2 h3 h4 h5 h6
  have hj : j < ls.length := (List.getElem?_eq_some_iff.mp hx).1
  obtain ⟨kk, hk⟩ := List.getElem?_of_mem (xlv_mem.mpr ⟨_, hx, by simp, rfl⟩ : (j, xcv G (.int x)) ∈ xlv G ls)
  exact lv_iinc C.ex C.cd hd h6.has hk (by rw [hv]) hj rfl (fun cls' h7 => k H locs cls' h1 h2 h3 h4 h5 (h6.store (v := .int (x + v)) rfl hj h7))
theorem xi_iadd (C : xCx G l X he p s m meth c) {x y : Int32} (hd : decode X.code pc = .ok (.iadd, 1)) (k : xAt G l d he p e s m args below meth c Q (pc + 1) ls (.int (x + y) :: st) hp) : xAt G l d he p e s m args below meth c Q pc ls (.int y :: .int x :: st) hp :=
  fun H locs cls h1 h2 h3 h4 h5 h6 => lv_iadd C.ex C.cd hd (k H locs cls h1 h2 h3 h4 h5 h6)
theorem xi_isub (C : xCx G l X he p s m meth c) {x y : Int32} (hd : decode X.code pc = .ok (.isub, 1)) (k : xAt G l d he p e s m args below meth c Q (pc + 1) ls (.int (x - y) :: st) hp) : xAt G l d he p e s m args below meth c Q pc ls (.int y :: .int x :: st) hp :=
  fun H locs cls h1 h2 h3 h4 h5 h6 => lv_isub C.ex C.cd hd (k H locs cls h1 h2 h3 h4 h5 h6)
theorem xi_imul (C : xCx G l X he p s m meth c) {x y : Int32} (hd : decode X.code pc = .ok (.imul, 1)) (k : xAt G l d he p e s m args below meth c Q (pc + 1) ls (.int (x * y) :: st) hp) : xAt G l d he p e s m args below meth c Q pc ls (.int y :: .int x :: st) hp :=
  fun H locs cls h1 h2 h3 h4 h5 h6 => lv_imul C.ex C.cd hd (k H locs cls h1 h2 h3 h4 h5 h6)
theorem xi_iand (C : xCx G l X he p s m meth c) {x y : Int32} (hd : decode X.code pc = .ok (.iand, 1)) (k : xAt G l d he p e s m args below meth c Q (pc + 1) ls (.int (x &&& y) :: st) hp) : xAt G l d he p e s m args below meth c Q pc ls (.int y :: .int x :: st) hp :=
  fun H locs cls h1 h2 h3 h4 h5 h6 => lv_iand C.ex C.cd hd (k H locs cls h1 h2 h3 h4 h5 h6)
theorem xi_ixor (C : xCx G l X he p s m meth c) {x y : Int32} (hd : decode X.code pc = .ok (.ixor, 1)) (k : xAt G l d he p e s m args below meth c Q (pc + 1) ls (.int (x ^^^ y) :: st) hp) : xAt G l d he p e s m args below meth c Q pc ls (.int y :: .int x :: st) hp :=
  fun H locs cls h1 h2 h3 h4 h5 h6 => lv_ixor C.ex C.cd hd (k H locs cls h1 h2 h3 h4 h5 h6)
theorem xi_idiv (C : xCx G l X he p s m meth c) {x y : Int32} (hd : decode X.code pc = .ok (.idiv, 1)) (hy : ¬ y = 0) (k : xAt G l d he p e s m args below meth c Q (pc + 1) ls (.int (x / y) :: st) hp) : xAt G l d he p e s m args below meth c Q pc ls (.int y :: .int x :: st) hp :=
  fun H locs cls h1 h2 h3 h4 h5 h6 => lv_idiv C.ex C.cd hd hy (k H locs cls h1 h2 h3 h4 h5 h6)
theorem xi_irem (C : xCx G l X he p s m meth c) {x y : Int32} (hd : decode X.code pc = .ok (.irem, 1)) (hy : ¬ y = 0) (k : xAt G l d he p e s m args below meth c Q (pc + 1) ls (.int (x - x / y * y) :: st) hp) : xAt G l d he p e s m args below meth c Q pc ls (.int y :: .int x :: st) hp :=
  fun H locs cls h1 h2 h3 h4 h5 h6 => lv_irem C.ex C.cd hd hy (k H locs cls h1 h2 h3 h4 h5 h6)
theorem xi_i2l (C : xCx G l X he p s m meth c) {x : Int32} (hd : decode X.code pc = .ok (.i2l, 1)) (k : xAt G l d he p e s m args below meth c Q (pc + 1) ls (.long x.toInt64 :: st) hp) : xAt G l d he p e s m args below meth c Q pc ls (.int x :: st) hp :=
  fun H locs cls h1 h2 h3 h4 h5 h6 => lv_i2l C.ex C.cd hd rfl (k H locs cls h1 h2 h3 h4 h5 h6)
theorem xi_i2b (C : xCx G l X he p s m meth c) {x : Int32} (hd : decode X.code pc = .ok (.i2b, 1)) (k : xAt G l d he p e s m args below meth c Q (pc + 1) ls (.int x.toInt8.toInt32 :: st) hp) : xAt G l d he p e s m args below meth c Q pc ls (.int x :: st) hp :=
  fun H locs cls h1 h2 h3 h4 h5 h6 => lv_i2b C.ex C.cd hd rfl (k H locs cls h1 h2 h3 h4 h5 h6)
theorem xi_i2c (C : xCx G l X he p s m meth c) {x : Int32} (hd : decode X.code pc = .ok (.i2c, 1)) (k : xAt G l d he p e s m args below meth c Q (pc + 1) ls (.int (x.toUInt32 % 65536).toInt32 :: st) hp) : xAt G l d he p e s m args below meth c Q pc ls (.int x :: st) hp :=
  fun H locs cls h1 h2 h3 h4 h5 h6 => lv_i2c C.ex C.cd hd rfl (k H locs cls h1 h2 h3 h4 h5 h6)
theorem xi_lcmp (C : xCx G l X he p s m meth c) {x y : Int64} (hd : decode X.code pc = .ok (.lcmp, 1)) (k : xAt G l d he p e s m args below meth c Q (pc + 1) ls (.int (lg_cmp x y) :: st) hp) : xAt G l d he p e s m args below meth c Q pc ls (.long y :: .long x :: st) hp :=
  fun H locs cls h1 h2 h3 h4 h5 h6 => W.lcmp C.ex C.cd hd (k H locs cls h1 h2 h3 h4 h5 h6)
theorem xi_dup (C : xCx G l X he p s m meth c) {v : Value} (hd : decode X.code pc = .ok (.dup, 1)) (hv : v.category = 1) (k : xAt G l d he p e s m args below meth c Q (pc + 1) ls (v :: v :: st) hp) : xAt G l d he p e s m args below meth c Q pc ls (v :: st) hp :=
  fun H locs cls h1 h2 h3 h4 h5 h6 => lv_dup C.ex C.cd hd (by rw [xcv_cat]; exact hv) (k H locs cls h1 h2 h3 h4 h5 h6)
theorem xi_pop (C : xCx G l X he p s m meth c) {v : Value} (hd : decode X.code pc = .ok (.pop, 1)) (hv : v.category = 1) (k : xAt G l d he p e s m args below meth c Q (pc + 1) ls st hp) : xAt G l d he p e s m args below meth c Q pc ls (v :: st) hp :=
  fun H locs cls h1 h2 h3 h4 h5 h6 => lv_pop C.ex C.cd hd (by rw [xcv_cat]; exact hv) (k H locs cls h1 h2 h3 h4 h5 h6)
theorem xi_dup2 (C : xCx G l X he p s m meth c) {v w : Value} (hd : decode X.code pc = .ok (.dup2, 1)) (hv : v.category = 1) (hw : w.category = 1) (k : xAt G l d he p e s m args below meth c Q (pc + 1) ls (v :: w :: v :: w :: st) hp) : xAt G l d he p e s m args below meth c Q pc ls (v :: w :: st) hp :=
  fun H locs cls h1 h2 h3 h4 h5 h6 => lv_dup2_11 C.ex C.cd hd (by rw [xcv_cat]; exact hv) (by rw [xcv_cat]; exact hw) (k H locs cls h1 h2 h3 h4 h5 h6)
end XI
