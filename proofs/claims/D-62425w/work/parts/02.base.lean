/-! ===== the abstract machine: cells, heaps, what a concrete heap must hold ===== -/
/-- an abstract cell: an array of small numbers (kind 0 int, 1 byte, 2 boolean), of longs, of references (kind 4 Frame, 5 Order), or an object (class number, fields); a reference is a number: 0 null, 1..10 the enum's constants, 11 the script, 16 + i the i-th cell of the heap -/
abbrev AE : Type := (Nat × Nat × (Nat → Int32)) ⊕ (Nat × (Nat → Int64)) ⊕ (Nat × Nat × (Nat → Nat)) ⊕ (Nat × List Value)
abbrev xI (k n : Nat) (f : Nat → Int32) : AE := .inl (k, n, f)
abbrev xL (n : Nat) (f : Nat → Int64) : AE := .inr (.inl (n, f))
abbrev xA (k n : Nat) (f : Nat → Nat) : AE := .inr (.inr (.inl (k, n, f)))
abbrev xO (ci : Nat) (fs : List Value) : AE := .inr (.inr (.inr (ci, fs)))
/-- what is fixed through the law: class numbers, slots, array classes, the heap's size at the start, the constants' places, the script's place, length and ints -/
abbrev XG : Type := (Nat → ClassId) × (Nat → Nat → Nat) × (Nat → ClassId) × Nat × (Nat → Nat) × Nat × Nat × (Nat → Int32)
abbrev XG.dC (G : XG) : Nat → ClassId := G.1
abbrev XG.dI (G : XG) : Nat → Nat → Nat := G.2.1
abbrev XG.dA (G : XG) : Nat → ClassId := G.2.2.1
abbrev XG.base (G : XG) : Nat := G.2.2.2.1
abbrev XG.ad (G : XG) : Nat → Nat := G.2.2.2.2.1
abbrev XG.b (G : XG) : Nat := G.2.2.2.2.2.1
abbrev XG.L (G : XG) : Nat := G.2.2.2.2.2.2.1
abbrev XG.xs (G : XG) : Nat → Int32 := G.2.2.2.2.2.2.2
def xloc (G : XG) (n : Nat) : Nat := if n < 11 then G.ad (n - 1) else if n < 16 then G.b else G.base + (n - 16)
def xcvo (G : XG) (n : Nat) : Option Nat := if n = 0 then none else some (xloc G n)
def xcv (G : XG) (v : Value) : Value := match v with
  | .ref n => va_rf (xcvo G n)
  | w => w
theorem xcv_int (G : XG) (x : Int32) : xcv G (.int x) = .int x := rfl
theorem xcv_long (G : XG) (x : Int64) : xcv G (.long x) = .long x := rfl
theorem xcv_ref (G : XG) (n : Nat) : xcv G (.ref n) = va_rf (xcvo G n) := rfl
theorem xcv_loc (G : XG) {n : Nat} (h : n ≠ 0) : xcv G (.ref n) = .ref (xloc G n) := by simp [xcv, xcvo, h, va_rf]
theorem xcv_null (G : XG) : xcv G (.ref 0) = .null := rfl
theorem xloc_hp (G : XG) {n : Nat} (h : 16 ≤ n) : xloc G n = G.base + (n - 16) := by
  unfold xloc
  rw [if_neg (by omega), if_neg (by omega)]
def xkt : Nat → FieldType
  | 0 => .int
  | 1 => .byte
  | 2 => .boolean
  | 3 => .long
  | 4 => .object "TradeLink$Frame"
  | _ => .object "TradeLink$Order"
abbrev xtys (G : XG) : List (ClassId × FieldType) := [(G.dA 0, .int), (G.dA 1, .byte), (G.dA 2, .boolean), (G.dA 3, .long), (G.dA 4, .object "TradeLink$Frame"), (G.dA 5, .object "TradeLink$Order")]
def xcell (G : XG) (a : Nat) (e : AE) (H : Heap) : Prop := match e with
  | .inl (k, n, f) => k < 3 ∧ H[a]? = some (vp_cell (G.dA k) (n, .inl f))
  | .inr (.inl (n, f)) => H[a]? = some (vp_cell (G.dA 3) (n, .inr (.inl f)))
  | .inr (.inr (.inl (k, n, f))) => (k = 4 ∨ k = 5) ∧ H[a]? = some (vp_cell (G.dA k) (n, .inr (.inr (.inr (.inr (fun j => xcvo G (f j)))))))
  | .inr (.inr (.inr (ci, fs))) => ci < 11 ∧ fs.length = xN ci ∧ t_OB a (G.dC ci) (xN ci) (G.dI ci) H (vp_V (fs.map (xcv G)))
theorem xcell.kept {G : XG} {a : Nat} {e : AE} {H H1 : Heap} (h : xcell G a e H) (hq : H1[a]? = H[a]?) : xcell G a e H1 := by
  match e, h with
  | .inl (k, n, f), h => exact ⟨h.1, hq.trans h.2⟩
  | .inr (.inl (n, f)), h => exact hq.trans h
  | .inr (.inr (.inl (k, n, f))), h => exact ⟨h.1, hq.trans h.2⟩
  | .inr (.inr (.inr (ci, fs))), h => exact ⟨h.1, h.2.1, h.2.2.kept hq⟩
theorem xcell.some {G : XG} {a : Nat} {e : AE} {H : Heap} (h : xcell G a e H) : ∃ cell : Cell, H[a]? = some cell ∧ cell.vm = .none := by
  match e, h with
  | .inl (k, n, f), h => exact ⟨_, h.2, rfl⟩
  | .inr (.inl (n, f)), h => exact ⟨_, h, rfl⟩
  | .inr (.inr (.inl (k, n, f))), h => exact ⟨_, h.2, rfl⟩
  | .inr (.inr (.inr (ci, fs))), h =>
    obtain ⟨-, -, cell, h1, -, h3, -⟩ := h
    exact ⟨cell, h1, h3⟩
/-- the concrete heap holds the abstract one: base cells from before, then one by one -/
def xRep (G : XG) (hp : List AE) (H : Heap) : Prop := H.size = G.base + hp.length ∧ ∀ (i : Nat) (e : AE), hp[i]? = some e → xcell G (G.base + i) e H
theorem xRep.set {G : XG} {hp : List AE} {H H1 : Heap} {i : Nat} {e : AE} (h : xRep G hp H) (hz : H1.size = H.size) (ho : ∀ q : Nat, q ≠ G.base + i → H1[q]? = H[q]?) (he : xcell G (G.base + i) e H1) : xRep G (hp.set i e) H1 := by
  refine ⟨by rw [hz, List.length_set]; exact h.1, fun j e' hj => ?_⟩
  by_cases hji : j = i
  · subst hji
    have hl : j < hp.length := by
      have := (List.getElem?_eq_some_iff.mp hj).1
      rwa [List.length_set] at this
    rw [List.getElem?_set_self hl] at hj
    cases hj
    exact he
  · rw [List.getElem?_set_ne (Ne.symm hji)] at hj
    exact (h.2 j e' hj).kept (ho _ (by omega))
theorem xRep.push {G : XG} {hp : List AE} {H H1 : Heap} {e : AE} (h : xRep G hp H) (hz : H1.size = H.size + 1) (ho : ∀ q : Nat, q < H.size → H1[q]? = H[q]?) (he : xcell G H.size e H1) : xRep G (hp ++ [e]) H1 := by
  refine ⟨by rw [hz, List.length_append, h.1]; rfl, fun j e' hj => ?_⟩
  by_cases hl : j < hp.length
  · rw [List.getElem?_append_left hl] at hj
    exact (h.2 j e' hj).kept (ho _ (by rw [h.1]; omega))
  · rw [List.getElem?_append_right (by omega)] at hj
    have hz : j - hp.length < 1 := (List.getElem?_eq_some_iff.mp hj).1
    have hj0 : j = hp.length := by omega
    subst hj0
    rw [Nat.sub_self] at hj
    cases hj
    rw [← h.1]
    exact he
/-- the cell that a reference names -/
def xat (hp : List AE) (n : Nat) : Option AE := if n < 16 then none else hp[n - 16]?
def xput (hp : List AE) (n : Nat) (e : AE) : List AE := hp.set (n - 16) e
theorem xat_cell {G : XG} {hp : List AE} {H : Heap} {n : Nat} {e : AE} (h : xRep G hp H) (hn : xat hp n = some e) : 16 ≤ n ∧ xcell G (xloc G n) e H ∧ n ≠ 0 ∧ n - 16 < hp.length := by
  unfold xat at hn
  by_cases h16 : n < 16
  · rw [if_pos h16] at hn
    cases hn
  · rw [if_neg h16] at hn
    refine ⟨by omega, ?_, by omega, (List.getElem?_eq_some_iff.mp hn).1⟩
    rw [xloc_hp G (by omega)]
    exact h.2 _ _ hn
/-- words of the tables that stay true when the tables get warmer -/
def xgw (w : Cond) : Bool := goodWord w || (match w with
  | .fieldLinkNest .. => true
  | .methodLinkNest .. => true
  | .declares _ => true
  | .castable .. => true
  | .arrayOver (.object _) => true
  | _ => false)
def xW : List Cond := lw_tbl.filter xgw
theorem xw_in {w : Cond} (h : w ∈ lw_tbl) (hg : xgw w = true) : w ∈ xW := List.mem_filter.mpr ⟨h, hg⟩
theorem xgw_ok : ∀ w ∈ xW, xgw w = true := fun w h => (List.mem_filter.mp h).2
theorem xgw_warm {w : Cond} (hw : xgw w = true) {s U : State} {A A' : Array Value} (h : s.WarmedH U.vm) (hb : w.before A s = true) : w.before A' U = true := by
  unfold xgw at hw
  rcases Bool.or_eq_true_iff.mp hw with h1 | h1
  · exact word_at h (good_of_word h1) hb
  · have key : ∀ (w : Cond), w.onTables = true → w.warmOk s → w.before A s = true → w.before A' U = true := by
      intro w ho hk hb
      exact va_tabs (A := A) (u := s.setVm U.vm) ho rfl (Cond.before_warmed h w hk hb)
    cases w with
    | fieldLinkNest a i b n d hh => exact va_tabs (A := #[]) (u := U) rfl rfl (va_Nw.warmF h (va_tabs (A := A) (u := s) rfl rfl hb))
    | methodLinkNest a i x hh => exact va_tabs (A := #[]) (u := U) rfl rfl (va_Nw.warmM h (va_tabs (A := A) (u := s) rfl rfl hb))
    | declares x => exact key _ rfl trivial hb
    | castable a b => exact key _ rfl trivial hb
    | arrayOver t =>
      cases t with
      | object C => exact (va_AO.moved h.alike (va_AO.of (A := A) hb)).use
      | _ => simp at h1
    | _ => simp at h1
/-! the two statics that Throwable's constructor reads -/
theorem xls_ff {V U : State} (hvm : V.vm = U.vm) (o n d : String) : U.fieldFound? o n d = V.fieldFound? o n d := by
  unfold State.fieldFound?
  rw [hvm]
theorem xls_heap {o n d : String} {V U : State} {A A' : Array Value} (hvm : V.vm = U.vm) (hh : ∀ (a : Nat) (cell : Cell), V.heap[a]? = some cell → cell.vm.isStatics = true → U.heap[a]? = some cell) (h : (Cond.laysStatic o n d).before A V = true) : (Cond.laysStatic o n d).before A' U = true := by
  obtain ⟨c, k, i, f, a, cell, h1, h2, h3, h4, h5, h6, h7, h8, h9⟩ := Cond.laysStatic_spec h
  have e1 : U.vm.findClass o = some c := by rw [← hvm]; exact h1
  have e2 : U.fieldFound? o n d = some (c, k, i, f) := by rw [xls_ff hvm]; exact h2
  have e3 := hh a cell h5 h6
  simp [Cond.before, Cond.holds, Cond.value, e1, e2, e3, h3, h4, h6, h7, h8, h9]
theorem xst_heap {o n d : String} {V U : State} {A A' : Array Value} (hvm : V.vm = U.vm) (hh : ∀ (a : Nat) (cell : Cell), V.heap[a]? = some cell → cell.vm.isStatics = true → U.heap[a]? = some cell) (hl : (Cond.laysStatic o n d).before A V = true) (h : (Cond.isRef (.static o n d)).before A V = true) : (Cond.isRef (.static o n d)).before A' U = true := by
  obtain ⟨c, k, i, f, a, cell, h1, h2, h3, h4, h5, h6, h7, h8, h9⟩ := Cond.laysStatic_spec hl
  have e2 : U.fieldFound? o n d = some (c, k, i, f) := by rw [xls_ff hvm]; exact h2
  have e3 := hh a cell h5 h6
  have key : (Term.static o n d).eval A' U none [] U = (Term.static o n d).eval A V none [] V := by
    simp [Term.eval, State.fieldNamed?, h2, e2, h3, h4, h5, e3, h6]
  simp only [Cond.before, Cond.holds, Cond.value] at h ⊢
  rw [key]
  exact h
def xTw : List Cond := [.laysStatic "java/lang/Throwable" "UNASSIGNED_STACK" "[Ljava/lang/StackTraceElement;", .laysStatic "java/lang/Throwable" "SUPPRESSED_SENTINEL" "Ljava/util/List;", .isRef (.static "java/lang/Throwable" "UNASSIGNED_STACK" "[Ljava/lang/StackTraceElement;"), .isRef (.static "java/lang/Throwable" "SUPPRESSED_SENTINEL" "Ljava/util/List;")]
theorem xTw_heap {V U : State} {A A' : Array Value} (hvm : V.vm = U.vm) (hh : ∀ (a : Nat) (cell : Cell), V.heap[a]? = some cell → cell.vm.isStatics = true → U.heap[a]? = some cell) (h : ∀ w ∈ xTw, w.before A V = true) : ∀ w ∈ xTw, w.before A' U = true := by
  have h0 := h _ (List.mem_of_getElem? (l := xTw) (i := 0) rfl)
  have h1 := h _ (List.mem_of_getElem? (l := xTw) (i := 1) rfl)
  have h2 := h _ (List.mem_of_getElem? (l := xTw) (i := 2) rfl)
  have h3 := h _ (List.mem_of_getElem? (l := xTw) (i := 3) rfl)
  intro w hw
  simp only [xTw, List.mem_cons, List.not_mem_nil, or_false] at hw
  rcases hw with rfl | rfl | rfl | rfl
  · exact xls_heap hvm hh h0
  · exact xls_heap hvm hh h1
  · exact xst_heap hvm hh h0 h2
  · exact xst_heap hvm hh h1 h3
theorem xTw_warm {s U : State} {A A' : Array Value} (hW : s.WarmedH U.vm) (hh : ∀ (a : Nat) (cell : Cell), s.heap[a]? = some cell → cell.vm.isStatics = true → U.heap[a]? = some cell) (h : ∀ w ∈ xTw, w.before A s = true) : ∀ w ∈ xTw, w.before A' U = true := by
  refine xTw_heap (V := s.setVm U.vm) (A := A) rfl hh (fun w hw => ?_)
  have hk : w.keeps = true := by
    simp only [xTw, List.mem_cons, List.not_mem_nil, or_false] at hw
    rcases hw with rfl | rfl | rfl | rfl <;> rfl
  exact Cond.holds_shifted (State.Shifted.of_warmed hW) w [] hk (h w hw)
/-- which cells may be written: those made since the law began -/
abbrev xAr (G : XG) : Nat → Prop := fun q => G.base ≤ q
/-- what holds at every invocation -/
def xGs (G : XG) (s : State) : Prop :=
  (∀ w ∈ xW, w.before #[] s = true) ∧ va_K (G.dC, G.dI) xC (xtys G) s ∧ va_En "TradeLink$Type" "LTradeLink$Type;" xEn xEf G.ad (xAr G) s s.heap ∧ va_X G.b G.L G.xs s s.heap ∧ G.b < G.base ∧
  (∀ w ∈ xTw, w.before #[] s = true) ∧
  (∀ i j : Nat, 7 ≤ i → i < 11 → 7 ≤ j → j < 11 → i ≠ j → va_Nc (xR i) (xR j) s) ∧ G.base ≤ s.heap.size
theorem xGs.moved {G : XG} {s U : State} (h : xGs G s) (hW : s.WarmedH U.vm) (hz : G.base ≤ U.heap.size) (ho : ∀ q : Nat, q < G.base → U.heap[q]? = s.heap[q]?) (hns : ∀ (q : Nat) (cell : Cell), G.base ≤ q → s.heap[q]? = some cell → cell.vm.isStatics = false) : xGs G U := by
  obtain ⟨h1, h2, h3, h4, h5, h6, h8, h9⟩ := h
  have hq : ∀ a : Nat, a < s.heap.size → ¬ xAr G a → U.heap[a]? = s.heap[a]? := fun a _ ha => ho a (Nat.not_le.mp ha)
  refine ⟨fun w hw => xgw_warm (xgw_ok w hw) hW (h1 w hw), va_K.moved hW.alike h2, (va_En.moved hW.alike h3).kept hq, (va_X.moved hW.alike h4).kept (ho _ h5), h5, xTw_warm hW (fun a cell hc hs => ?_) h6, fun i j a b c d e => va_Nc.moved hW.alike (h8 i j a b c d e), hz⟩
  by_cases hb : G.base ≤ a
  · rw [hns a cell hb hc] at hs
    cases hs
  · rw [ho a (Nat.not_le.mp hb)]
    exact hc
theorem xGs.word {G : XG} {s : State} (h : xGs G s) (args : Array Value) : ∀ w ∈ xW, w.before args s = true := fun w hw => xgw_warm (xgw_ok w hw) (State.WarmedH.refl s) (h.1 w hw)
/-- the locals: .null stands for 'not known' -/
def xLoc (G : XG) (cls : Array Slot) (ls : List Value) : Prop := cls.size = ls.length ∧ lv_wf cls ∧ ∀ (i : Nat) (v : Value), ls[i]? = some v → v ≠ .null → cls[i]? = some (.val (xcv G v)) ∧ v.category = 1
def xnn (v : Value) : Bool := match v with
  | Value.null => false
  | _ => true
theorem xnn_iff {v : Value} : xnn v = true ↔ v ≠ Value.null := by cases v <;> simp [xnn]
def xlv (G : XG) (ls : List Value) : List (Nat × Value) := (List.range ls.length).filterMap (fun i => (ls[i]?).bind (fun v => if xnn v = true then some (i, xcv G v) else none))
theorem xlv_mem {G : XG} {ls : List Value} {i : Nat} {w : Value} : (i, w) ∈ xlv G ls ↔ ∃ v, ls[i]? = some v ∧ v ≠ .null ∧ w = xcv G v := by
  unfold xlv
  rw [List.mem_filterMap]
  constructor
  · rintro ⟨j, hj, hm⟩
    cases hv : ls[j]? with
    | none => rw [hv] at hm; cases hm
    | some v =>
      rw [hv, Option.bind_some] at hm
      by_cases hn : xnn v = true
      · rw [if_pos hn] at hm
        cases hm
        exact ⟨v, hv, xnn_iff.mp hn, rfl⟩
      · rw [if_neg hn] at hm
        cases hm
  · rintro ⟨v, hv, hn, rfl⟩
    refine ⟨i, List.mem_range.mpr (List.getElem?_eq_some_iff.mp hv).1, ?_⟩
    rw [hv, Option.bind_some, if_pos (xnn_iff.mpr hn)]
theorem xcv_cat (G : XG) (v : Value) : (xcv G v).category = v.category := by
  cases v with
  | ref n =>
    rw [xcv_ref]
    unfold xcvo
    split <;> rfl
  | _ => rfl
theorem xLoc.has {G : XG} {cls : Array Slot} {ls : List Value} (h : xLoc G cls ls) : lv_has cls ls.length (xlv G ls) := by
  refine ⟨h.1, h.2.1, fun q hq => ?_⟩
  obtain ⟨i, w⟩ := q
  obtain ⟨v, h1, h2, rfl⟩ := xlv_mem.mp hq
  exact (h.2.2 i v h1 h2).1
theorem xLoc.store {G : XG} {cls cls' : Array Slot} {ls : List Value} {i : Nat} {v : Value} (h : xLoc G cls ls) (hv : v.category = 1) (hi : i < ls.length)
    (h' : lv_has cls' ls.length ((i, xcv G v) :: (xlv G ls).filter (fun q => !(q.1 == i) && !(q.1 + 1 == i && q.2.category == 2)))) : xLoc G cls' (ls.set i v) := by
  refine ⟨by rw [List.length_set]; exact h'.1, h'.2.1, fun j w hj hw => ?_⟩
  by_cases hji : j = i
  · subst hji
    rw [List.getElem?_set_self hi] at hj
    cases hj
    exact ⟨h'.2.2 (j, xcv G v) List.mem_cons_self, hv⟩
  · rw [List.getElem?_set_ne (Ne.symm hji)] at hj
    have hc := (h.2.2 j w hj hw).2
    refine ⟨h'.2.2 (j, xcv G w) (List.mem_cons_of_mem _ (List.mem_filter.mpr ⟨xlv_mem.mpr ⟨w, hj, hw, rfl⟩, ?_⟩)), hc⟩
    have h2 : (xcv G w).category = 1 := by rw [xcv_cat]; exact hc
    simp [hji, h2]
theorem xLoc.at {G : XG} {cls : Array Slot} {ls : List Value} (h : xLoc G cls ls) {i : Nat} {v : Value} (hi : ls[i]? = some v) (hv : v ≠ .null) : cls[i]? = some (.val (xcv G v)) := (h.2.2 i v hi hv).1
theorem xFr_w : ∀ r ∈ xFr, xFrC r ∈ xW := fun r hr => xw_in (xFr_ok r hr) (by unfold xFrC; split <;> rfl)
theorem xCf_w : ∀ r ∈ xCf, xCfC r ∈ xW := by decide +kernel
theorem xSr_w : ∀ r ∈ xSr, xSrC r ∈ xW := fun r hr => xw_in (xSr_ok r hr) rfl
theorem xCr_w : ∀ r ∈ xCr, xCrC r ∈ xW := fun r hr => xw_in (xCr_ok r hr) rfl
theorem xKr_w : ∀ r ∈ xKr, xKrC r ∈ xW := fun r hr => xw_in (xKr_ok r hr) rfl
theorem xlay_w {ci : Nat} (hc : ci < 7) : ∀ w ∈ u_ws (xR ci) (xF ci) (xN ci), w ∈ xW := by
  intro w hw
  refine xw_in (xlay_ok ci hc w hw) ?_
  obtain ⟨k, -, rfl⟩ := List.mem_map.mp hw
  unfold u_lay
  split <;> rfl
theorem xinst_w {ci : Nat} (hc : ci < 11) : Cond.instantiable (xR ci) (xS ci) ∈ xW := xw_in (xinst_ok ci hc) rfl
theorem xini_w {o : Nat} (hc : o < 15) : Cond.initialized (xR o) ∈ xW := xw_in (xini_ok o hc) rfl
theorem xC_at {ci : Nat} (hc : ci < 11) : xC[ci]? = some (xR ci, xF ci, xN ci) := by
  have : ci = 0 ∨ ci = 1 ∨ ci = 2 ∨ ci = 3 ∨ ci = 4 ∨ ci = 5 ∨ ci = 6 ∨ ci = 7 ∨ ci = 8 ∨ ci = 9 ∨ ci = 10 := by omega
  rcases this with rfl | rfl | rfl | rfl | rfl | rfl | rfl | rfl | rfl | rfl | rfl <;> rfl
theorem xRep.ns {G : XG} {hp : List AE} {H : Heap} (h : xRep G hp H) : ∀ (q : Nat) (cell : Cell), G.base ≤ q → H[q]? = some cell → cell.vm.isStatics = false := by
  intro q cell hq hc
  have hlt := (Array.getElem?_eq_some_iff.mp hc).1
  rw [h.1] at hlt
  obtain ⟨e, he⟩ : ∃ e, hp[q - G.base]? = some e := ⟨_, List.getElem?_eq_getElem (by omega)⟩
  have hx := h.2 _ _ he
  rw [show G.base + (q - G.base) = q by omega] at hx
  obtain ⟨cell', h1, h2⟩ := hx.some
  cases hc.symm.trans h1
  rw [h2]
  rfl
