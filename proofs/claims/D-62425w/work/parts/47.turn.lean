/-! ===== a message in its turn, one that comes early ===== -/
def mkinds : List Nat := [48, 49, 50, 52, 53, 65, 68, 70, 71]
theorem mcase {P : Nat → Prop} {kind : Nat} (hk : kind ∈ mkinds) (h48 : P 48) (h49 : P 49) (h50 : P 50) (h52 : P 52) (h53 : P 53) (h65 : P 65) (h68 : P 68) (h70 : P 70) (h71 : P 71) : P kind := by
  simp only [mkinds, List.mem_cons, List.not_mem_nil, or_false] at hk
  rcases hk with rfl | rfl | rfl | rfl | rfl | rfl | rfl | rfl | rfl <;> assumption
def tno (t : Nat) : Nat := if t = 48 then 1 else if t = 49 then 2 else if t = 50 then 3 else if t = 52 then 4 else if t = 53 then 5 else if t = 65 then 6 else if t = 68 then 7 else if t = 70 then 8 else 9
def bM (t b : Nat) : Nat := if t = 52 then (if b = 1 then 89 else 78) else b
def msgT (t n d a b v : Nat) (S : XS) : Prop := gR S 300 = tno t ∧ gF S 301 = nI n ∧ gF S 302 = nI d ∧ gF S 303 = nI a ∧ gF S 304 = nI b ∧ gF S 305 = nI v
def msgM (t n d a b v : Nat) (S : XS) : Prop := gF S 808 = nI t ∧ gF S 809 = nI n ∧ gF S 813 = nI d ∧ gF S 810 = nI a ∧ gF S 811 = nI (bM t b) ∧ gF S 812 = nI v
def mok (t n d a b v : Nat) : Prop := t ∈ mkinds ∧ n < 1000000 ∧ d ≤ 1 ∧ a < 1000000 ∧ b < 1000000 ∧ v < 1000000 ∧ (t = 52 → b ≤ 1)
theorem msgT.k {t n d a b v : Nat} {S S' : XS} (h : msgT t n d a b v S) (k : kT S S') : msgT t n d a b v S' := by
  obtain ⟨h1, h2, h3, h4, h5, h6⟩ := h
  exact ⟨(k.2.2.1 300 (by decide) (by decide)).trans h1, (k.1 301 (by decide)).trans h2, (k.1 302 (by decide)).trans h3, (k.1 303 (by decide)).trans h4, (k.1 304 (by decide)).trans h5, (k.1 305 (by decide)).trans h6⟩
theorem msgM.k {t n d a b v : Nat} {S S' : XS} (h : msgM t n d a b v S) (k : kM S S') : msgM t n d a b v S' := by
  obtain ⟨h1, h2, h3, h4, h5, h6⟩ := h
  exact ⟨(k.1 808 (by decide)).trans h1, (k.1 809 (by decide)).trans h2, (k.1 813 (by decide)).trans h3, (k.1 810 (by decide)).trans h4, (k.1 811 (by decide)).trans h5, (k.1 812 (by decide)).trans h6⟩
abbrev AS : Type := (Nat → Nat) × List (List Nat) × List RP × List RP × List Nat
/-- the state after a message in its turn; o: what an order's message does -/
def inT (t a b : Nat) (A : AS) (o : List RP × List Nat × (Nat × Nat × Nat × Nat)) : AS :=
  if t = 49 then (sndc A.1, A.2.1 ++ [msgf 48 A.1 (fld 112 a)], A.2.2)
  else if t = 50 then (sdc A.1 (ans (A.1 2) A.2.2.1 a b), A.2.1 ++ ans (A.1 2) A.2.2.1 a b, A.2.2)
  else if t = 52 then (mvA A.1 a, A.2)
  else if t = 53 then (lvc A.1, lvf A.1 A.2.1, A.2.2)
  else if t = 68 ∨ t = 70 ∨ t = 71 then (cR (up A.1 8 (A.1 8 + 1)), frR (up A.1 8 (A.1 8 + 1)) A.2.1 (A.1 2, o.2.2), A.2.2.1 ++ [(A.1 2, o.2.2)], o.1, o.2.1)
  else A
def TA (A : AS) (q : Nat) (S : XS) (r : List AE) : Prop := TT A.1 A.2.1 A.2.2.1 A.2.2.2.1 A.2.2.2.2 q S r
def MA (A : AS) (S : XS) : Prop := MM A.1 A.2.1 A.2.2.1 A.2.2.2.1 A.2.2.2.2 S
/-- what holds of the numbers (N: calls so far) -/
def aok (A : AS) : Prop := A.1 0 ≤ 1 ∧ A.1 1 ≤ 1000000 ∧ 1 ≤ A.1 1 ∧ 1 ≤ A.1 2 ∧ A.1 2 < 1598 ∧ A.1 3 < 1000000 ∧ rok A.2.2.1 (A.1 2) ∧ ook A.2.2.2.1 A.2.2.2.2 ∧ uok A.2.2.2.2 ∧ A.2.2.2.2.length < 519 ∧ A.2.2.2.1.length ≤ 40 ∧ A.2.1.length < 100000 ∧ A.2.2.1.length < 1600
theorem Y_0 {K : Int32 → Prop} {p : Nat} (h : p = 1 ∨ p = 2 ∨ p = 3 ∨ p = 4 ∨ p = 5 ∨ p = 6) (k : K 0) : w_Y_order p K := ⟨by omega, fun e => by omega, fun _ => ⟨by omega, fun e => by omega, fun _ => ⟨by omega, fun _ => k, fun e => by omega⟩⟩⟩
theorem Y_1 {K : Int32 → Prop} {p : Nat} (h : p = 7 ∨ p = 8 ∨ p = 9) (k : K 1) : w_Y_order p K := ⟨by omega, fun _ => k, fun _ => ⟨by omega, fun _ => k, fun _ => ⟨by omega, fun e => by omega, fun _ => k⟩⟩⟩
section TU
variable {K : XS → List AE → Prop} {S : XS} {r : List AE} {A : AS} {q t n d a b v : Nat} {o : List RP × List Nat × (Nat × Nat × Nat × Nat)}
theorem ord_p {p : Nat} (hp : 1 ≤ p ∧ p ≤ 9) : (xcf 4 p).toInt = (p : Int) - 1 := by
  have : p = 1 ∨ p = 2 ∨ p = 3 ∨ p = 4 ∨ p = 5 ∨ p = 6 ∨ p = 7 ∨ p = 8 ∨ p = 9 := by omega
  rcases this with rfl | rfl | rfl | rfl | rfl | rfl | rfl | rfl | rfl <;> decide
theorem t20 {p : Nat} (g0 : gR S 300 = p) (hp : 1 ≤ p ∧ p ≤ 9) (h1 : p = 1 ∨ p = 6 → K S r) (h2 : p = 2 → w_T_send S r 1 (gF S 303) 0 K) (h3 : p = 3 → w_T_answer S r (gF S 303) (gF S 304) K) (h4 : p = 4 → w_T_moveTo S r (gF S 303) K) (h5 : p = 5 → w_T_send S r 5 0 0 (fun S14 r15 => w_T_goOut S14 r15 K)) (h7 : p = 7 → w_T_place S r K) (h8 : p = 8 ∨ p = 9 → w_T_alter S r K) : w_T_inTurn_20 K S r := by
  unfold w_T_inTurn_20
  rw [g0]
  have ho := ord_p hp
  rw [ho]
  exact ⟨⟨hp.1, by omega⟩, fun e => h1 (by omega), fun e => h2 (by omega), fun e => h3 (by omega), fun e => h4 (by omega), fun e => h5 (by omega), fun e => h1 (by omega), fun e => h7 (by omega), fun e => h8 (by omega), fun e => h8 (by omega)⟩
theorem rT_inTurn (hT : TA A q S r) (hA : aok A) (h0 : A.1 0 = 1) (hm : msgT t n d a b v S) (ok : mok t n d a b v) (hO : (t = 68 ∨ t = 70 ∨ t = 71) → OMr t a b v A.2.2.2.1 A.2.2.2.2 o.1 o.2.1 o.2.2) (hq : q + 2 ≤ 5000) (h : ∀ S' r', TA (inT t a b A o) (q + 2) S' r' → kT S S' → K S' r') : w_T_inTurn S r K := by
  obtain ⟨c, fr, rp, od, us⟩ := A
  obtain ⟨a1, a2, a3, a4, a5, a6, a7, a8, a9, a10, a11, a12, a13⟩ := hA
  obtain ⟨m1, m2, m3, m4, m5, m6, m7⟩ := ok
  obtain ⟨g0, g1, g2, g3, g4, g5⟩ := hm
  simp only at h0 a1 a2 a3 a4 a5 a6 a7 a8 a9 a10 a11 a12 a13 hO
  have hT : TT c fr rp od us q S r := hT
  have hp : 1 ≤ tno t ∧ tno t ≤ 9 := by unfold tno; (repeat' split) <;> omega
  simp only [mkinds, List.mem_cons, List.not_mem_nil, or_false] at m1
  unfold w_T_inTurn
  by_cases hord : t = 68 ∨ t = 70 ∨ t = 71
  · have ht7 : tno t = 7 ∧ t = 68 ∨ tno t = 8 ∧ t = 70 ∨ tno t = 9 ∧ t = 71 := by
      rcases hord with rfl | rfl | rfl
      · exact Or.inl ⟨rfl, rfl⟩
      · exact Or.inr (Or.inl ⟨rfl, rfl⟩)
      · exact Or.inr (Or.inr ⟨rfl, rfl⟩)
    rw [g0]
    refine ⟨⟨hp.1, by omega⟩, Y_1 (by omega) ⟨fun e => absurd e (by decide), fun _ => ?_⟩⟩
    have e17 : gF S 17 = nI (c 8) := hT.1.2.2.2.2.2.2.2.2
    rw [e17, nI_1]
    have hT1 := TT_k8 hT (c 8 + 1)
    have hk1 : kT S (sF S 17 (nI (c 8 + 1))) := kT_sF (by decide)
    have c0 : (up c 8 (c 8 + 1)) 0 = c 0 := up_ne _ _ (by decide)
    have c2 : (up c 8 (c 8 + 1)) 2 = c 2 := up_ne _ _ (by decide)
    have hfin : ∀ S' r', TT (cR (up c 8 (c 8 + 1))) (frR (up c 8 (c 8 + 1)) fr ((up c 8 (c 8 + 1)) 2, o.2.2)) (rp ++ [((up c 8 (c 8 + 1)) 2, o.2.2)]) o.1 o.2.1 (q + 2) S' r' → kT (sF S 17 (nI (c 8 + 1))) S' → K S' r' := by
      intro S' r' e1 e2
      refine h S' r' ?_ (hk1.trans e2)
      unfold inT
      rw [if_neg (by omega), if_neg (by omega), if_neg (by omega), if_neg (by omega), if_pos hord]
      exact e1
    refine t20 (p := tno t) g0 hp (fun e => by omega) (fun e => by omega) (fun e => by omega) (fun e => by omega) (fun e => by omega) (fun e => ?_) (fun e => ?_)
    · have ht : t = 68 := by omega
      subst ht
      exact rT_place hT1 (hO hord) g3 g4 g5 m4 m5 m6 a9 (by omega) (by omega) hq (by omega) hfin
    · have hx : t = 70 ∧ gR S 300 = 8 ∨ t = 71 ∧ gR S 300 = 9 := by
        rcases ht7 with w | w | w
        · omega
        · exact Or.inl ⟨w.2, g0.trans w.1⟩
        · exact Or.inr ⟨w.2, g0.trans w.1⟩
      exact rT_alter hT1 (hO hord) a8 hx g3 g4 g5 m4 m5 m6 a9 a10 (by omega) (by omega) hq (by omega) hfin
  · have ht1 : tno t = 1 ∧ t = 48 ∨ tno t = 2 ∧ t = 49 ∨ tno t = 3 ∧ t = 50 ∨ tno t = 4 ∧ t = 52 ∨ tno t = 5 ∧ t = 53 ∨ tno t = 6 ∧ t = 65 := by
      rcases m1 with rfl | rfl | rfl | rfl | rfl | rfl | rfl | rfl | rfl
      · exact Or.inl ⟨rfl, rfl⟩
      · exact Or.inr (Or.inl ⟨rfl, rfl⟩)
      · exact Or.inr (Or.inr (Or.inl ⟨rfl, rfl⟩))
      · exact Or.inr (Or.inr (Or.inr (Or.inl ⟨rfl, rfl⟩)))
      · exact Or.inr (Or.inr (Or.inr (Or.inr (Or.inl ⟨rfl, rfl⟩))))
      · exact Or.inr (Or.inr (Or.inr (Or.inr (Or.inr ⟨rfl, rfl⟩))))
      · exact absurd (Or.inl rfl) hord
      · exact absurd (Or.inr (Or.inl rfl)) hord
      · exact absurd (Or.inr (Or.inr rfl)) hord
    rw [g0]
    refine ⟨⟨hp.1, by omega⟩, Y_0 (by omega) ⟨fun _ => ?_, fun e => absurd rfl e⟩⟩
    refine t20 (p := tno t) g0 hp (fun e => ?_) (fun e => ?_) (fun e => ?_) (fun e => ?_) (fun e => ?_) (fun e => by omega) (fun e => by omega)
    · refine h S r ?_ (kT.refl S)
      unfold inT
      rw [if_neg (by omega), if_neg (by omega), if_neg (by omega), if_neg (by omega), if_neg hord]
      exact hT.more (by omega)
    · rw [g3]
      refine rT_send (p1 := 1) (bl := fld 112 a) hT h0 (by omega) (by omega) (by omega) (Or.inr (Or.inr ⟨Or.inl rfl, Or.inr ⟨a, rfl, m4, rfl⟩⟩)) (fun S' r' e1 e2 => h S' r' ?_ e2)
      unfold inT
      rw [if_pos (by omega)]
      exact TT.more e1 (by omega)
    · rw [g3, g4]
      refine rT_answer hT a7 (by omega) a4 m4 m5 (by omega) (by omega) (fun S' r' e1 e2 => h S' r' ?_ e2)
      unfold inT
      rw [if_neg (by omega), if_pos (by omega)]
      exact TT.more e1 (by omega)
    · rw [g3]
      refine rT_moveTo hT (by omega) (by omega) (by omega) (fun S' e1 e2 => h S' r ?_ e2)
      unfold inT
      rw [if_neg (by omega), if_neg (by omega), if_pos (by omega)]
      exact TT.more e1 (by omega)
    · refine rT_leave hT (by omega) (by omega) (by omega) (by omega) (fun S' r' e1 e2 => h S' r' ?_ e2)
      unfold inT
      rw [if_neg (by omega), if_neg (by omega), if_neg (by omega), if_pos (by omega)]
      exact TT.more e1 (by omega)
/-- one that comes early -/
def erB (t a b : Nat) (A : AS) : AS := if t = 50 then (sdc A.1 (ans (A.1 2) A.2.2.1 a b), A.2.1 ++ ans (A.1 2) A.2.2.1 a b, A.2.2) else A
def erC (n : Nat) (B : AS) : AS := if B.1 3 = 0 then (up (up (sndc B.1) 7 (B.1 4)) 3 n, B.2.1 ++ [msgf 50 B.1 (fld 7 (B.1 1) ++ fld 16 0)], B.2.2) else (up B.1 3 (if B.1 3 < n then n else B.1 3), B.2)
def erl (t n a b : Nat) (A : AS) : AS := if t = 53 then (lvc A.1, lvf A.1 A.2.1, A.2.2) else erC n (erB t a b A)
theorem sdc_ne (c : Nat → Nat) (fs : List (List Nat)) {j : Nat} (h : j ≠ 6) : sdc c fs j = c j := by
  unfold sdc
  split
  · rfl
  · exact up_ne _ _ h
theorem ago_len {e : Nat} : ∀ (rp : List RP) (n : Nat), (ago e rp n).length ≤ 2 * rp.length + 1
  | [], n => by unfold ago fup; split <;> simp
  | x :: xs, n => by
    have h1 := ago_len (e := e) xs (x.1 + 1)
    have h2 := ago_len (e := e) xs n
    have h3 : ∀ a b, (fup a b).length ≤ 1 := fun a b => by unfold fup; split <;> simp
    have h4 := h3 n x.1
    have h5 := h3 n (e + 1)
    unfold ago
    split
    · split
      · simp only [List.length_append, List.length_cons]; omega
      · simp only [List.length_cons]; omega
    · simp only [List.length_cons]; omega
theorem rT_ab48 {c : Nat → Nat} {fr : List (List Nat)} {rp od : List RP} {us : List Nat} (hT : TT c fr rp od us q S r) (h0 : c 0 = 1) (h1 : c 1 < 1000000) (hc : c 2 < 1600) (h3 : c 3 < 1000000) (g1 : gF S 301 = nI n) (hn : n < 1000000) (hn1 : 1 ≤ n) (hq : q ≤ 5000) (hfr : fr.length < 200000) (h : ∀ S' r', TA (erC n (c, fr, rp, od, us)) q S' r' → kT S S' → K S' r') : w_T_above_48 K S r := by
  have e66 : ∀ {c : Nat → Nat} {fr : List (List Nat)} {S r}, TT c fr rp od us q S r → c 3 < 1000000 → gF S 301 = nI n → (∀ S' r', TT (up c 3 (if c 3 < n then n else c 3)) fr rp od us q S' r' → kT S S' → K S' r') → w_T_above_66 K S r := by
    intro c fr S r hT h3 g1 h
    have e8 : gF S 8 = nI (c 3) := hT.1.2.2.2.1
    unfold w_T_above_66
    rw [g1, e8]
    have ea : (if nI (c 3) < nI n then nI n else nI (c 3)) = nI (if c 3 < n then n else c 3) := by
      by_cases w : c 3 < n
      · rw [if_pos w, if_pos (nI_lt w (by omega))]
      · rw [if_neg w, if_neg (nI_nlt (by omega) (by omega))]
    rw [ea]
    exact h _ _ (TT_k3 hT _) (kT_sF (by decide))
  refine ⟨fun e => ?_, fun _ => ⟨fun e => ?_, fun e => ?_⟩⟩
  · rw [hT.1.1, h0] at e
    exact absurd e (by decide)
  · rw [hT.1.2.2.2.1, li_0, nI_eq (by omega) (by omega)] at e
    refine e66 hT h3 g1 (fun S' r' f1 f2 => h S' r' ?_ f2)
    unfold erC
    rw [if_neg e]
    exact f1
  · rw [hT.1.2.2.2.1, li_0, nI_eq (by omega) (by omega)] at e
    refine rT_ask hT h0 h1 (by omega) hq (by omega) (fun S1 r1 f1 f2 => ?_)
    have z3 : (up (sndc c) 7 (c 4)) 3 = 0 := e
    refine e66 f1 (by omega) ((f2.1 301 (by decide)).trans g1) (fun S' r' f3 f4 => h S' r' ?_ (f2.trans f4))
    unfold erC
    rw [if_pos e]
    rw [z3, if_pos (by omega)] at f3
    exact f3
theorem rT_above (hT : TA A q S r) (hA : aok A) (h0 : A.1 0 = 1) (hm : msgT t n d a b v S) (ok : mok t n d a b v) (hn1 : A.1 1 < n) (hq : q ≤ 5000) (h : ∀ S' r', TA (erl t n a b A) q S' r' → kT S S' → K S' r') : w_T_above S r K := by
  obtain ⟨c, fr, rp, od, us⟩ := A
  obtain ⟨a1, a2, a3, a4, a5, a6, a7, a8, a9, a10, a11, a12, a13⟩ := hA
  obtain ⟨m1, m2, m3, m4, m5, m6, m7⟩ := ok
  obtain ⟨g0, g1, g2, g3, g4, g5⟩ := hm
  simp only at h0 a1 a2 a3 a4 a5 a6 a7 a8 a9 a10 a11 a12 a13 hn1
  have hT : TT c fr rp od us q S r := hT
  have hp : 1 ≤ tno t ∧ tno t ≤ 9 := by unfold tno; (repeat' split) <;> omega
  have t3 : tno t = 3 ↔ t = 50 := by
    simp only [mkinds, List.mem_cons, List.not_mem_nil, or_false] at m1
    rcases m1 with rfl | rfl | rfl | rfl | rfl | rfl | rfl | rfl | rfl <;> decide
  have t5 : tno t = 5 ↔ t = 53 := by
    simp only [mkinds, List.mem_cons, List.not_mem_nil, or_false] at m1
    rcases m1 with rfl | rfl | rfl | rfl | rfl | rfl | rfl | rfl | rfl <;> decide
  unfold w_T_above
  rw [g0]
  refine ⟨by omega, fun e => ⟨by omega, fun f => ?_, fun f => ?_⟩, fun e => ?_⟩
  · refine rT_ab48 hT h0 (by omega) (by omega) a6 g1 m2 (by omega) hq (by omega) (fun S' r' e1 e2 => h S' r' ?_ e2)
    unfold erl erB
    rw [if_neg (fun w => f (t5.mpr w)), if_neg (fun w => e (t3.mpr w))]
    exact e1
  · refine rT_leave hT (by omega) (by omega) hq (by omega) (fun S' r' e1 e2 => ?_)
    have z0 : gF S' 5 = 0 := by
      rw [e1.1.1]
      unfold lvc
      rw [if_pos h0]
      rfl
    refine ⟨fun _ => h S' r' ?_ e2, fun w => absurd z0 w⟩
    unfold erl
    rw [if_pos (t5.mp f)]
    exact e1
  · rw [g3, g4]
    have hl := ago_len (e := lst' (c 2) b) rp (if a < 1 then 1 else a)
    refine rT_answer hT a7 (by omega) a4 m4 m5 hq (by omega) (fun S1 r1 e1 e2 => ?_)
    have s0 := sdc_ne c (ans (c 2) rp a b) (j := 0) (by decide)
    have s1 := sdc_ne c (ans (c 2) rp a b) (j := 1) (by decide)
    have s2 := sdc_ne c (ans (c 2) rp a b) (j := 2) (by decide)
    have s3 := sdc_ne c (ans (c 2) rp a b) (j := 3) (by decide)
    refine rT_ab48 e1 (by omega) (by omega) (by omega) (by omega) ((e2.1 301 (by decide)).trans g1) m2 (by omega) hq (by rw [List.length_append]; unfold ans; omega) (fun S' r' f1 f2 => h S' r' ?_ (e2.trans f2))
    have t50 := t3.mp e
    unfold erl erB
    rw [if_neg (by omega), if_pos t50]
    exact f1
end TU
