/-! ===== numbers: Int32 as nI of a natural number ===== -/
theorem li_0 : (0 : Int32) = nI 0 := rfl
theorem li_1 : (1 : Int32) = nI 1 := rfl
theorem li_2 : (2 : Int32) = nI 2 := rfl
theorem li_3 : (3 : Int32) = nI 3 := rfl
theorem li_4 : (4 : Int32) = nI 4 := rfl
theorem li_5 : (5 : Int32) = nI 5 := rfl
theorem li_6 : (6 : Int32) = nI 6 := rfl
theorem li_7 : (7 : Int32) = nI 7 := rfl
theorem li_8 : (8 : Int32) = nI 8 := rfl
theorem li_9 : (9 : Int32) = nI 9 := rfl
theorem li_10 : (10 : Int32) = nI 10 := rfl
theorem li_11 : (11 : Int32) = nI 11 := rfl
theorem li_12 : (12 : Int32) = nI 12 := rfl
theorem li_14 : (14 : Int32) = nI 14 := rfl
theorem li_15 : (15 : Int32) = nI 15 := rfl
theorem li_16 : (16 : Int32) = nI 16 := rfl
theorem li_20 : (20 : Int32) = nI 20 := rfl
theorem li_24 : (24 : Int32) = nI 24 := rfl
theorem li_32 : (32 : Int32) = nI 32 := rfl
theorem li_33 : (33 : Int32) = nI 33 := rfl
theorem li_34 : (34 : Int32) = nI 34 := rfl
theorem li_35 : (35 : Int32) = nI 35 := rfl
theorem li_36 : (36 : Int32) = nI 36 := rfl
theorem li_38 : (38 : Int32) = nI 38 := rfl
theorem li_39 : (39 : Int32) = nI 39 := rfl
theorem li_40 : (40 : Int32) = nI 40 := rfl
theorem li_41 : (41 : Int32) = nI 41 := rfl
theorem li_43 : (43 : Int32) = nI 43 := rfl
theorem li_48 : (48 : Int32) = nI 48 := rfl
theorem li_49 : (49 : Int32) = nI 49 := rfl
theorem li_50 : (50 : Int32) = nI 50 := rfl
theorem li_52 : (52 : Int32) = nI 52 := rfl
theorem li_53 : (53 : Int32) = nI 53 := rfl
theorem li_54 : (54 : Int32) = nI 54 := rfl
theorem li_56 : (56 : Int32) = nI 56 := rfl
theorem li_57 : (57 : Int32) = nI 57 := rfl
theorem li_61 : (61 : Int32) = nI 61 := rfl
theorem li_65 : (65 : Int32) = nI 65 := rfl
theorem li_68 : (68 : Int32) = nI 68 := rfl
theorem li_70 : (70 : Int32) = nI 70 := rfl
theorem li_71 : (71 : Int32) = nI 71 := rfl
theorem li_78 : (78 : Int32) = nI 78 := rfl
theorem li_89 : (89 : Int32) = nI 89 := rfl
theorem li_99 : (99 : Int32) = nI 99 := rfl
theorem li_100 : (100 : Int32) = nI 100 := rfl
theorem li_108 : (108 : Int32) = nI 108 := rfl
theorem li_112 : (112 : Int32) = nI 112 := rfl
theorem li_120 : (120 : Int32) = nI 120 := rfl
theorem li_123 : (123 : Int32) = nI 123 := rfl
theorem li_126 : (126 : Int32) = nI 126 := rfl
theorem li_127 : (127 : Int32) = nI 127 := rfl
theorem li_151 : (151 : Int32) = nI 151 := rfl
theorem li_255 : (255 : Int32) = nI 255 := rfl
theorem li_256 : (256 : Int32) = nI 256 := rfl
theorem li_999999 : (999999 : Int32) = nI 999999 := rfl
theorem li_1000000 : (1000000 : Int32) = nI 1000000 := rfl
theorem nI_mul (a b : Nat) : nI a * nI b = nI (a * b) := (Int32.ofNat_mul a b).symm
theorem nI_sub {a b : Nat} (h : b ≤ a) : nI a - nI b = nI (a - b) := by
  have h1 : nI a = nI (a - b) + nI b := by rw [nI_add, Nat.sub_add_cancel h]
  rw [h1, Int32.add_sub_cancel]
theorem nI_div {a b : Nat} (ha : a < 2 ^ 31) (hb : b < 2 ^ 31) : nI a / nI b = nI (a / b) := by
  apply Int32.toInt_inj.mp
  rw [Int32.toInt_div_of_ne_left]
  · rw [nI_toInt ha, nI_toInt hb, nI_toInt (Nat.lt_of_le_of_lt (Nat.div_le_self a b) ha)]
    exact (Int.natCast_ediv a b).symm ▸ (Int.tdiv_eq_ediv_of_nonneg (Int.natCast_nonneg a))
  · intro h
    have h2 := congrArg Int32.toInt h
    rw [nI_toInt ha, show (Int32.minValue).toInt = -2147483648 by decide] at h2
    omega
theorem nI_byte : ∀ p : Nat, p < 128 → vp_nar .byte ((nI p).toInt8.toInt32) = nI p := by decide +kernel
theorem nI_byte1 : ∀ p : Nat, p < 128 → vp_nar .byte (nI p) = nI p := by decide +kernel
theorem nI_byte2 : ∀ p : Nat, p < 128 → (nI p).toInt8.toInt32 = nI p := by decide +kernel
theorem nI_and255 {s : Nat} : nI s &&& nI 255 = nI (s % 256) := by
  have h : nI s &&& nI 255 = nI (s &&& 255) := by
    apply Int32.toBitVec_inj.1
    show BitVec.ofNat 32 s &&& BitVec.ofNat 32 255 = BitVec.ofNat 32 (s &&& 255)
    apply BitVec.eq_of_getLsbD_eq
    intro i hi
    simp [hi]
  rw [h, show (255 : Nat) = 2 ^ 8 - 1 by decide, Nat.and_two_pow_sub_one_eq_mod]
theorem nI_mod {a b : Nat} (ha : a < 2 ^ 31) (hb : b < 2 ^ 31) : nI a - nI a / nI b * nI b = nI (a % b) := by
  rw [nI_div ha hb, nI_mul, nI_sub (Nat.div_mul_le_self a b)]
  congr 1
  have := Nat.div_add_mod a b
  rw [Nat.mul_comm] at this
  omega
theorem upd_at (f : Nat → Int32) (k : Nat) (x : Int32) : upd f k x k = x := by simp [upd]
theorem upd_ne (f : Nat → Int32) {k j : Nat} (x : Int32) (h : j ≠ k) : upd f k x j = f j := by simp [upd, h]
/-- digits -/
def dgo : Nat → Nat → List Nat
  | 0, _ => []
  | k + 1, v => (48 + v / 10 ^ k % 10) :: dgo k v
def plc (v : Nat) : Nat := if v < 10 then 1 else if v < 100 then 2 else if v < 1000 then 3 else if v < 10000 then 4 else if v < 100000 then 5 else if v < 1000000 then 6 else 7
def digs (v : Nat) : List Nat := dgo (plc v) v
def fld (t v : Nat) : List Nat := digs t ++ 61 :: digs v ++ [1]
def ltr (t c : Nat) : List Nat := digs t ++ [61, c, 1]
theorem dgo_len (k v : Nat) : (dgo k v).length = k := by
  induction k with
  | zero => rfl
  | succ k ih => simp [dgo, ih]
theorem digs_len (v : Nat) : (digs v).length = plc v := dgo_len _ _
theorem plc_pos (v : Nat) : 1 ≤ plc v ∧ plc v ≤ 7 := by unfold plc; (repeat' split) <;> omega
theorem plc_small {v : Nat} (h : v < 1000000) : plc v ≤ 6 := by unfold plc; (repeat' split) <;> omega
theorem plc_up {v : Nat} (h : v < 10000000) : v < 10 ^ plc v := by unfold plc; (repeat' split) <;> omega
theorem plc_dn {v : Nat} : plc v = 1 ∨ 10 ^ (plc v - 1) ≤ v := by unfold plc; (repeat' split) <;> simp <;> omega
theorem dgo_byte (k v : Nat) : ∀ x ∈ dgo k v, x < 128 := by
  induction k with
  | zero => intro x hx; cases hx
  | succ k ih =>
    intro x hx
    rcases List.mem_cons.mp hx with rfl | hx
    · omega
    · exact ih x hx
theorem p10 {k : Nat} (h : k ≤ 8) : 10 ^ k ≤ 100000000 := Nat.pow_le_pow_right (by decide) h
theorem p10_pos (k : Nat) : 0 < 10 ^ k := Nat.pow_pos (by decide)
theorem fld_len (t v : Nat) : (fld t v).length = plc t + plc v + 2 := by simp [fld, digs_len]; omega
theorem ltr_len (t c : Nat) : (ltr t c).length = plc t + 3 := by simp [ltr, digs_len]
