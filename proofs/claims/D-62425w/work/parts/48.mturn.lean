/-! ===== the model: a message in its turn, one that comes early ===== -/
theorem up_self (c : Nat → Nat) (k : Nat) : up c k (c k) = c := by
  funext j
  unfold up
  split
  · rename_i e; rw [e]
  · rfl
theorem up_up (c : Nat → Nat) (k x y : Nat) : up (up c k x) k y = up c k y := by
  funext j
  unfold up
  split <;> rfl
/-- as in the component, but that missing is settled later -/
def inM (t a b : Nat) (A : AS) (o : List RP × List Nat × (Nat × Nat × Nat × Nat)) : AS := if t = 52 then (up A.1 1 (if A.1 1 < a then a else A.1 1), A.2) else inT t a b A o
section MT
variable {K : Int32 → XS → List AE → Prop} {S : XS} {r : List AE} {A : AS} {t n d a b v : Nat} {o : List RP × List Nat × (Nat × Nat × Nat × Nat)}
theorem m324 (g : gF S 808 = nI t) (ht : t < 1000) (hn : ¬ (t = 68 ∨ t = 70 ∨ t = 71)) (h : K 2 S r) : w_M_taken_324 K S r := by
  unfold w_M_taken_324
  rw [g]
  refine ⟨fun e => ?_, fun _ => ⟨fun e => ?_, fun _ => ⟨fun _ => h, fun e => ?_⟩⟩⟩
  · rw [li_68, nI_eq (by omega) (by omega)] at e; omega
  · rw [li_70, nI_eq (by omega) (by omega)] at e; omega
  · rw [li_71, nI_eq (by omega) (by omega)] at e; omega
theorem m324o (g : gF S 808 = nI t) (ht : t < 1000) (hy : t = 68 ∨ t = 70 ∨ t = 71) (h : w_M_orderMessage S r (fun S2 r3 => K 2 S2 r3)) : w_M_taken_324 K S r := by
  unfold w_M_taken_324
  rw [g]
  refine ⟨fun e => h, fun e1 => ⟨fun e => h, fun e2 => ⟨fun e3 => ?_, fun e => h⟩⟩⟩
  rcases hy with rfl | rfl | rfl
  · exact absurd rfl e1
  · exact absurd rfl e2
  · exact absurd rfl e3
theorem m311 (g : gF S 808 = nI t) (ht : t < 1000) (hn : t ≠ 53) (h : w_M_taken_324 K S r) : w_M_taken_311 K S r := by
  refine ⟨fun _ => h, fun e => ?_⟩
  rw [g, li_53, nI_eq (by omega) (by omega)] at e; omega
theorem m283 (g : gF S 808 = nI t) (ht : t < 1000) (hn : t ≠ 52) (h : w_M_taken_311 K S r) : w_M_taken_283 K S r := by
  refine ⟨fun _ => h, fun e => ?_⟩
  rw [g, li_52, nI_eq (by omega) (by omega)] at e; omega
theorem m262 (g : gF S 808 = nI t) (ht : t < 1000) (hn : t ≠ 50) (h : w_M_taken_283 K S r) : w_M_taken_262 K S r := by
  refine ⟨fun _ => h, fun e => ?_⟩
  rw [g, li_50, nI_eq (by omega) (by omega)] at e; omega
theorem rM_inTurn (hM : MA A S) (hA : aok A) (h0 : A.1 0 = 1) (hm : msgM t n d a b v S) (ok : mok t n d a b v) (hO : (t = 68 ∨ t = 70 ∨ t = 71) → OMr t a b v A.2.2.2.1 A.2.2.2.2 o.1 o.2.1 o.2.2) (h : ∀ S', MA (inM t a b A o) S' → kM S S' → K 2 S' r) : ((¬ gF S 808 = (49 : Int32) → w_M_taken_262 K S r) ∧ (gF S 808 = (49 : Int32) → w_M_send S r 48 (gF S 810) 0 0 0 (fun S31 r32 => w_M_taken_262 K S31 r32))) := by
  obtain ⟨c, fr, rp, od, us⟩ := A
  obtain ⟨a1, a2, a3, a4, a5, a6, a7, a8, a9, a10, a11, a12, a13⟩ := hA
  obtain ⟨m1, m2, m3, m4, m5, m6, m7⟩ := ok
  have hm' := hm
  obtain ⟨g0, g1, g2, g3, g4, g5⟩ := hm
  simp only at h0 a1 a2 a3 a4 a5 a6 a7 a8 a9 a10 a11 a12 a13 hO
  have hM : MM c fr rp od us S := hM
  have hbb : bM t b < 1000000 := by unfold bM; (repeat' split) <;> omega
  have ht : t < 1000 := by
    simp only [mkinds, List.mem_cons, List.not_mem_nil, or_false] at m1
    omega
  refine ⟨fun e => ?_, fun e => ?_⟩
  · have h49 : t ≠ 49 := by
      rintro rfl
      exact e g0
    by_cases h50 : t = 50
    · refine ⟨fun w => absurd (by rw [g0, h50]; rfl) w, fun _ => ?_⟩
      rw [g3, g4, show bM t b = b by unfold bM; rw [if_neg (by omega)]]
      refine rM_answer hM (by omega) a4 a7 m4 m5 (by omega) (fun S' e1 e2 => ?_)
      have gg := (hm'.k e2).1
      refine m283 gg ht (by omega) (m311 gg ht (by omega) (m324 gg ht (by omega) (h S' ?_ e2)))
      unfold inM inT
      rw [if_neg (by omega), if_neg (by omega), if_pos h50]
      exact e1
    · refine m262 g0 ht h50 ?_
      by_cases h52 : t = 52
      · have nx : ∀ S', MA (inM t a b (c, fr, rp, od, us) o) S' → kM S S' → w_M_taken_311 K S' r := by
          intro S' e1 e2
          have gg := (hm'.k e2).1
          exact m311 gg ht (by omega) (m324 gg ht (by omega) (h S' e1 e2))
        unfold inM at nx
        rw [if_pos h52] at nx
        have e20 : gF S 820 = nI (c 1) := hM.1.2.1
        refine ⟨fun w => absurd (by rw [g0, h52]; rfl) w, fun _ => ⟨fun w => ?_, fun w => ?_⟩⟩
        · rw [g3, e20, nI_leI (by omega) (by omega)] at w
          refine nx S ?_ (ke.refl _ _ _)
          show MM (up c 1 (if c 1 < a then a else c 1)) fr rp od us S
          rw [if_neg (by omega), up_self]
          exact hM
        · rw [g3, e20, nI_leI (by omega) (by omega)] at w
          rw [g3]
          refine nx _ ?_ (ke_sF (by decide))
          show MM (up c 1 (if c 1 < a then a else c 1)) fr rp od us _
          rw [if_pos (by omega)]
          exact MM_k1 hM a
      · refine m283 g0 ht h52 ?_
        by_cases h53 : t = 53
        · refine ⟨fun w => absurd (by rw [g0, h53]; rfl) w, fun _ => ?_⟩
          refine rM_leave hM (by omega) (by omega) a7 (by omega) (fun S' e1 e2 => ?_)
          have gg := (hm'.k e2).1
          refine m324 gg ht (by omega) (h S' ?_ e2)
          unfold inM inT
          rw [if_neg (by omega), if_neg (by omega), if_neg (by omega), if_neg (by omega), if_pos h53]
          exact e1
        · refine m311 g0 ht h53 ?_
          by_cases hord : t = 68 ∨ t = 70 ∨ t = 71
          · refine m324o g0 ht hord ?_
            rw [show bM t b = b by unfold bM; rw [if_neg h52]] at g4
            refine rM_om hM (hO hord) a8 hord g0 g3 g4 g5 m4 m5 m6 a9 a10 (by omega) (by omega) a7 (by omega) (fun S' e1 e2 => h S' ?_ e2)
            unfold inM inT
            rw [if_neg (by omega), if_neg (by omega), if_neg (by omega), if_neg (by omega), if_neg (by omega), if_pos hord]
            exact e1
          · refine m324 g0 ht hord (h S ?_ (ke.refl _ _ _))
            unfold inM inT
            rw [if_neg (by omega), if_neg (by omega), if_neg (by omega), if_neg (by omega), if_neg (by omega), if_neg hord]
            exact hM
  · rw [g0, li_49, nI_eq (by omega) (by omega)] at e
    rw [g3]
    have l1 := fld_le (t := 112) (by decide) m4
    refine rM_snd (kind := 48) (bl := fld 112 a) hM h0 (by omega) a7 (by omega) (by decide) (by decide) (BD_one (kind := 48) (a := a) (by decide) (by decide) (by decide) (by omega) rfl) (fld_b _ _) (by omega) (fun S' e1 e2 => ?_)
    have gg := (hm'.k e2).1
    refine m262 gg ht (by omega) (m283 gg ht (by omega) (m311 gg ht (by omega) (m324 gg ht (by omega) (h S' ?_ e2))))
    unfold inM inT
    rw [if_neg (by omega), if_pos e]
    exact e1
theorem m195 {c : Nat → Nat} {fr : List (List Nat)} {rp od : List RP} {us : List Nat} (hM : MM c fr rp od us S) (h0 : c 0 = 1) (h3 : c 3 < 1000000) (g1 : gF S 809 = nI n) (hn : n < 1000000) (h : ∀ S', MM (up c 3 (if c 3 < n then n else c 3)) fr rp od us S' → kM S S' → K 3 S' r) : w_M_taken_195 K S r := by
  have e26 : gF S 826 = nI (c 3) := hM.1.2.2.2.1
  refine ⟨fun e => ?_, fun _ => ?_⟩
  · rw [hM.1.1, h0] at e
    exact absurd e (by decide)
  · rw [g1, e26]
    refine ⟨fun e => ?_, fun e => ?_⟩
    · rw [nI_leI (by omega) (by omega)] at e
      rw [if_neg (by omega)] at h
      exact h _ (MM_k3 hM (c 3)) (ke_sF (by decide))
    · rw [nI_leI (by omega) (by omega)] at e
      rw [if_pos (by omega)] at h
      exact h _ (MM_k3 hM n) (ke_sF (by decide))
theorem m177 {c : Nat → Nat} {fr : List (List Nat)} {rp od : List RP} {us : List Nat} (hM : MM c fr rp od us S) (h0 : c 0 = 1) (h1 : c 1 < 1000000) (hc : c 2 < 1600) (hr : rok rp (c 2)) (h3 : c 3 < 1000000) (g1 : gF S 809 = nI n) (hn : n < 1000000) (hn1 : 1 ≤ n) (hfr : fr.length < 200000) (h : ∀ S', MA (erC n (c, fr, rp, od, us)) S' → kM S S' → K 3 S' r) : w_M_taken_177 K S r := by
  have e26 : gF S 826 = nI (c 3) := hM.1.2.2.2.1
  refine ⟨fun e => ?_, fun _ => ⟨fun e => ?_, fun e => ?_⟩⟩
  · rw [hM.1.1, h0] at e
    exact absurd e (by decide)
  · rw [e26, li_0, nI_eq (by omega) (by omega)] at e
    refine m195 hM h0 h3 g1 hn (fun S' e1 e2 => h S' ?_ e2)
    unfold erC
    rw [if_neg e]
    exact e1
  · rw [e26, li_0, nI_eq (by omega) (by omega)] at e
    refine rM_ask hM h0 h1 hc hr (by omega) (fun S1 f1 f2 => ?_)
    have z3 : (up (sndc c) 7 (c 4)) 3 = 0 := e
    refine m195 f1 h0 (by omega) ((f2.1 809 (by decide)).trans g1) hn (fun S' e1 e2 => h S' ?_ (kM.trans f2 e2))
    unfold erC
    rw [if_pos e]
    rw [z3, if_pos (by omega)] at e1
    exact e1
theorem rM_early (hM : MA A S) (hA : aok A) (h0 : A.1 0 = 1) (hm : msgM t n d a b v S) (ok : mok t n d a b v) (hn1 : A.1 1 < n) (h : ∀ S', (MA (erl t n a b A) S') → kM S S' → K 3 S' r) : ((¬ gF S 808 = (50 : Int32) → w_M_taken_164 K S r) ∧ (gF S 808 = (50 : Int32) → w_M_answer S r (gF S 810) (gF S 811) (fun S35 r36 => w_M_taken_164 K S35 r36))) := by
  obtain ⟨c, fr, rp, od, us⟩ := A
  obtain ⟨a1, a2, a3, a4, a5, a6, a7, a8, a9, a10, a11, a12, a13⟩ := hA
  obtain ⟨m1, m2, m3, m4, m5, m6, m7⟩ := ok
  have hm' := hm
  obtain ⟨g0, g1, g2, g3, g4, g5⟩ := hm
  simp only at h0 a1 a2 a3 a4 a5 a6 a7 a8 a9 a10 a11 a12 a13 hn1
  have hM : MM c fr rp od us S := hM
  have ht : t < 1000 := by
    simp only [mkinds, List.mem_cons, List.not_mem_nil, or_false] at m1
    omega
  refine ⟨fun e => ?_, fun e => ?_⟩
  · have h50 : t ≠ 50 := by
      rintro rfl
      exact e g0
    refine ⟨fun f => ?_, fun f => ?_⟩
    · have h53 : t ≠ 53 := by
        rintro rfl
        exact f g0
      refine m177 hM h0 (by omega) (by omega) a7 a6 g1 m2 (by omega) (by omega) (fun S' e1 e2 => h S' ?_ e2)
      unfold erl erB
      rw [if_neg h53, if_neg h50]
      exact e1
    · rw [g0, li_53, nI_eq (by omega) (by omega)] at f
      refine rM_leave hM (by omega) (by omega) a7 (by omega) (fun S1 e1 e2 => ?_)
      have z0 : gF S1 819 = 0 := by
        rw [e1.1.1]
        unfold lvc
        rw [if_pos h0]
        rfl
      have z3 : gF S1 826 = 0 := by
        rw [e1.1.2.2.2.1]
        unfold lvc
        rw [if_pos h0]
        rfl
      refine ⟨fun _ => ⟨fun _ => ?_, fun w => absurd z0 w⟩, fun w => absurd z0 w⟩
      refine h _ ?_ (kM.trans e2 (ke_sF (by decide)))
      unfold erl
      rw [if_pos f, z3]
      have := MM_k3 e1 0
      have e3 : up (lvc c) 3 0 = lvc c := by
        have : lvc c 3 = 0 := by unfold lvc; rw [if_pos h0]; rfl
        rw [← this]
        exact up_self _ _
      rw [e3] at this
      exact this
  · rw [g0, li_50, nI_eq (by omega) (by omega)] at e
    rw [g3, g4, show bM t b = b by unfold bM; rw [if_neg (by omega)]]
    have hl := ago_len (e := lst' (c 2) b) rp (if a < 1 then 1 else a)
    refine rM_answer hM (by omega) a4 a7 m4 m5 (by omega) (fun S1 e1 e2 => ?_)
    have s0 := sdc_ne c (ans (c 2) rp a b) (j := 0) (by decide)
    have s1 := sdc_ne c (ans (c 2) rp a b) (j := 1) (by decide)
    have s2 := sdc_ne c (ans (c 2) rp a b) (j := 2) (by decide)
    have s3 := sdc_ne c (ans (c 2) rp a b) (j := 3) (by decide)
    have gg := (hm'.k e2).1
    refine ⟨fun _ => ?_, fun w => ?_⟩
    · refine m177 e1 (by omega) (by omega) (by omega) (by rw [s2]; exact a7) (by omega) ((e2.1 809 (by decide)).trans g1) m2 (by omega) (by rw [List.length_append]; unfold ans; omega) (fun S' f1 f2 => h S' ?_ (kM.trans e2 f2))
      unfold erl erB
      rw [if_neg (by omega), if_pos e]
      exact f1
    · rw [gg, li_53, nI_eq (by omega) (by omega)] at w
      omega
end MT
