/-! ===== taking a message that is none that is garbled ===== -/
def hc1 (c : Nat → Nat) : Nat → Nat := if c 0 = 1 then up c 5 (c 4) else c
def lgc (c : Nat → Nat) : Nat → Nat := up (up c 0 1) 5 (c 4)
def lgn (a : Nat) (A : AS) : AS := if A.1 0 = 1 then A else (sndc (lgc A.1), A.2.1 ++ [msgf 65 (lgc A.1) (fld 108 a)], A.2.2)
def stl (c : Nat → Nat) : Nat → Nat := up c 3 (if c 1 ≤ c 3 ∧ c 0 = 1 then c 3 else 0)
def tkT (t n d a b : Nat) (A : AS) (o : List RP × List Nat × (Nat × Nat × Nat × Nat)) : Nat × AS :=
  if A.1 0 = 0 ∧ t ≠ 65 then (1, A)
  else if t = 52 ∧ b = 0 then ((if A.1 1 < a then 2 else 1), (mvA (hc1 A.1) a, A.2))
  else if n < A.1 1 then (if d = 0 then (4, (lvc (hc1 A.1), lvf (hc1 A.1) A.2.1, A.2.2)) else (1, (hc1 A.1, A.2)))
  else if A.1 1 < n then (3, erl t n a b (lgn a (hc1 A.1, A.2)))
  else (2, inT t a b (mvA (lgn a (hc1 A.1, A.2)).1 (A.1 1 + 1), (lgn a (hc1 A.1, A.2)).2) o)
def tkM (t n d a b : Nat) (A : AS) (o : List RP × List Nat × (Nat × Nat × Nat × Nat)) : Nat × AS :=
  if A.1 0 = 0 ∧ t ≠ 65 then (1, A)
  else if t = 52 ∧ b = 0 then (if A.1 1 < a then (2, (up (hc1 A.1) 1 a, A.2)) else (1, (hc1 A.1, A.2)))
  else if n < A.1 1 then (if d = 0 then (4, (lvc (hc1 A.1), lvf (hc1 A.1) A.2.1, A.2.2)) else (1, (hc1 A.1, A.2)))
  else if A.1 1 < n then (3, erl t n a b (lgn a (hc1 A.1, A.2)))
  else (2, inM t a b (up (lgn a (hc1 A.1, A.2)).1 1 (A.1 1 + 1), (lgn a (hc1 A.1, A.2)).2) o)
theorem hc1_ne (c : Nat → Nat) {j : Nat} (h : j ≠ 5) : hc1 c j = c j := by
  unfold hc1
  split
  · exact up_ne _ _ h
  · rfl
theorem lgn_ok {a : Nat} {A : AS} (h : aok A) (h2 : A.1 2 < 1590) (hf : A.2.1.length < 90000) : aok (lgn a (hc1 A.1, A.2)) ∧ (lgn a (hc1 A.1, A.2)).1 0 = 1 ∧ (lgn a (hc1 A.1, A.2)).1 1 = A.1 1 ∧ (lgn a (hc1 A.1, A.2)).1 3 = A.1 3 ∧ (lgn a (hc1 A.1, A.2)).2.2 = A.2.2 ∧ (lgn a (hc1 A.1, A.2)).1 2 ≤ A.1 2 + 1 := by
  obtain ⟨c, fr, rp, od, us⟩ := A
  obtain ⟨a1, a2, a3, a4, a5, a6, a7, a8, a9, a10, a11, a12, a13⟩ := h
  simp only at *
  unfold lgn
  have e0 := hc1_ne c (j := 0) (by decide)
  have e1 := hc1_ne c (j := 1) (by decide)
  have e2 := hc1_ne c (j := 2) (by decide)
  have e3 := hc1_ne c (j := 3) (by decide)
  by_cases h0 : hc1 c 0 = 1
  · rw [if_pos h0]
    exact ⟨⟨by show hc1 c 0 ≤ 1; omega, by show hc1 c 1 ≤ _; omega, by show 1 ≤ hc1 c 1; omega, by show 1 ≤ hc1 c 2; omega, by show hc1 c 2 < _; omega, by show hc1 c 3 < _; omega, by show rok rp (hc1 c 2); rw [e2]; exact a7, a8, a9, a10, a11, a12, a13⟩, h0, e1, e3, rfl, by show hc1 c 2 ≤ _; omega⟩
  · rw [if_neg h0]
    refine ⟨⟨by show 1 ≤ 1; omega, by show hc1 c 1 ≤ _; omega, by show 1 ≤ hc1 c 1; omega, by show 1 ≤ hc1 c 2 + 1; omega, by show hc1 c 2 + 1 < _; omega, by show hc1 c 3 < _; omega, ?_, a8, a9, a10, a11, ?_, a13⟩, rfl, e1, e3, rfl, by show hc1 c 2 + 1 ≤ _; omega⟩
    · show rok rp (hc1 c 2 + 1)
      rw [e2]
      exact rok_up a7
    · show (fr ++ [_]).length < _
      rw [List.length_append]
      show _ + 1 < _
      omega
section TK
variable {S : XS} {r : List AE} {c : Nat → Nat} {fr : List (List Nat)} {rp od : List RP} {us : List Nat} {q : Nat}
theorem TT_login (h : TT c fr rp od us q S r) : TT (lgc c) fr rp od us q (sF (sF S 5 1) 10 (gF S 9)) r := by
  obtain ⟨⟨b0, b1, b2, b3, b4, b5, b6, b7, b8⟩, hF, hR, hD, hU⟩ := h
  exact ⟨⟨rfl, b1, b2, b3, b4, fun _ => b4, b6, b7, b8⟩, hF.same rfl rfl, hR.same rfl rfl, hD.same rfl rfl, hU.same rfl rfl⟩
theorem MM_login (h : MM c fr rp od us S) (h5 : gF S 823 = nI (c 4)) (h3 : c 3 = 0) : MM (lgc c) fr rp od us (sF (sF S 819 1) 826 0) := by
  obtain ⟨⟨b0, b1, b2, b3, b4, b5, b6, b7, b8⟩, hF, hR, hD, hU⟩ := h
  refine ⟨⟨rfl, b1, b2, ?_, b4, fun _ => h5, b6, b7, b8⟩, hF.same rfl rfl rfl, hR.same rfl rfl, hD.same rfl rfl rfl rfl rfl rfl, hU.same rfl rfl⟩
  show (0 : Int32) = nI (c 3)
  rw [h3]
  rfl
end TK
section TK2
variable {K : Int32 → XS → List AE → Prop} {S : XS} {r : List AE} {A : AS} {q t n d a b v : Nat} {o : List RP × List Nat × (Nat × Nat × Nat × Nat)}
theorem rT_taken (hT : TA A q S r) (hA : aok A) (h2 : A.1 2 < 1590) (hf : A.2.1.length < 90000) (hm : msgT t n d a b v S) (ok : mok t n d a b v) (hO : (t = 68 ∨ t = 70 ∨ t = 71) → OMr t a b v A.2.2.2.1 A.2.2.2.2 o.1 o.2.1 o.2.2) (hq : q + 2 ≤ 5000) (h : ∀ S' r', TA (tkT t n d a b A o).2 (q + 2) S' r' → kT S S' → K (nI (tkT t n d a b A o).1) S' r') : w_T_taken S r K := by
  have hlg := lgn_ok (a := a) hA h2 hf
  obtain ⟨c, fr, rp, od, us⟩ := A
  obtain ⟨a1, a2, a3, a4, a5, a6, a7, a8, a9, a10, a11, a12, a13⟩ := hA
  have okk := ok
  obtain ⟨m1, m2, m3, m4, m5, m6, m7⟩ := ok
  simp only at h2 hf a1 a2 a3 a4 a5 a6 a7 a8 a9 a10 a11 a12 a13 hO hlg
  have hT : TT c fr rp od us q S r := hT
  have t4 : tno t = 4 ↔ t = 52 := by
    simp only [mkinds, List.mem_cons, List.not_mem_nil, or_false] at m1
    rcases m1 with rfl | rfl | rfl | rfl | rfl | rfl | rfl | rfl | rfl <;> decide
  have t6 : tno t = 6 ↔ t = 65 := by
    simp only [mkinds, List.mem_cons, List.not_mem_nil, or_false] at m1
    rcases m1 with rfl | rfl | rfl | rfl | rfl | rfl | rfl | rfl | rfl <;> decide
  have hp : 1 ≤ tno t ∧ tno t ≤ 9 := by unfold tno; (repeat' split) <;> omega
  have e0 := hc1_ne c (j := 0) (by decide)
  have e1 := hc1_ne c (j := 1) (by decide)
  have e2 := hc1_ne c (j := 2) (by decide)
  have e3 := hc1_ne c (j := 3) (by decide)
  -- from where heard is set
  have k41 : ¬ (c 0 = 0 ∧ t ≠ 65) → ∀ S1, TT (hc1 c) fr rp od us q S1 r → kT S S1 → w_T_taken_41 K S1 r := by
    intro hin S1 hT1 hk1
    obtain ⟨g0, g1, g2, g3, g4, g5⟩ := hm.k hk1
    have hm1 := hm.k hk1
    unfold tkT at h
    simp only [if_neg hin] at h
    have b6 : gF S1 6 = nI (c 1) := by rw [hT1.1.2.1, e1]
    have k93 : ¬ (t = 52 ∧ b = 0) → w_T_taken_93 K S1 r := by
      intro hnr
      simp only [if_neg hnr] at h
      unfold w_T_taken_93
      rw [b6, g1]
      refine ⟨fun e => ?_, fun e => ?_⟩
      · rw [nI_leI (by omega) (by omega)] at e
        simp only [if_neg (show ¬ n < c 1 by omega)] at h
        -- behind a login
        have k142 : ∀ S2 r2, TA (lgn a (hc1 c, fr, rp, od, us)) q S2 r2 → kT S S2 → w_T_taken_142 K S2 r2 := by
          intro S2 r2 hT2 hk2
          obtain ⟨f0, f1, f2, f3, f4, f5⟩ := hm.k hk2
          have hm2 := hm.k hk2
          generalize hC : lgn a (hc1 c, fr, rp, od, us) = C at *
          obtain ⟨w1, w2, w3, w4, w5, w6⟩ := hlg
          have hT2' : TT C.1 C.2.1 C.2.2.1 C.2.2.2.1 C.2.2.2.2 q S2 r2 := hT2
          have b62 : gF S2 6 = nI (c 1) := by rw [hT2'.1.2.1, w3]
          unfold w_T_taken_142
          rw [b62, f1]
          refine ⟨fun z => ?_, fun z => ?_⟩
          · rw [nI_leI (by omega) (by omega)] at z
            simp only [if_neg (show ¬ c 1 < n by omega)] at h
            rw [nI_1]
            refine rT_moveTo hT2' (by omega) (by omega) (by omega) (fun S3 p1 p2 => ?_)
            have w1' := w1
            obtain ⟨u1, u2, u3, u4, u5, u6, u7, u8, u9, u10, u11, u12, u13⟩ := w1'
            refine rT_inTurn (A := (mvA C.1 (c 1 + 1), C.2)) (o := o) p1 ⟨u1, ?_, ?_, u4, u5, ?_, u7, u8, u9, u10, u11, u12, u13⟩ w2 (hm2.k p2) okk (by simp only [w5]; exact hO) hq (fun S' r' p3 p4 => h S' r' p3 ((hk2.trans p2).trans p4))
            · show (if C.1 1 < c 1 + 1 then c 1 + 1 else C.1 1) ≤ _
              split <;> omega
            · show 1 ≤ (if C.1 1 < c 1 + 1 then c 1 + 1 else C.1 1)
              split <;> omega
            · show (if (if C.1 1 < c 1 + 1 then c 1 + 1 else C.1 1) ≤ C.1 3 then C.1 3 else 0) < 1000000
              generalize (if C.1 1 < c 1 + 1 then c 1 + 1 else C.1 1) = zz
              split <;> omega
          · rw [nI_leI (by omega) (by omega)] at z
            simp only [if_pos (show c 1 < n by omega)] at h
            exact rT_above hT2 w1 w2 hm2 okk (by omega) (by omega) (fun S' r' p1 p2 => h S' r' (TT.more p1 (by omega)) (hk2.trans p2))
        refine ⟨fun z => k142 S1 r ?_ hk1, fun z => ?_⟩
        · rw [hT1.1.1, li_0, nI_eq (by omega) (by omega)] at z
          unfold lgn
          simp only
          rw [if_pos (by omega)]
          exact hT1
        · rw [hT1.1.1, li_0, nI_eq (by omega) (by omega)] at z
          rw [g3]
          refine rT_send (p1 := 6) (bl := fld 108 a) (TT_login hT1) rfl (by show hc1 c 2 < _; omega) (by omega) (by omega) (Or.inr (Or.inr ⟨Or.inr (Or.inr rfl), Or.inr ⟨a, rfl, m4, rfl⟩⟩)) (fun S' r' p1 p2 => k142 S' r' ?_ ((hk1.trans ((kT_sF (by decide)).trans (kT_sF (by decide)))).trans p2))
          unfold lgn
          simp only
          rw [if_neg (by omega)]
          exact p1
      · rw [nI_leI (by omega) (by omega)] at e
        simp only [if_pos (show n < c 1 by omega)] at h
        unfold w_T_below
        rw [g2]
        refine ⟨fun z => ?_, fun z => ?_⟩
        · rw [li_0, nI_eq (by omega) (by omega)] at z
          simp only [if_pos z] at h
          exact rT_leave (K := fun S r => K 4 S r) hT1 (by omega) (by omega) (by omega) (by omega) (fun S' r' p1 p2 => h S' r' (TT.more p1 (by omega)) (hk1.trans p2))
        · rw [li_0, nI_eq (by omega) (by omega)] at z
          simp only [if_neg z] at h
          exact h S1 r (TT.more hT1 (by omega)) hk1
    unfold w_T_taken_41
    rw [g0, g4, g3, b6]
    refine ⟨by omega, fun e => k93 (fun w => e (t4.mpr w.1)), fun e => ⟨fun f => k93 (fun w => ?_), fun f => ?_⟩⟩
    · rw [w.2] at f
      exact f rfl
    · rw [li_0, nI_eq (by omega) (by omega)] at f
      simp only [if_pos (show t = 52 ∧ b = 0 from ⟨t4.mp e, f⟩)] at h
      refine ⟨fun z => ?_, fun z => ?_⟩
      · rw [nI_leI (by omega) (by omega)] at z
        simp only [if_neg (show ¬ c 1 < a by omega)] at h
        unfold w_T_taken_75
        rw [g3]
        exact rT_moveTo hT1 (by omega) (by omega) (by omega) (fun S' p1 p2 => ⟨fun _ => h S' r (TT.more p1 (by omega)) (hk1.trans p2), fun w => absurd rfl w⟩)
      · rw [nI_leI (by omega) (by omega)] at z
        simp only [if_pos (show c 1 < a by omega)] at h
        unfold w_T_taken_75
        rw [g3]
        exact rT_moveTo hT1 (by omega) (by omega) (by omega) (fun S' p1 p2 => ⟨fun w => absurd w (by decide), fun _ => h S' r (TT.more p1 (by omega)) (hk1.trans p2)⟩)
  have k19 : ¬ (c 0 = 0 ∧ t ≠ 65) → w_T_taken_19 K S r := by
    intro hin
    refine ⟨fun e => k41 hin _ ?_ (kT_sF (by decide)), fun e => k41 hin _ ?_ (kT_sF (by decide))⟩
    · rw [hT.1.1, li_0, nI_eq (by omega) (by omega)] at e
      unfold hc1
      rw [if_neg (by omega)]
      exact TT_x5 hT e _
    · rw [hT.1.1, li_0, nI_eq (by omega) (by omega)] at e
      unfold hc1
      rw [if_pos (by omega), hT.1.2.2.2.2.1]
      exact TT_k5 hT (c 4)
  obtain ⟨g0, g1, g2, g3, g4, g5⟩ := hm
  unfold w_T_taken
  rw [g0]
  refine ⟨fun e => k19 (fun w => ?_), fun e => ⟨by omega, fun f => k19 (fun w => w.2 (t6.mp f)), fun f => ?_⟩⟩
  · rw [hT.1.1, w.1] at e
    exact e rfl
  · rw [hT.1.1, li_0, nI_eq (by omega) (by omega)] at e
    unfold tkT at h
    simp only [if_pos (show c 0 = 0 ∧ t ≠ 65 from ⟨e, fun w => f (t6.mpr w)⟩)] at h
    exact h S r (TT.more hT (by omega)) (kT.refl S)
theorem rM_taken27 (hM : MA A S) (hA : aok A) (h2 : A.1 2 < 1590) (hf : A.2.1.length < 90000) (hms : A.1 0 = 0 → A.1 3 = 0) (hm : msgM t n d a b v S) (ok : mok t n d a b v) (hO : (t = 68 ∨ t = 70 ∨ t = 71) → OMr t a b v A.2.2.2.1 A.2.2.2.2 o.1 o.2.1 o.2.2) (hin : ¬ (A.1 0 = 0 ∧ t ≠ 65)) (h : ∀ S', MA (tkM t n d a b A o).2 S' → kM S S' → K (nI (tkM t n d a b A o).1) S' r) : w_M_taken_27 K S r := by
  have hlg := lgn_ok (a := a) hA h2 hf
  obtain ⟨c, fr, rp, od, us⟩ := A
  obtain ⟨a1, a2, a3, a4, a5, a6, a7, a8, a9, a10, a11, a12, a13⟩ := hA
  have okk := ok
  obtain ⟨m1, m2, m3, m4, m5, m6, m7⟩ := ok
  simp only at h2 hf a1 a2 a3 a4 a5 a6 a7 a8 a9 a10 a11 a12 a13 hO hlg hin hms
  have hM : MM c fr rp od us S := hM
  have ht : t < 1000 := by
    simp only [mkinds, List.mem_cons, List.not_mem_nil, or_false] at m1
    omega
  have e0 := hc1_ne c (j := 0) (by decide)
  have e1 := hc1_ne c (j := 1) (by decide)
  have e2 := hc1_ne c (j := 2) (by decide)
  have e3 := hc1_ne c (j := 3) (by decide)
  have e4 := hc1_ne c (j := 4) (by decide)
  unfold tkM at h
  simp only [if_neg hin] at h
  -- heard
  have hM1 : MM (hc1 c) fr rp od us (sF S 823 (gF S 822)) := by
    unfold hc1
    by_cases z : c 0 = 1
    · rw [if_pos z, hM.1.2.2.2.2.1]
      exact MM_k5 hM (c 4)
    · rw [if_neg z]
      exact MM_x5 hM (by omega) _
  have hk1 : kM S (sF S 823 (gF S 822)) := ke_sF (by decide)
  have h823 : gF (sF S 823 (gF S 822)) 823 = nI (hc1 c 4) := by
    rw [gF_sF, if_pos rfl, e4]
    exact hM.1.2.2.2.2.1
  have hm1 := hm.k hk1
  obtain ⟨g0', g1', g2', g3', g4', g5'⟩ := hm
  have b20' : gF S 820 = nI (c 1) := hM.1.2.1
  have k76 : ¬ (t = 52 ∧ b = 0) → w_M_taken_76 K (sF S 823 (gF S 822)) r := by
    intro hnr
    simp only [if_neg hnr] at h
    generalize sF S 823 (gF S 822) = S1 at *
    obtain ⟨g0, g1, g2, g3, g4, g5⟩ := hm1
    have b20 : gF S1 820 = nI (c 1) := by rw [hM1.1.2.1, e1]
    unfold w_M_taken_76
    rw [b20, g1]
    refine ⟨fun e => ?_, fun e => ?_⟩
    · rw [nI_leI (by omega) (by omega)] at e
      simp only [if_neg (show ¬ n < c 1 by omega)] at h
      have k132 : ∀ S2, MA (lgn a (hc1 c, fr, rp, od, us)) S2 → kM S S2 → w_M_taken_132 K S2 r := by
        intro S2 hT2 hk2
        have hm2 : msgM t n d a b v S2 := msgM.k ⟨g0', g1', g2', g3', g4', g5'⟩ hk2
        generalize hC : lgn a (hc1 c, fr, rp, od, us) = C at *
        obtain ⟨w1, w2, w3, w4, w5, w6⟩ := hlg
        have hT2' : MM C.1 C.2.1 C.2.2.1 C.2.2.2.1 C.2.2.2.2 S2 := hT2
        have b22 : gF S2 820 = nI (c 1) := by rw [hT2'.1.2.1, w3]
        unfold w_M_taken_132
        rw [b22, hm2.2.1]
        refine ⟨fun z => ?_, fun z => ?_⟩
        · rw [nI_leI (by omega) (by omega)] at z
          simp only [if_neg (show ¬ c 1 < n by omega)] at h
          rw [nI_1]
          have w1' := w1
          obtain ⟨u1, u2, u3, u4, u5, u6, u7, u8, u9, u10, u11, u12, u13⟩ := w1'
          have hk3 : kM S2 (sF S2 820 (nI (c 1 + 1))) := ke_sF (by decide)
          exact rM_inTurn (A := (up C.1 1 (c 1 + 1), C.2)) (o := o) (MM_k1 hT2' (c 1 + 1)) ⟨u1, by show c 1 + 1 ≤ _; omega, by show 1 ≤ c 1 + 1; omega, u4, u5, u6, u7, u8, u9, u10, u11, u12, u13⟩ w2 (hm2.k hk3) okk (by simp only [w5]; exact hO) (fun S' p3 p4 => h S' p3 (kM.trans (kM.trans hk2 hk3) p4))
        · rw [nI_leI (by omega) (by omega)] at z
          simp only [if_pos (show c 1 < n by omega)] at h
          exact rM_early hT2 w1 w2 hm2 okk (by omega) (fun S' p1 p2 => h S' p1 (kM.trans hk2 p2))
      refine ⟨fun z => k132 S1 ?_ hk1, fun z => ?_⟩
      · rw [hM1.1.1, li_0, nI_eq (by omega) (by omega)] at z
        unfold lgn
        simp only
        rw [if_pos (by omega)]
        exact hM1
      · rw [hM1.1.1, li_0, nI_eq (by omega) (by omega)] at z
        rw [g3]
        have l1 := fld_le (t := 108) (by decide) m4
        have hz3 : hc1 c 3 = 0 := by rw [e3]; exact hms (by omega)
        refine rM_snd (kind := 65) (bl := fld 108 a) (MM_login hM1 h823 hz3) rfl (by show hc1 c 2 < _; omega) (by show rok rp (hc1 c 2); rw [e2]; exact a7) (by omega) (by decide) (by decide) (BD_one (kind := 65) (a := a) (by decide) (by decide) (by decide) (by omega) rfl) (fld_b _ _) (by omega) (fun S' p1 p2 => k132 S' ?_ (kM.trans (kM.trans hk1 ((ke_sF (by decide)).trans (ke_sF (by decide)))) p2))
        unfold lgn
        simp only
        rw [if_neg (by omega)]
        exact p1
    · rw [nI_leI (by omega) (by omega)] at e
      simp only [if_pos (show n < c 1 by omega)] at h
      rw [g2]
      refine ⟨fun z => ?_, fun z => ?_⟩
      · rw [li_0, nI_eq (by omega) (by omega)] at z
        simp only [if_pos z] at h
        exact rM_leave (K := fun S r => K 4 S r) hM1 (by omega) (by omega) (by rw [e2]; exact a7) (by omega) (fun S' p1 p2 => h S' p1 (kM.trans hk1 p2))
      · rw [li_0, nI_eq (by omega) (by omega)] at z
        simp only [if_neg z] at h
        exact h S1 hM1 hk1
  unfold w_M_taken_27
  rw [g0', g4', g3', b20']
  have hbm : bM t b < 1000000 := by unfold bM; (repeat' split) <;> omega
  refine ⟨fun e => k76 (fun w => ?_), fun e => ⟨fun f => k76 (fun w => ?_), fun f => ?_⟩⟩
  · rw [w.1] at e
    exact e rfl
  · rw [w.1, w.2] at f
    exact f rfl
  · rw [li_52, nI_eq (by omega) (by omega)] at e
    rw [li_78, nI_eq (by omega) (by omega)] at f
    have hb0 : b = 0 := by
      unfold bM at f
      rw [if_pos e] at f
      have := m7 e
      split at f <;> omega
    simp only [if_pos (show t = 52 ∧ b = 0 from ⟨e, hb0⟩)] at h
    refine ⟨fun z => ?_, fun z => ?_⟩
    · rw [nI_ltI (by omega) (by omega)] at z
      simp only [if_pos z] at h
      exact h _ (MM_k1 hM1 a) (kM.trans hk1 (ke_sF (by decide)))
    · rw [nI_ltI (by omega) (by omega)] at z
      simp only [if_neg z] at h
      exact h _ hM1 hk1
end TK2
