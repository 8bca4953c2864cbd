/-! ===== branches, returns, new cells ===== -/
theorem xRn.if_eq {G : XG} {l : Launch} {d : Nat} {X : XM} {Q : XOut → List AE → Prop} {pc nx tgt : Nat} {ls st : List Value} {hp : List AE} {x : Int32} {off : Int} (hd : decode X.code pc = .ok (.ifCond .eq off, 3)) (ht : (pc : Int) + off = (tgt : Int)) (hn : pc + 3 = nx) (kt : x = 0 → xRn G l d X Q tgt ls st hp) (kf : ¬ x = 0 → xRn G l d X Q nx ls st hp) : xRn G l d X Q pc ls (.int x :: st) hp := by
  subst hn
  intro he p e s m args below meth c C H locs cls h1 h2 h3 h4 h5 h6
  exact lv_if_eq C.ex C.cd hd ht (fun h => kt h he p e s m args below meth c C H locs cls h1 h2 h3 h4 h5 h6) (fun h => kf h he p e s m args below meth c C H locs cls h1 h2 h3 h4 h5 h6)
theorem xRn.ic_eq {G : XG} {l : Launch} {d : Nat} {X : XM} {Q : XOut → List AE → Prop} {pc nx tgt : Nat} {ls st : List Value} {hp : List AE} {x y : Int32} {off : Int} (hd : decode X.code pc = .ok (.if_icmp .eq off, 3)) (ht : (pc : Int) + off = (tgt : Int)) (hn : pc + 3 = nx) (kt : x = y → xRn G l d X Q tgt ls st hp) (kf : ¬ x = y → xRn G l d X Q nx ls st hp) : xRn G l d X Q pc ls (.int y :: .int x :: st) hp := by
  subst hn
  intro he p e s m args below meth c C H locs cls h1 h2 h3 h4 h5 h6
  exact lv_icmp_eq C.ex C.cd hd ht (fun h => kt h he p e s m args below meth c C H locs cls h1 h2 h3 h4 h5 h6) (fun h => kf h he p e s m args below meth c C H locs cls h1 h2 h3 h4 h5 h6)
theorem xRn.if_ne {G : XG} {l : Launch} {d : Nat} {X : XM} {Q : XOut → List AE → Prop} {pc nx tgt : Nat} {ls st : List Value} {hp : List AE} {x : Int32} {off : Int} (hd : decode X.code pc = .ok (.ifCond .ne off, 3)) (ht : (pc : Int) + off = (tgt : Int)) (hn : pc + 3 = nx) (kt : ¬ x = 0 → xRn G l d X Q tgt ls st hp) (kf : x = 0 → xRn G l d X Q nx ls st hp) : xRn G l d X Q pc ls (.int x :: st) hp := by
  subst hn
  intro he p e s m args below meth c C H locs cls h1 h2 h3 h4 h5 h6
  exact lv_if_ne C.ex C.cd hd ht (fun h => kt h he p e s m args below meth c C H locs cls h1 h2 h3 h4 h5 h6) (fun h => kf h he p e s m args below meth c C H locs cls h1 h2 h3 h4 h5 h6)
theorem xRn.ic_ne {G : XG} {l : Launch} {d : Nat} {X : XM} {Q : XOut → List AE → Prop} {pc nx tgt : Nat} {ls st : List Value} {hp : List AE} {x y : Int32} {off : Int} (hd : decode X.code pc = .ok (.if_icmp .ne off, 3)) (ht : (pc : Int) + off = (tgt : Int)) (hn : pc + 3 = nx) (kt : ¬ x = y → xRn G l d X Q tgt ls st hp) (kf : x = y → xRn G l d X Q nx ls st hp) : xRn G l d X Q pc ls (.int y :: .int x :: st) hp := by
  subst hn
  intro he p e s m args below meth c C H locs cls h1 h2 h3 h4 h5 h6
  exact lv_icmp_ne C.ex C.cd hd ht (fun h => kt h he p e s m args below meth c C H locs cls h1 h2 h3 h4 h5 h6) (fun h => kf h he p e s m args below meth c C H locs cls h1 h2 h3 h4 h5 h6)
theorem xRn.if_lt {G : XG} {l : Launch} {d : Nat} {X : XM} {Q : XOut → List AE → Prop} {pc nx tgt : Nat} {ls st : List Value} {hp : List AE} {x : Int32} {off : Int} (hd : decode X.code pc = .ok (.ifCond .lt off, 3)) (ht : (pc : Int) + off = (tgt : Int)) (hn : pc + 3 = nx) (kt : x < 0 → xRn G l d X Q tgt ls st hp) (kf : ¬ x < 0 → xRn G l d X Q nx ls st hp) : xRn G l d X Q pc ls (.int x :: st) hp := by
  subst hn
  intro he p e s m args below meth c C H locs cls h1 h2 h3 h4 h5 h6
  exact lv_if_lt C.ex C.cd hd ht (fun h => kt h he p e s m args below meth c C H locs cls h1 h2 h3 h4 h5 h6) (fun h => kf h he p e s m args below meth c C H locs cls h1 h2 h3 h4 h5 h6)
theorem xRn.ic_lt {G : XG} {l : Launch} {d : Nat} {X : XM} {Q : XOut → List AE → Prop} {pc nx tgt : Nat} {ls st : List Value} {hp : List AE} {x y : Int32} {off : Int} (hd : decode X.code pc = .ok (.if_icmp .lt off, 3)) (ht : (pc : Int) + off = (tgt : Int)) (hn : pc + 3 = nx) (kt : x < y → xRn G l d X Q tgt ls st hp) (kf : ¬ x < y → xRn G l d X Q nx ls st hp) : xRn G l d X Q pc ls (.int y :: .int x :: st) hp := by
  subst hn
  intro he p e s m args below meth c C H locs cls h1 h2 h3 h4 h5 h6
  exact lv_icmp_lt C.ex C.cd hd ht (fun h => kt h he p e s m args below meth c C H locs cls h1 h2 h3 h4 h5 h6) (fun h => kf h he p e s m args below meth c C H locs cls h1 h2 h3 h4 h5 h6)
theorem xRn.if_ge {G : XG} {l : Launch} {d : Nat} {X : XM} {Q : XOut → List AE → Prop} {pc nx tgt : Nat} {ls st : List Value} {hp : List AE} {x : Int32} {off : Int} (hd : decode X.code pc = .ok (.ifCond .ge off, 3)) (ht : (pc : Int) + off = (tgt : Int)) (hn : pc + 3 = nx) (kt : 0 ≤ x → xRn G l d X Q tgt ls st hp) (kf : ¬ 0 ≤ x → xRn G l d X Q nx ls st hp) : xRn G l d X Q pc ls (.int x :: st) hp := by
  subst hn
  intro he p e s m args below meth c C H locs cls h1 h2 h3 h4 h5 h6
  exact lv_if_ge C.ex C.cd hd ht (fun h => kt h he p e s m args below meth c C H locs cls h1 h2 h3 h4 h5 h6) (fun h => kf h he p e s m args below meth c C H locs cls h1 h2 h3 h4 h5 h6)
theorem xRn.ic_ge {G : XG} {l : Launch} {d : Nat} {X : XM} {Q : XOut → List AE → Prop} {pc nx tgt : Nat} {ls st : List Value} {hp : List AE} {x y : Int32} {off : Int} (hd : decode X.code pc = .ok (.if_icmp .ge off, 3)) (ht : (pc : Int) + off = (tgt : Int)) (hn : pc + 3 = nx) (kt : y ≤ x → xRn G l d X Q tgt ls st hp) (kf : ¬ y ≤ x → xRn G l d X Q nx ls st hp) : xRn G l d X Q pc ls (.int y :: .int x :: st) hp := by
  subst hn
  intro he p e s m args below meth c C H locs cls h1 h2 h3 h4 h5 h6
  exact lv_icmp_ge C.ex C.cd hd ht (fun h => kt h he p e s m args below meth c C H locs cls h1 h2 h3 h4 h5 h6) (fun h => kf h he p e s m args below meth c C H locs cls h1 h2 h3 h4 h5 h6)
theorem xRn.if_gt {G : XG} {l : Launch} {d : Nat} {X : XM} {Q : XOut → List AE → Prop} {pc nx tgt : Nat} {ls st : List Value} {hp : List AE} {x : Int32} {off : Int} (hd : decode X.code pc = .ok (.ifCond .gt off, 3)) (ht : (pc : Int) + off = (tgt : Int)) (hn : pc + 3 = nx) (kt : 0 < x → xRn G l d X Q tgt ls st hp) (kf : ¬ 0 < x → xRn G l d X Q nx ls st hp) : xRn G l d X Q pc ls (.int x :: st) hp := by
  subst hn
  intro he p e s m args below meth c C H locs cls h1 h2 h3 h4 h5 h6
  exact lv_if_gt C.ex C.cd hd ht (fun h => kt h he p e s m args below meth c C H locs cls h1 h2 h3 h4 h5 h6) (fun h => kf h he p e s m args below meth c C H locs cls h1 h2 h3 h4 h5 h6)
theorem xRn.ic_gt {G : XG} {l : Launch} {d : Nat} {X : XM} {Q : XOut → List AE → Prop} {pc nx tgt : Nat} {ls st : List Value} {hp : List AE} {x y : Int32} {off : Int} (hd : decode X.code pc = .ok (.if_icmp .gt off, 3)) (ht : (pc : Int) + off = (tgt : Int)) (hn : pc + 3 = nx) (kt : y < x → xRn G l d X Q tgt ls st hp) (kf : ¬ y < x → xRn G l d X Q nx ls st hp) : xRn G l d X Q pc ls (.int y :: .int x :: st) hp := by
  subst hn
  intro he p e s m args below meth c C H locs cls h1 h2 h3 h4 h5 h6
  exact lv_icmp_gt C.ex C.cd hd ht (fun h => kt h he p e s m args below meth c C H locs cls h1 h2 h3 h4 h5 h6) (fun h => kf h he p e s m args below meth c C H locs cls h1 h2 h3 h4 h5 h6)
theorem xRn.if_le {G : XG} {l : Launch} {d : Nat} {X : XM} {Q : XOut → List AE → Prop} {pc nx tgt : Nat} {ls st : List Value} {hp : List AE} {x : Int32} {off : Int} (hd : decode X.code pc = .ok (.ifCond .le off, 3)) (ht : (pc : Int) + off = (tgt : Int)) (hn : pc + 3 = nx) (kt : x ≤ 0 → xRn G l d X Q tgt ls st hp) (kf : ¬ x ≤ 0 → xRn G l d X Q nx ls st hp) : xRn G l d X Q pc ls (.int x :: st) hp := by
  subst hn
  intro he p e s m args below meth c C H locs cls h1 h2 h3 h4 h5 h6
  exact lv_if_le C.ex C.cd hd ht (fun h => kt h he p e s m args below meth c C H locs cls h1 h2 h3 h4 h5 h6) (fun h => kf h he p e s m args below meth c C H locs cls h1 h2 h3 h4 h5 h6)
theorem xRn.ic_le {G : XG} {l : Launch} {d : Nat} {X : XM} {Q : XOut → List AE → Prop} {pc nx tgt : Nat} {ls st : List Value} {hp : List AE} {x y : Int32} {off : Int} (hd : decode X.code pc = .ok (.if_icmp .le off, 3)) (ht : (pc : Int) + off = (tgt : Int)) (hn : pc + 3 = nx) (kt : x ≤ y → xRn G l d X Q tgt ls st hp) (kf : ¬ x ≤ y → xRn G l d X Q nx ls st hp) : xRn G l d X Q pc ls (.int y :: .int x :: st) hp := by
  subst hn
  intro he p e s m args below meth c C H locs cls h1 h2 h3 h4 h5 h6
  exact lv_icmp_le C.ex C.cd hd ht (fun h => kt h he p e s m args below meth c C H locs cls h1 h2 h3 h4 h5 h6) (fun h => kf h he p e s m args below meth c C H locs cls h1 h2 h3 h4 h5 h6)
theorem xRn.goto {G : XG} {l : Launch} {d : Nat} {X : XM} {Q : XOut → List AE → Prop} {pc tgt : Nat} {ls st : List Value} {hp : List AE} {off : Int} (hd : decode X.code pc = .ok (.goto off, 3)) (ht : (pc : Int) + off = (tgt : Int)) (k : xRn G l d X Q tgt ls st hp) : xRn G l d X Q pc ls st hp := by
  intro he p e s m args below meth c C H locs cls h1 h2 h3 h4 h5 h6
  exact lv_goto C.ex C.cd hd ht (k he p e s m args below meth c C H locs cls h1 h2 h3 h4 h5 h6)
theorem xcvo_inj {G : XG} {s : State} (hE : va_En "TradeLink$Type" "LTradeLink$Type;" xEn xEf G.ad (xAr G) s s.heap) {a b : Nat} (ha : a ≤ 10) (hb : b ≤ 10) : xcvo G a = xcvo G b ↔ a = b := by
  constructor
  · intro h
    unfold xcvo at h
    by_cases h0 : a = 0
    · by_cases h1 : b = 0
      · omega
      · rw [if_pos h0, if_neg h1] at h
        cases h
    · by_cases h1 : b = 0
      · rw [if_neg h0, if_pos h1] at h
        cases h
      · rw [if_neg h0, if_neg h1] at h
        have h2 := Option.some.inj h
        unfold xloc at h2
        rw [if_pos (by omega), if_pos (by omega)] at h2
        have := hE.2 (a - 1) (b - 1) (show a - 1 < 10 by omega) (show b - 1 < 10 by omega) h2
        omega
  · rintro rfl
    rfl
theorem xRn.ac_eq {G : XG} {l : Launch} {d : Nat} {X : XM} {Q : XOut → List AE → Prop} {pc nx tgt : Nat} {ls st : List Value} {hp : List AE} {a b : Nat} {off : Int} (hd : decode X.code pc = .ok (.if_acmp .eq off, 3)) (ht : (pc : Int) + off = (tgt : Int)) (hn : pc + 3 = nx) (ha : a ≤ 10) (hb : b ≤ 10) (kt : a = b → xRn G l d X Q tgt ls st hp) (kf : ¬ a = b → xRn G l d X Q nx ls st hp) : xRn G l d X Q pc ls (.ref b :: .ref a :: st) hp := by
  subst hn
  intro he p e s m args below meth c C H locs cls h1 h2 h3 h4 h5 h6
  have hi := xcvo_inj C.gs.2.2.1 ha hb
  exact lv_acmp_eq (rx := xcvo G a) (ry := xcvo G b) C.ex C.cd hd ht (fun h => kt (by rw [hi] at h; exact h) he p e s m args below meth c C H locs cls h1 h2 h3 h4 h5 h6) (fun h => kf (by rw [hi] at h; exact h) he p e s m args below meth c C H locs cls h1 h2 h3 h4 h5 h6)
theorem xRn.ac_ne {G : XG} {l : Launch} {d : Nat} {X : XM} {Q : XOut → List AE → Prop} {pc nx tgt : Nat} {ls st : List Value} {hp : List AE} {a b : Nat} {off : Int} (hd : decode X.code pc = .ok (.if_acmp .ne off, 3)) (ht : (pc : Int) + off = (tgt : Int)) (hn : pc + 3 = nx) (ha : a ≤ 10) (hb : b ≤ 10) (kt : ¬ a = b → xRn G l d X Q tgt ls st hp) (kf : a = b → xRn G l d X Q nx ls st hp) : xRn G l d X Q pc ls (.ref b :: .ref a :: st) hp := by
  subst hn
  intro he p e s m args below meth c C H locs cls h1 h2 h3 h4 h5 h6
  have hi := xcvo_inj C.gs.2.2.1 ha hb
  exact lv_acmp_ne (rx := xcvo G a) (ry := xcvo G b) C.ex C.cd hd ht (fun h => kt (by rw [hi] at h; exact h) he p e s m args below meth c C H locs cls h1 h2 h3 h4 h5 h6) (fun h => kf (by rw [hi] at h; exact h) he p e s m args below meth c C H locs cls h1 h2 h3 h4 h5 h6)
theorem xRn.ifnull {G : XG} {l : Launch} {d : Nat} {X : XM} {Q : XOut → List AE → Prop} {pc nx tgt : Nat} {ls st : List Value} {hp : List AE} {a : Nat} {off : Int} (hd : decode X.code pc = .ok (.ifnull off, 3)) (ht : (pc : Int) + off = (tgt : Int)) (hn : pc + 3 = nx) (kt : a = 0 → xRn G l d X Q tgt ls st hp) (kf : ¬ a = 0 → xRn G l d X Q nx ls st hp) : xRn G l d X Q pc ls (.ref a :: st) hp := by
  subst hn
  intro he p e s m args below meth c C H locs cls h1 h2 h3 h4 h5 h6
  rw [List.map_cons]
  by_cases h0 : a = 0
  · have := kt h0 he p e s m args below meth c C H locs cls h1 h2 h3 h4 h5 h6
    subst h0
    exact lv_ifnullN C.ex C.cd hd ht this
  · rw [xcv_loc G h0]
    exact lv_ifnull C.ex C.cd hd (kf h0 he p e s m args below meth c C H locs cls h1 h2 h3 h4 h5 h6)
theorem xRn.ifnonnull {G : XG} {l : Launch} {d : Nat} {X : XM} {Q : XOut → List AE → Prop} {pc nx tgt : Nat} {ls st : List Value} {hp : List AE} {a : Nat} {off : Int} (hd : decode X.code pc = .ok (.ifnonnull off, 3)) (ht : (pc : Int) + off = (tgt : Int)) (hn : pc + 3 = nx) (kt : ¬ a = 0 → xRn G l d X Q tgt ls st hp) (kf : a = 0 → xRn G l d X Q nx ls st hp) : xRn G l d X Q pc ls (.ref a :: st) hp := by
  subst hn
  intro he p e s m args below meth c C H locs cls h1 h2 h3 h4 h5 h6
  rw [List.map_cons]
  by_cases h0 : a = 0
  · have := kf h0 he p e s m args below meth c C H locs cls h1 h2 h3 h4 h5 h6
    subst h0
    exact lv_ifnonnullN C.ex C.cd hd this
  · rw [xcv_loc G h0]
    exact lv_ifnonnull C.ex C.cd hd ht (kt h0 he p e s m args below meth c C H locs cls h1 h2 h3 h4 h5 h6)
theorem xRn.swOut {G : XG} {l : Launch} {d : Nat} {X : XM} {Q : XOut → List AE → Prop} {pc tgt : Nat} {ls st : List Value} {hp : List AE} {dflt lo hi : Int} {offs : Array Int} {len : Nat} {x : Int32} (hd : decode X.code pc = .ok (.tableswitch dflt lo hi offs, len)) (h : x.toInt < lo ∨ hi < x.toInt) (ht : (pc : Int) + dflt = (tgt : Int)) (k : xRn G l d X Q tgt ls st hp) : xRn G l d X Q pc ls (.int x :: st) hp := by
  intro he p e s m args below meth c C H locs cls h1 h2 h3 h4 h5 h6
  exact lv_tableOut C.ex C.cd hd h ht (k he p e s m args below meth c C H locs cls h1 h2 h3 h4 h5 h6)
theorem xRn.swIn {G : XG} {l : Launch} {d : Nat} {X : XM} {Q : XOut → List AE → Prop} {pc tgt : Nat} {ls st : List Value} {hp : List AE} {dflt lo hi : Int} {offs : Array Int} {len : Nat} {x : Int32} {off : Int} (i : Nat) (hd : decode X.code pc = .ok (.tableswitch dflt lo hi offs, len)) (hx : x.toInt = lo + i) (hi' : lo + i ≤ hi) (ho : offs[i]? = some off) (ht : (pc : Int) + off = (tgt : Int)) (k : xRn G l d X Q tgt ls st hp) : xRn G l d X Q pc ls (.int x :: st) hp := by
  intro he p e s m args below meth c C H locs cls h1 h2 h3 h4 h5 h6
  exact lv_tableIn C.ex C.cd hd (by omega) (by omega) (by rw [show (x.toInt - lo).toNat = i by omega]; exact ho) ht (k he p e s m args below meth c C H locs cls h1 h2 h3 h4 h5 h6)
/-! returns -/
theorem W.mono {p : Program} {l : Launch} {e : Env} {R : Room} {s : State} {m : MethodId} {args : Array Value} {below : List Frame} {meth : Method} {c : Code} {H : Heap} {locs : List Loc} {cells slots : Nat} {Q1 Q2 : State → Prop} {g : JFrame} (h : ∀ t, Q1 t → Q2 t) (w : W p l e R s m args below meth c H locs cells slots Q1 g) : W p l e R s m args below meth c H locs cells slots Q2 g := by
  intro T hT X
  obtain ⟨t, a, b⟩ := w T hT X
  exact ⟨t, a, h t b⟩
theorem xZ_of {G : XG} {he hp : List AE} {below : List Frame} {s : State} {Q : XOut → List AE → Prop} {args : Array Value} {H : Heap} {v : Option Value} {u : Option Value} (h1 : xRep G hp H) (h2 : ∀ q : Nat, q < G.base → H[q]? = s.heap[q]?) (h4 : he.length ≤ hp.length ∧ hp.length ≤ xCB) (h5 : hsz he ≤ hsz hp ∧ hsz hp ≤ xSB) (hv : v = u.map (xcv G)) (hq : Q (.inl u) hp) (t : State)
    (h : MQ below (fun _ _ o t => o = .returned v ∧ t.heap = H) args s (hp.length - he.length) (hsz hp - hsz he) (xAr G) t) : xZ G he below s Q t := by
  obtain ⟨o, a1, a2, ⟨a3, a4⟩, L, ⟨-, a5, a6⟩, a7⟩ := h
  refine ⟨o, a1, a2, .inl u, hp, by rw [a3, hv]; rfl, hq, by rw [a4]; exact h1, h4, h5, a5, fun q hq => by rw [a4]; exact h2 q hq, L, a6, a7⟩
theorem xRn.iret {G : XG} {l : Launch} {d : Nat} {X : XM} {Q : XOut → List AE → Prop} {pc : Nat} {ls : List Value} {hp : List AE} {v : Int32} {ty : FieldType} (hd : decode X.code pc = .ok (.ireturn, 1)) (hr : X.ret = some ty) (hn : narrow ty (.int v) = .int v) (hq : Q (.inl (some (.int v))) hp) : xRn G l d X Q pc ls [.int v] hp := by
  intro he p e s m args below meth c C H locs cls h1 h2 h3 h4 h5 h6
  exact W.mono (xZ_of (args := args) h1 h2 h4 h5 rfl hq) (W.zret C.ex C.cd (C.rt.trans hr) hn (fun t ht _ => ⟨rfl, ht⟩) h3 hd C.lk)
theorem xRn.vret {G : XG} {l : Launch} {d : Nat} {X : XM} {Q : XOut → List AE → Prop} {pc : Nat} {ls : List Value} {hp : List AE} (hd : decode X.code pc = .ok (.return_, 1)) (hr : X.ret = none) (hq : Q (.inl none) hp) : xRn G l d X Q pc ls [] hp := by
  intro he p e s m args below meth c C H locs cls h1 h2 h3 h4 h5 h6
  exact W.mono (xZ_of (args := args) h1 h2 h4 h5 rfl hq) (W.vret C.ex C.cd (C.rt.trans hr) (fun t ht _ => ⟨rfl, ht⟩) h3 hd C.lk)
theorem xRn.aret {G : XG} {l : Launch} {d : Nat} {X : XM} {Q : XOut → List AE → Prop} {pc : Nat} {ls : List Value} {hp : List AE} {n : Nat} {cn : String} (hd : decode X.code pc = .ok (.areturn, 1)) (hr : X.ret = some (.object cn)) (hq : Q (.inl (some (.ref n))) hp) : xRn G l d X Q pc ls [.ref n] hp := by
  intro he p e s m args below meth c C H locs cls h1 h2 h3 h4 h5 h6
  exact W.mono (xZ_of (args := args) h1 h2 h4 h5 rfl hq) (W.aret C.ex C.cd (C.rt.trans hr) (Or.inl ⟨cn, rfl⟩) (va_rf_or _) (fun t ht _ => ⟨rfl, ht⟩) h3 hd C.lk)
/-! new cells -/
def xdv (t : FieldType) : Value := match t with
  | .object _ => .ref 0
  | .array _ => .ref 0
  | _ => .int 0
def xdef (ci : Nat) : List Value := (xTl ci).map xdv
def xdt (t : FieldType) : Bool := match t with
  | .int => true
  | .boolean => true
  | .char => true
  | .object _ => true
  | .array _ => true
  | _ => false
theorem xdt_ok {t : FieldType} (h : xdt t = true) (G : XG) : defaultValue t = xcv G (xdv t) := by
  cases t <;> first | rfl | (simp [xdt] at h)
theorem xTl_dt : ∀ ci < 7, ∀ t ∈ xTl ci, xdt t = true := by decide +kernel
theorem xTl_len : ∀ ci < 11, (xTl ci).length = xN ci := by decide +kernel
theorem xdef_ok {ci : Nat} (hc : ci < 7) (G : XG) : ∀ j, j < xN ci → defaultValue (xT ci j) = vp_V ((xdef ci).map (xcv G)) j := by
  intro j hj
  have hl : j < (xTl ci).length := by rw [xTl_len ci (by omega)]; exact hj
  have ht : (xTl ci)[j]? = some (xT ci j) := by
    unfold xT
    rw [List.getD_eq_getElem?_getD, List.getElem?_eq_getElem hl]
    rfl
  have hv : (xdef ci)[j]? = some (xdv (xT ci j)) := by
    unfold xdef
    rw [List.getElem?_map, ht]
    rfl
  rw [xV_map hv]
  exact xdt_ok (xTl_dt ci hc _ (List.mem_of_getElem? ht)) G
theorem xS_N : ∀ ci < 7, xS ci = xN ci := by decide +kernel
theorem xRn.new {G : XG} {l : Launch} {d : Nat} {X : XM} {Q : XOut → List AE → Prop} {pc nx : Nat} {ls st : List Value} {hp hp1 : List AE} {idx ci n : Nat} {fs : List Value} (hd : decode X.code pc = .ok (.new idx, 3)) (hr : (X.own, idx, ci) ∈ xCr) (hc : ci < 7) (hn : pc + 3 = nx) (hl : 16 + hp.length = n) (hf : xdef ci = fs) (hb1 : hp.length + 1 ≤ xCB) (hb2 : hsz hp + xS ci ≤ xSB) (hh : hp ++ [xO ci fs] = hp1)
    (k : xRn G l d X Q nx ls (.ref n :: st) hp1) : xRn G l d X Q pc ls st hp := by
  subst hn
  subst hl
  subst hh
  subst hf
  intro he p e s m args below meth c C H locs cls h1 h2 h3 h4 h5 h6
  have hK := C.gs.2.1
  have hKn := hK.1 ci _ (xC_at (show ci < 11 by omega))
  refine W.newcK C.ex C.cd C.ow (C.wd args _ (xCr_w _ hr)) (C.wd args _ (xinst_w (show ci < 11 by omega))) (C.wd args _ (xini_w (show ci < 15 by omega))) rfl hd (by show _ + 1 ≤ xCB - he.length; omega) (by show _ + xS ci ≤ xSB - hsz he; omega) hKn.2.1 rfl fun H1 kC hkC e1 z1 o1 => ?_
  have hz : hsz (hp ++ [xO ci (xdef ci)]) = hsz hp + xS ci := by rw [hsz_app]; rfl
  have hlen : (hp ++ [xO ci (xdef ci)]).length = hp.length + 1 := by simp
  have hrep : xRep G (hp ++ [xO ci (xdef ci)]) H1 := h1.push z1 o1 ⟨by omega, by rw [xdef, List.length_map]; exact xTl_len ci (by omega), (u_born (xT ci) (C.wd args) (xlay_w hc) hKn hkC e1 (xT_ok ci hc)).to (xdef_ok hc G)⟩
  have := k he p e s m args below meth c C H1 locs cls hrep (fun q hq => (o1 q (by have := h1.1; omega)).trans (h2 q hq)) h3 (by omega) (by omega) h6
  rw [hlen, hz, show hp.length + 1 - he.length = hp.length - he.length + 1 by omega, show hsz hp + xS ci - hsz he = hsz hp - hsz he + xS ci by omega] at this
  have e3 : xcv G (.ref (16 + hp.length)) = .ref H.size := by
    rw [xcv_loc G (by omega), xloc_hp G (by omega), h1.1, show 16 + hp.length - 16 = hp.length by omega]
  rw [List.map_cons, e3] at this
  exact this
theorem xk_newarr {G : XG} {k N : Nat} {H1 : Heap} {h : Nat} {cA : ClassId} (hk : k < 3) (hA : cA = G.dA k) (e1 : H1[h]? = some (arrV cA N (fun _ => Value.int 0))) : xcell G h (xI k N (fun _ => 0)) H1 := by
  refine ⟨hk, ?_⟩
  rw [e1, hA]
  rfl
/-- newarray of a kind: int, byte, boolean -/
theorem xRn.newarr {G : XG} {l : Launch} {d : Nat} {X : XM} {Q : XOut → List AE → Prop} {pc nx : Nat} {ls st : List Value} {hp hp1 : List AE} {k N n : Nat} {x : Int32} {at_ : ArrayType} (hd : decode X.code pc = .ok (.newarray at_, 2)) (hk : k < 3) (hat : newarray.typeOf at_ = xkt k) (hw : Cond.arrayClass (xkt k) ∈ xW) (hx0 : ¬ x < 0) (hxN : x.toNatClampNeg = N) (hN : N ≤ 10000) (hn : pc + 2 = nx) (hl : 16 + hp.length = n) (hb1 : hp.length + 1 ≤ xCB) (hb2 : hsz hp + N ≤ xSB) (hh : hp ++ [xI k N (fun _ => 0)] = hp1)
    (kk : xRn G l d X Q nx ls (.ref n :: st) hp1) : xRn G l d X Q pc ls (.int x :: st) hp := by
  subst hn
  subst hl
  subst hh
  intro he p e s m args below meth c C H locs cls h1 h2 h3 h4 h5 h6
  have hcb : componentBytes (xkt k) ≤ 8 := by
    have : k = 0 ∨ k = 1 ∨ k = 2 := by omega
    rcases this with rfl | rfl | rfl <;> decide
  have hdv : defaultValue (xkt k) = .int 0 := by
    have : k = 0 ∨ k = 1 ∨ k = 2 := by omega
    rcases this with rfl | rfl | rfl <;> rfl
  rw [List.map_cons, xcv_int]
  refine va_newaK C.ex C.cd (by rw [hat]; exact C.wd args _ hw) rfl hd rfl hx0 hxN (by rw [hat]; exact Nat.le_trans (Nat.mul_le_mul hN hcb) (by decide)) (by show _ + 1 ≤ xCB - he.length; omega) (by show _ + N ≤ xSB - hsz he; omega) rfl fun H1 cA e1 z1 o1 hAr hNm => ?_
  have hcA : cA = G.dA k := by
    have hra := (xk_ty C (k := k) (by omega)).2
    rw [hat] at hNm
    have : k = 0 ∨ k = 1 ∨ k = 2 := by omega
    rcases this with rfl | rfl | rfl <;> exact Option.some.inj (hNm.symm.trans hra)
  rw [hat, hdv] at e1
  have hz : hsz (hp ++ [xI k N (fun _ => 0)]) = hsz hp + N := by rw [hsz_app]; rfl
  have hlen : (hp ++ [xI k N (fun _ => 0)]).length = hp.length + 1 := by simp
  have hrep : xRep G (hp ++ [xI k N (fun _ => 0)]) H1 := h1.push z1 o1 (xk_newarr hk hcA e1)
  have := kk he p e s m args below meth c C H1 locs cls hrep (fun q hq => (o1 q (by have := h1.1; omega)).trans (h2 q hq)) h3 (by omega) (by omega) h6
  rw [hlen, hz, show hp.length + 1 - he.length = hp.length - he.length + 1 by omega, show hsz hp + N - hsz he = hsz hp - hsz he + N by omega] at this
  have e3 : xcv G (.ref (16 + hp.length)) = .ref H.size := by
    rw [xcv_loc G (by omega), xloc_hp G (by omega), h1.1, show 16 + hp.length - 16 = hp.length by omega]
  rw [List.map_cons, e3] at this
  exact this
/-- newarray of longs -/
theorem xRn.newlong {G : XG} {l : Launch} {d : Nat} {X : XM} {Q : XOut → List AE → Prop} {pc nx : Nat} {ls st : List Value} {hp hp1 : List AE} {N n : Nat} {x : Int32} (hd : decode X.code pc = .ok (.newarray .long, 2)) (hw : Cond.arrayClass .long ∈ xW) (hx0 : ¬ x < 0) (hxN : x.toNatClampNeg = N) (hN : N ≤ 10000) (hn : pc + 2 = nx) (hl : 16 + hp.length = n) (hb1 : hp.length + 1 ≤ xCB) (hb2 : hsz hp + N ≤ xSB) (hh : hp ++ [xL N (fun _ => 0)] = hp1)
    (kk : xRn G l d X Q nx ls (.ref n :: st) hp1) : xRn G l d X Q pc ls (.int x :: st) hp := by
  subst hn
  subst hl
  subst hh
  intro he p e s m args below meth c C H locs cls h1 h2 h3 h4 h5 h6
  rw [List.map_cons, xcv_int]
  refine va_newaK (atype := .long) C.ex C.cd (C.wd args _ hw) rfl hd rfl hx0 hxN (Nat.le_trans (Nat.mul_le_mul hN (show componentBytes (newarray.typeOf .long) ≤ 8 by decide)) (by decide)) (by show _ + 1 ≤ xCB - he.length; omega) (by show _ + N ≤ xSB - hsz he; omega) rfl fun H1 cA e1 z1 o1 hAr hNm => ?_
  have hcA : cA = G.dA 3 := Option.some.inj (hNm.symm.trans (xk_ty C (k := 3) (by omega)).2)
  have hz : hsz (hp ++ [xL N (fun _ => 0)]) = hsz hp + N := by rw [hsz_app]; rfl
  have hlen : (hp ++ [xL N (fun _ => 0)]).length = hp.length + 1 := by simp
  have hrep : xRep G (hp ++ [xL N (fun _ => 0)]) H1 := h1.push z1 o1 (by show H1[_]? = _; rw [e1, hcA]; rfl)
  have := kk he p e s m args below meth c C H1 locs cls hrep (fun q hq => (o1 q (by have := h1.1; omega)).trans (h2 q hq)) h3 (by omega) (by omega) h6
  rw [hlen, hz, show hp.length + 1 - he.length = hp.length - he.length + 1 by omega, show hsz hp + N - hsz he = hsz hp - hsz he + N by omega] at this
  have e3 : xcv G (.ref (16 + hp.length)) = .ref H.size := by
    rw [xcv_loc G (by omega), xloc_hp G (by omega), h1.1, show 16 + hp.length - 16 = hp.length by omega]
  rw [List.map_cons, e3] at this
  exact this
/-- anewarray: kind 4 Frame, 5 Order -/
theorem xRn.anew {G : XG} {l : Launch} {d : Nat} {X : XM} {Q : XOut → List AE → Prop} {pc nx : Nat} {ls st : List Value} {hp hp1 : List AE} {idx k N n : Nat} {x : Int32} (hd : decode X.code pc = .ok (.anewarray idx, 3)) (hk : k = 4 ∨ k = 5) (hr : (X.own, idx, xkc k) ∈ xCr) (hw : Cond.arrayOver (xkt k) ∈ xW) (hx0 : ¬ x < 0) (hxN : x.toNatClampNeg = N) (hN : N ≤ 10000) (hn : pc + 3 = nx) (hl : 16 + hp.length = n) (hb1 : hp.length + 1 ≤ xCB) (hb2 : hsz hp + N ≤ xSB) (hh : hp ++ [xA k N (fun _ => 0)] = hp1)
    (kk : xRn G l d X Q nx ls (.ref n :: st) hp1) : xRn G l d X Q pc ls (.int x :: st) hp := by
  subst hn
  subst hl
  subst hh
  intro he p e s m args below meth c C H locs cls h1 h2 h3 h4 h5 h6
  rw [List.map_cons, xcv_int]
  have hkt : xkt k = .object (xR (xkc k)) := by rcases hk with rfl | rfl <;> rfl
  refine W.anew C.ex C.cd C.ow (C := xR (xkc k)) (C.wd args _ (xCr_w _ hr)) (by rw [← hkt]; exact C.wd args _ hw) rfl hd rfl hx0 (by rw [hxN]; omega) (by show _ + 1 ≤ xCB - he.length; omega) (by show _ + _ ≤ xSB - hsz he; rw [hxN]; omega) fun cA kA comp g1 g2 g3 g4 => ?_
  have hcA : cA = G.dA k := by
    have hra := (xk_ty C (k := k) (by omega)).2
    rcases hk with rfl | rfl
    · obtain ⟨_, _, _, _, _, q⟩ := hra
      exact Option.some.inj (g1.symm.trans q)
    · obtain ⟨_, _, _, _, _, q⟩ := hra
      exact Option.some.inj (g1.symm.trans q)
  rw [hxN]
  generalize hH1 : H.push { cls := cA, slots := Array.replicate N .null, vm := .none } = H1
  have z1 : H1.size = H.size + 1 := by rw [← hH1]; simp
  have o1 : ∀ q, q < H.size → H1[q]? = H[q]? := fun q hq => by rw [← hH1]; simp [Array.getElem?_push, Nat.ne_of_lt hq]
  have e1 : H1[H.size]? = some { cls := cA, slots := Array.replicate N .null, vm := .none } := by rw [← hH1]; simp
  have hz : hsz (hp ++ [xA k N (fun _ => 0)]) = hsz hp + N := by rw [hsz_app]; rfl
  have hlen : (hp ++ [xA k N (fun _ => 0)]).length = hp.length + 1 := by simp
  have hrep : xRep G (hp ++ [xA k N (fun _ => 0)]) H1 := by
    refine h1.push z1 o1 ⟨hk, ?_⟩
    rw [e1, hcA, vp_cell_q]
    congr 1
    unfold arrV
    congr 1
    apply Array.ext
    · simp
    · intro i h1 h2
      simp [xcvo, va_rf]
  have := kk he p e s m args below meth c C H1 locs cls hrep (fun q hq => (o1 q (by have := h1.1; omega)).trans (h2 q hq)) h3 (by omega) (by omega) h6
  rw [hlen, hz, show hp.length + 1 - he.length = hp.length - he.length + 1 by omega, show hsz hp + N - hsz he = hsz hp - hsz he + N by omega] at this
  have e3 : xcv G (.ref (16 + hp.length)) = .ref H.size := by
    rw [xcv_loc G (by omega), xloc_hp G (by omega), h1.1, show 16 + hp.length - 16 = hp.length by omega]
  rw [List.map_cons, e3] at this
  exact this
/-- Object's constructor -/
theorem xRn.objInit {G : XG} {l : Launch} {d : Nat} {X : XM} {Q : XOut → List AE → Prop} {pc nx : Nat} {ls : List Value} {hp : List AE} {idx n : Nat} (hd : decode X.code pc = .ok (.invokespecial idx, 3)) (hm : Cond.methodLink (xR X.own) idx objectInit ∈ xW) (h1w : Cond.instanceMethod objectInit ∈ xW) (h2w : Cond.code objectInit ⟨#[0xb1]⟩ 1 none ∈ xW) (hn : pc + 3 = nx) (hd1 : 1 ≤ d) (hn0 : n ≠ 0) (hls : ls.length = X.maxL)
    (k : xRn G l d X Q nx ls [] hp) : xRn G l d X Q pc ls [.ref n] hp := by
  subst hn
  intro he p e s m args below meth c C H locs cls h1 h2 h3 h4 h5 h6
  rw [List.map_cons, xcv_loc G hn0]
  exact W.objInit C.ex C.cd C.ow (C.wd args _ hm) (C.wd args _ h1w) (C.wd args _ h2w) rfl (by rw [C.ml, ← hls]; exact h6.1) rfl hd hd1 (by show _ ≤ 37 * d; simp only [List.map_nil, List.sum_nil, Nat.add_zero]; show 2 * 0 + 12 ≤ _; omega) (k he p e s m args below meth c C H locs cls h1 h2 h3 h4 h5 h6)

