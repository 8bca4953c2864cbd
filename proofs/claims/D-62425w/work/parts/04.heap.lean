/-! ===== rows that read and write the heap ===== -/
theorem xk_field {G : XG} {hp : List AE} {H : Heap} {n ci : Nat} {fs : List Value} (h : xRep G hp H) (hn : xat hp n = some (xO ci fs)) : n ≠ 0 ∧ ci < 11 ∧ fs.length = xN ci ∧ t_OB (xloc G n) (G.dC ci) (xN ci) (G.dI ci) H (vp_V (fs.map (xcv G))) := by
  obtain ⟨h1, h2, h3, h4⟩ := xat_cell h hn
  exact ⟨h3, h2.1, h2.2.1, h2.2.2⟩
theorem xput_rep {G : XG} {hp : List AE} {H H1 : Heap} {n : Nat} {e0 e : AE} (h : xRep G hp H) (hn : xat hp n = some e0) (hz : H1.size = H.size) (ho : ∀ q : Nat, q ≠ xloc G n → H1[q]? = H[q]?) (he : xcell G (xloc G n) e H1) : xRep G (xput hp n e) H1 := by
  obtain ⟨h1, -, -, -⟩ := xat_cell h hn
  rw [xloc_hp G h1] at ho he
  exact h.set hz ho he
theorem xV_map {G : XG} {fs : List Value} {k : Nat} {v : Value} (hk : fs[k]? = some v) : vp_V (fs.map (xcv G)) k = xcv G v := by
  simp [vp_V, List.getElem?_map, hk]
theorem xnar_ref {G : XG} {ty : FieldType} (h : (∃ C, ty = .object C) ∨ ∃ t, ty = .array t) (n : Nat) : narrow ty (xcv G (.ref n)) = xcv G (.ref n) ∧ fits ty (xcv G (.ref n)) = true := by
  rw [xcv_ref]
  unfold xcvo
  rcases h with ⟨C, rfl⟩ | ⟨t, rfl⟩ <;> (split <;> exact ⟨rfl, rfl⟩)
section XH
variable {G : XG} {l : Launch} {d : Nat} {X : XM} {he : List AE} {p : Program} {e : Env} {s : State} {m : MethodId} {args : Array Value} {below : List Frame} {meth : Method} {c : Code} {Q : XOut → List AE → Prop} {pc : Nat} {ls st : List Value} {hp : List AE}
theorem xi_getfield (C : xCx G l X he p s m meth c) {idx n ci k : Nat} {fs : List Value} {v : Value} {nest : Bool} (hd : decode X.code pc = .ok (.getfield idx, 3)) (hr : (X.own, idx, ci, k, nest) ∈ xFr) (hc : ci < 7) (hk : k < xN ci) (hn : xat hp n = some (xO ci fs)) (hv : fs[k]? = some v)
    (kk : xAt G l d he p e s m args below meth c Q (pc + 3) ls (v :: st) hp) : xAt G l d he p e s m args below meth c Q pc ls (.ref n :: st) hp := by
  intro H locs cls h1 h2 h3 h4 h5 h6
  obtain ⟨hn0, hc11, hlen, cell, q1, q2, q3, q4⟩ := xk_field h1 hn
  have hK := C.gs.2.1
  obtain ⟨hS, hfc, kC, hkC, hkind⟩ := hK.1 ci _ (xC_at hc11)
  obtain ⟨cf, kf, fi, f, hi, hsl⟩ := hS k hk
  have hlink := C.wd args _ (xFr_w _ hr)
  have hdecl := xdecl_ok ci hc k hk
  have hst := (u_facts hfc hkC (u_lays (C.wd args) (xlay_w hc) hk) hi).1
  have hslot : cell.slots[f.slot]? = some (xcv G v) := by rw [hsl, q4 k hk, xV_map hv]
  have hw := kk H locs cls h1 h2 h3 h4 h5 h6
  rw [List.map_cons, xcv_loc G hn0]
  have hi' : s.fieldFound? (xR ci) (xF ci k).2.1 (xF ci k).2.2.1 = some (cf, kf, fi, f) := hdecl ▸ hi
  cases nest with
  | true => exact va_Wgetf C.ex C.cd C.ow (show (Cond.fieldLinkNest (xR X.own) idx (xR ci) (xF ci k).2.1 (xF ci k).2.2.1 "TradeLink").before args s = true from hlink) hi' hst q1 (by rw [q3]; exact fun h => by cases h) hslot rfl rfl hd hw
  | false => exact W.getf C.ex C.cd C.ow (show (Cond.fieldLink (xR X.own) idx (xR ci) (xF ci k).2.1 (xF ci k).2.2.1).before args s = true from hlink) hi' hst q1 (by rw [q3]; exact fun h => by cases h) hslot rfl rfl hd hw
theorem xi_putfield (C : xCx G l X he p s m meth c) {idx n ci k : Nat} {fs : List Value} {v : Value} {nest : Bool} (hd : decode X.code pc = .ok (.putfield idx, 3)) (hr : (X.own, idx, ci, k, nest) ∈ xFr) (hc : ci < 7) (hk : k < xN ci) (hf : (xF ci k).2.2.2 = false) (hn : xat hp n = some (xO ci fs)) (hty : narrow (xT ci k) (xcv G v) = xcv G v ∧ fits (xT ci k) (xcv G v) = true)
    (kk : xAt G l d he p e s m args below meth c Q (pc + 3) ls st (xput hp n (xO ci (fs.set k v)))) : xAt G l d he p e s m args below meth c Q pc ls (v :: .ref n :: st) hp := by
  intro H locs cls h1 h2 h3 h4 h5 h6
  obtain ⟨hn0, hc11, hlen, cell, q1, q2, q3, q4⟩ := xk_field h1 hn
  obtain ⟨h16, -, -, -⟩ := xat_cell h1 hn
  have hK := C.gs.2.1
  have hap := va_apart (own := xR X.own) (C.wd args) (xlay_w hc) (xT ci) (xT_ok ci hc) (xnm_ok ci hc) hK (xC_at hc11)
  obtain ⟨hS, hfc, kC, hkC, hkind⟩ := hK.1 ci _ (xC_at hc11)
  obtain ⟨cf, kf, fi, f, hi, hsl⟩ := hS k hk
  have hlink := C.wd args _ (xFr_w _ hr)
  have hdecl := xdecl_ok ci hc k hk
  have hlay := C.wd args _ (xlay_w hc _ (u_in_lay hk))
  unfold u_lay at hlay
  rw [if_neg (by rw [hf]; decide)] at hlay
  have hst := (u_facts hfc hkC (u_lays (C.wd args) (xlay_w hc) hk) hi).1
  have h6' := u_store hfc hkC hkind hlay hi (xT_ok ci hc k hk) hty.1 hty.2
  have hi' : s.fieldFound? (xR ci) (xF ci k).2.1 (xF ci k).2.2.1 = some (cf, kf, fi, f) := hdecl ▸ hi
  have fin : ∀ H' : Heap, H'[xloc G n]? = some (cell.setSlot f.slot (xcv G v)) → H'.size = H.size → (∀ q, q ≠ xloc G n → H'[q]? = H[q]?) →
      W p l e (xroom d he) s m args below meth c H' (locs ++ [⟨xloc G n, f.slot⟩]) (hp.length - he.length) (hsz hp - hsz he) (xZ G he below s Q) (F0 m (pc + 3) cls (st.map (xcv G))) := by
    intro H' e1 e2 e3
    rw [hsl] at e1 ⊢
    have hrep : xRep G (xput hp n (xO ci (fs.set k v))) H' := by
      refine xput_rep h1 hn e2 e3 ⟨hc11, by rw [List.length_set]; exact hlen, ?_⟩
      rw [List.map_set]
      exact t_OB.to (V := updV (vp_V (fs.map (xcv G))) k (xcv G v)) ⟨_, e1, q2, q3, t_set q4 hap hk _⟩ (fun j _ => vp_updV_set (by rw [List.length_map, hlen]; exact hk) _ j)
    have hb : G.base ≤ xloc G n := by rw [xloc_hp G h16]; omega
    have hz : hsz (xput hp n (xO ci (fs.set k v))) = hsz hp := xput_hsz hn rfl
    have := kk H' (locs ++ [⟨xloc G n, G.dI ci k⟩]) cls hrep (fun q hq => (e3 q (by omega)).trans (h2 q hq)) (t_lc h3 hb) (by rw [xput_len]; exact h4) (by rw [hz]; exact h5) h6
    rw [xput_len, hz] at this
    exact this
  rw [List.map_cons, List.map_cons, xcv_loc G hn0]
  cases nest with
  | true => exact va_WputK C.ex C.cd (f := f) C.ow (show (Cond.fieldLinkNest (xR X.own) idx (xR ci) (xF ci k).2.1 (xF ci k).2.2.1 "TradeLink").before args s = true from hlink) hi' hst (by rw [q2]; exact h6') q1 q3 (by rw [hsl]; exact k2_hasslot (q4 k hk)) rfl rfl hd fin
  | false => exact W.putK C.ex C.cd (f := f) ⟨C.ow, (show (Cond.fieldLink (xR X.own) idx (xR ci) (xF ci k).2.1 (xF ci k).2.2.1).before args s = true from hlink), ⟨_, _, _, hi'⟩, hst⟩ (by rw [q2]; exact h6') q1 q3 (by rw [hsl]; exact k2_hasslot (q4 k hk)) rfl rfl hd fin
/-- a final field, in its class's constructor -/
theorem xi_putfinal (C : xCx G l X he p s m meth c) {idx n k : Nat} {fs : List Value} {v : Value} (hd : decode X.code pc = .ok (.putfield idx, 3)) (hr : (X.own, idx, X.own, k, false) ∈ xFr) (hc : X.own < 7) (hk : k < xN X.own) (hf : (xF X.own k).2.2.2 = true) (hnm : X.y.name = "<init>") (hn : xat hp n = some (xO X.own fs)) (hty : narrow (xT X.own k) (xcv G v) = xcv G v ∧ fits (xT X.own k) (xcv G v) = true)
    (kk : xAt G l d he p e s m args below meth c Q (pc + 3) ls st (xput hp n (xO X.own (fs.set k v)))) : xAt G l d he p e s m args below meth c Q pc ls (v :: .ref n :: st) hp := by
  intro H locs cls h1 h2 h3 h4 h5 h6
  obtain ⟨hn0, hc11, hlen, cell, q1, q2, q3, q4⟩ := xk_field h1 hn
  obtain ⟨h16, -, -, -⟩ := xat_cell h1 hn
  have hK := C.gs.2.1
  have hap := va_apart (own := xR X.own) (C.wd args) (xlay_w hc) (xT X.own) (xT_ok X.own hc) (xnm_ok X.own hc) hK (xC_at hc11)
  obtain ⟨hS, hfc, kC, hkC, hkind⟩ := hK.1 X.own _ (xC_at hc11)
  obtain ⟨cf, kf, fi, f, hi, hsl⟩ := hS k hk
  have hlink := C.wd args _ (xFr_w _ hr)
  have hdecl := xdecl_ok X.own hc k hk
  have hlay := C.wd args _ (xlay_w hc _ (u_in_lay hk))
  unfold u_lay at hlay
  rw [if_pos hf] at hlay
  have hst := (u_facts hfc hkC (u_lays (C.wd args) (xlay_w hc) hk) hi).1
  have h6' := u_fits hfc hkC hkind (u_lays (C.wd args) (xlay_w hc) hk) hi (xT_ok X.own hc k hk) hty.1 hty.2
  have hi' : s.fieldFound? (xR X.own) (xF X.own k).2.1 (xF X.own k).2.2.1 = some (cf, kf, fi, f) := hdecl ▸ hi
  have hlay' : (Cond.laysFinal (xR X.own) (xR X.own) (xF X.own k).2.1 (xF X.own k).2.2.1).before args s = true := hdecl ▸ hlay
  rw [List.map_cons, List.map_cons, xcv_loc G hn0]
  refine W.putFinK C.ex C.cd C.ow (show (Cond.fieldLink (xR X.own) idx (xR X.own) (xF X.own k).2.1 (xF X.own k).2.2.1).before args s = true from hlink) hi' hst (laid_decl C.ow hlay' hi') (C.nm.trans hnm) (by rw [q2]; exact h6') q1 q3 (by rw [hsl]; exact k2_hasslot (q4 k hk)) rfl rfl hd ?_
  intro H' e1 e2 e3
  rw [hsl] at e1 ⊢
  have hrep : xRep G (xput hp n (xO X.own (fs.set k v))) H' := by
    refine xput_rep h1 hn e2 e3 ⟨hc11, by rw [List.length_set]; exact hlen, ?_⟩
    rw [List.map_set]
    exact t_OB.to (V := updV (vp_V (fs.map (xcv G))) k (xcv G v)) ⟨_, e1, q2, q3, t_set q4 hap hk _⟩ (fun j _ => vp_updV_set (by rw [List.length_map, hlen]; exact hk) _ j)
  have hb : G.base ≤ xloc G n := by rw [xloc_hp G h16]; omega
  have hz : hsz (xput hp n (xO X.own (fs.set k v))) = hsz hp := xput_hsz hn rfl
  have := kk H' (locs ++ [⟨xloc G n, G.dI X.own k⟩]) cls hrep (fun q hq => (e3 q (Nat.ne_of_lt (Nat.lt_of_lt_of_le hq hb))).trans (h2 q hq)) (t_lc h3 hb) (by rw [xput_len]; exact h4) (by rw [hz]; exact h5) h6
  rw [xput_len, hz] at this
  exact this
theorem xS_of (C : xCx G l X he p s m meth c) {H : Heap} {locs : List Loc} (h1 : xRep G hp H) (h2 : ∀ q : Nat, q < G.base → H[q]? = s.heap[q]?) (h3 : ∀ q ∈ locs, G.base ≤ q.base) (h4 : he.length ≤ hp.length ∧ hp.length ≤ xCB) : va_S (xAr G) s.heap H locs :=
  ⟨by rw [h1.1, C.rp.1]; omega, fun q _ hq => h2 q (Nat.not_le.mp hq), h3⟩
/-- the constants' int fields -/
def xcf (j n : Nat) : Int32 := match xEf[j]? with
  | some f => f.2.2.2.getD (n - 1) 0
  | none => 0
theorem xi_getconst (C : xCx G l X he p s m meth c) {idx n j : Nat} {nest : Bool} (hd : decode X.code pc = .ok (.getfield idx, 3)) (hr : (X.own, idx, j, nest) ∈ xCf) (hj : j < 5) (hn : 1 ≤ n ∧ n ≤ 10)
    (kk : xAt G l d he p e s m args below meth c Q (pc + 3) ls (.int (xcf j n) :: st) hp) : xAt G l d he p e s m args below meth c Q pc ls (.ref n :: st) hp := by
  intro H locs cls h1 h2 h3 h4 h5 h6
  have hE := C.gs.2.2.1
  have hS := xS_of C h1 h2 h3 h4
  have hlink := C.wd args _ (xCf_w _ hr)
  have hw := kk H locs cls h1 h2 h3 h4 h5 h6
  obtain ⟨f0, hf0⟩ : ∃ f0, xEf[j]? = some f0 := ⟨_, List.getElem?_eq_getElem (show j < xEf.length from hj)⟩
  obtain ⟨cf, kf, i, f, cell, g1, g2, g3, g4, g5, g6⟩ := ((hE.1 (n - 1) (show n - 1 < 10 by omega)).2.2 f0 (List.mem_of_getElem? hf0)).kept hS.2.1
  have hv : xcf j n = f0.2.2.2.getD (n - 1) 0 := by unfold xcf; rw [hf0]
  have hloc : xloc G n = G.ad (n - 1) := by unfold xloc; rw [if_pos (by omega)]
  rw [List.map_cons, xcv_loc G (by omega), hloc]
  rw [List.map_cons, xcv_int, hv] at hw
  unfold xCfC at hlink
  rw [hf0] at hlink
  cases nest with
  | true => exact va_Wgetf C.ex C.cd C.ow (show (Cond.fieldLinkNest (xR X.own) idx f0.1 f0.2.1 f0.2.2.1 "TradeLink").before args s = true from hlink) g1 g2 g3 g4 g5 rfl rfl hd hw
  | false => exact W.getf C.ex C.cd C.ow (show (Cond.fieldLink (xR X.own) idx f0.1 f0.2.1 f0.2.2.1).before args s = true from hlink) g1 g2 g3 g4 g5 rfl rfl hd hw
theorem xi_getstatic (C : xCx G l X he p s m meth c) {idx j : Nat} (hd : decode X.code pc = .ok (.getstatic idx, 3)) (hr : (X.own, idx, j) ∈ xSr) (hj : j < 10)
    (kk : xAt G l d he p e s m args below meth c Q (pc + 3) ls (.ref (j + 1) :: st) hp) : xAt G l d he p e s m args below meth c Q pc ls st hp := by
  intro H locs cls h1 h2 h3 h4 h5 h6
  have hE := C.gs.2.2.1
  have hS := xS_of C h1 h2 h3 h4
  have hlink := C.wd args _ (xSr_w _ hr)
  have hw := kk H locs cls h1 h2 h3 h4 h5 h6
  have hloc : xloc G (j + 1) = G.ad j := by unfold xloc; rw [if_pos (by omega)]; rfl
  rw [List.map_cons, xcv_loc G (by omega), hloc] at hw
  exact va_gets C.ex C.cd (hE.1 j hj).1 hS C.ow hlink (fun x h => h) hd hw
/-! arrays -/
theorem xk_ty (C : xCx G l X he p s m meth c) {k : Nat} (hk : k < 6) : ArrOfT s (G.dA k) (xkt k) ∧ va_RA s (G.dA k) (xkt k) := by
  have hK := C.gs.2.1
  have : k = 0 ∨ k = 1 ∨ k = 2 ∨ k = 3 ∨ k = 4 ∨ k = 5 := by omega
  rcases this with rfl | rfl | rfl | rfl | rfl | rfl
  · exact hK.2 0 _ rfl
  · exact hK.2 1 _ rfl
  · exact hK.2 2 _ rfl
  · exact hK.2 3 _ rfl
  · exact hK.2 4 _ rfl
  · exact hK.2 5 _ rfl
theorem xk_inb {cA : ClassId} {n : Nat} {f : Nat → Value} {i : Int32} (h : vp_in i n) : ¬ (i < 0 ∨ (arrV cA n f).slots.size ≤ i.toNatClampNeg) := by rw [arrV_size]; exact h
theorem xk_rd {cA : ClassId} {n : Nat} {f : Nat → Value} {i : Int32} (h : vp_in i n) : (arrV cA n f).slots[i.toNatClampNeg]? = some (f i.toNatClampNeg) := arrV_read _ _ (Nat.not_le.mp fun q => h (Or.inr q))
theorem xi_iaload (C : xCx G l X he p s m meth c) {n N : Nat} {f : Nat → Int32} {i : Int32} (hd : decode X.code pc = .ok (.iaload, 1)) (hn : xat hp n = some (xI 0 N f)) (hi : vp_in i N)
    (kk : xAt G l d he p e s m args below meth c Q (pc + 1) ls (.int (f i.toNatClampNeg) :: st) hp) : xAt G l d he p e s m args below meth c Q pc ls (.int i :: .ref n :: st) hp := by
  intro H locs cls h1 h2 h3 h4 h5 h6
  obtain ⟨-, hc, hn0, -⟩ := xat_cell h1 hn
  have hw := kk H locs cls h1 h2 h3 h4 h5 h6
  rw [List.map_cons, List.map_cons, xcv_loc G hn0]
  exact W.iald C.ex C.cd hc.2 ((xk_ty C (k := 0) (by omega)).1 N (fun j => .int (f j))) (fun q => by cases q) (xk_inb hi) (xk_rd hi) rfl rfl hd hw
theorem xi_baload (C : xCx G l X he p s m meth c) {n N : Nat} {f : Nat → Int32} {i : Int32} (hd : decode X.code pc = .ok (.baload, 1)) (hn : xat hp n = some (xI 1 N f)) (hi : vp_in i N)
    (kk : xAt G l d he p e s m args below meth c Q (pc + 1) ls (.int (f i.toNatClampNeg) :: st) hp) : xAt G l d he p e s m args below meth c Q pc ls (.int i :: .ref n :: st) hp := by
  intro H locs cls h1 h2 h3 h4 h5 h6
  obtain ⟨-, hc, hn0, -⟩ := xat_cell h1 hn
  have hw := kk H locs cls h1 h2 h3 h4 h5 h6
  rw [List.map_cons, List.map_cons, xcv_loc G hn0]
  exact W.bald C.ex C.cd hc.2 ((xk_ty C (k := 1) (by omega)).1 N (fun j => .int (f j))) (fun q => by cases q) (xk_inb hi) (xk_rd hi) rfl rfl hd hw
theorem xi_zaload (C : xCx G l X he p s m meth c) {n N : Nat} {f : Nat → Int32} {i : Int32} (hd : decode X.code pc = .ok (.baload, 1)) (hn : xat hp n = some (xI 2 N f)) (hi : vp_in i N)
    (kk : xAt G l d he p e s m args below meth c Q (pc + 1) ls (.int (f i.toNatClampNeg) :: st) hp) : xAt G l d he p e s m args below meth c Q pc ls (.int i :: .ref n :: st) hp := by
  intro H locs cls h1 h2 h3 h4 h5 h6
  obtain ⟨-, hc, hn0, -⟩ := xat_cell h1 hn
  have hw := kk H locs cls h1 h2 h3 h4 h5 h6
  rw [List.map_cons, List.map_cons, xcv_loc G hn0]
  exact W.zald C.ex C.cd hc.2 ((xk_ty C (k := 2) (by omega)).1 N (fun j => .int (f j))) (fun q => by cases q) (xk_inb hi) (xk_rd hi) rfl rfl hd hw
theorem xi_laload (C : xCx G l X he p s m meth c) {n N : Nat} {f : Nat → Int64} {i : Int32} (hd : decode X.code pc = .ok (.laload, 1)) (hn : xat hp n = some (xL N f)) (hi : vp_in i N)
    (kk : xAt G l d he p e s m args below meth c Q (pc + 1) ls (.long (f i.toNatClampNeg) :: st) hp) : xAt G l d he p e s m args below meth c Q pc ls (.int i :: .ref n :: st) hp := by
  intro H locs cls h1 h2 h3 h4 h5 h6
  obtain ⟨-, hc, hn0, -⟩ := xat_cell h1 hn
  have hw := kk H locs cls h1 h2 h3 h4 h5 h6
  rw [List.map_cons, List.map_cons, xcv_loc G hn0]
  exact W.lald C.ex C.cd hc ((xk_ty C (k := 3) (by omega)).1 N (fun j => .long (f j))) (fun q => by cases q) (xk_inb hi) (xk_rd hi) rfl rfl hd hw
theorem xi_aaload (C : xCx G l X he p s m meth c) {n k N : Nat} {f : Nat → Nat} {i : Int32} (hd : decode X.code pc = .ok (.aaload, 1)) (hn : xat hp n = some (xA k N f)) (hi : vp_in i N)
    (kk : xAt G l d he p e s m args below meth c Q (pc + 1) ls (.ref (f i.toNatClampNeg) :: st) hp) : xAt G l d he p e s m args below meth c Q pc ls (.int i :: .ref n :: st) hp := by
  intro H locs cls h1 h2 h3 h4 h5 h6
  obtain ⟨-, hc, hn0, -⟩ := xat_cell h1 hn
  have hw := kk H locs cls h1 h2 h3 h4 h5 h6
  rw [List.map_cons, List.map_cons, xcv_loc G hn0]
  obtain ⟨hk, hc⟩ := hc
  have hty : (xkt k).isReference = true := by rcases hk with rfl | rfl <;> rfl
  exact W.aald C.ex C.cd hc ((xk_ty C (k := k) (by omega)).1 N (fun j => va_rf (xcvo G (f j)))) hty (fun q => by cases q) (xk_inb hi) (xk_rd hi) rfl rfl hd hw
theorem xi_sload (C : xCx G l X he p s m meth c) {i : Int32} (hd : decode X.code pc = .ok (.iaload, 1)) (hi : vp_in i G.L)
    (kk : xAt G l d he p e s m args below meth c Q (pc + 1) ls (.int (G.xs i.toNatClampNeg) :: st) hp) : xAt G l d he p e s m args below meth c Q pc ls (.int i :: .ref 11 :: st) hp := by
  intro H locs cls h1 h2 h3 h4 h5 h6
  have hS := xS_of C h1 h2 h3 h4
  have hw := kk H locs cls h1 h2 h3 h4 h5 h6
  have hb : G.b < s.heap.size := by have := C.gs.2.2.2.2.2.2.2; have := C.gs.2.2.2.2.1; omega
  exact va_sld C.ex C.cd C.gs.2.2.2.1 hb (Nat.not_le.mpr C.gs.2.2.2.2.1) hS hi hd hw
theorem xi_slen (C : xCx G l X he p s m meth c) (hd : decode X.code pc = .ok (.arraylength, 1))
    (kk : xAt G l d he p e s m args below meth c Q (pc + 1) ls (.int (Int32.ofNat G.L) :: st) hp) : xAt G l d he p e s m args below meth c Q pc ls (.ref 11 :: st) hp := by
  intro H locs cls h1 h2 h3 h4 h5 h6
  have hS := xS_of C h1 h2 h3 h4
  have hw := kk H locs cls h1 h2 h3 h4 h5 h6
  have hb : G.b < s.heap.size := by have := C.gs.2.2.2.2.2.2.2; have := C.gs.2.2.2.2.1; omega
  exact va_slen C.ex C.cd C.gs.2.2.2.1 hb (Nat.not_le.mpr C.gs.2.2.2.2.1) hS hd hw
/-- what is left to say behind a store -/
theorem xk_stored {n : Nat} {e0 e1 : AE} {H H' : Heap} {locs : List Loc} {cls : Array Slot} {j pc' : Nat} (hn : xat hp n = some e0) (hz : esz e1 = esz e0) (h1 : xRep G hp H) (h2 : ∀ q : Nat, q < G.base → H[q]? = s.heap[q]?) (h3 : ∀ q ∈ locs, G.base ≤ q.base) (h4 : he.length ≤ hp.length ∧ hp.length ≤ xCB) (h5 : hsz he ≤ hsz hp ∧ hsz hp ≤ xSB) (h6 : xLoc G cls ls)
    (z : H'.size = H.size) (oq : ∀ q, q ≠ xloc G n → H'[q]? = H[q]?) (hc : xcell G (xloc G n) e1 H') (kk : xAt G l d he p e s m args below meth c Q pc' ls st (xput hp n e1)) :
    W p l e (xroom d he) s m args below meth c H' (locs ++ [⟨xloc G n, j⟩]) (hp.length - he.length) (hsz hp - hsz he) (xZ G he below s Q) (F0 m pc' cls (st.map (xcv G))) := by
  obtain ⟨h16, -, -, -⟩ := xat_cell h1 hn
  have hb : G.base ≤ xloc G n := by rw [xloc_hp G h16]; omega
  have hz' : hsz (xput hp n e1) = hsz hp := xput_hsz hn hz
  have := kk H' (locs ++ [⟨xloc G n, j⟩]) cls (xput_rep h1 hn z oq hc) (fun q hq => (oq q (by omega)).trans (h2 q hq)) (t_lc h3 hb) (by rw [xput_len]; exact h4) (by rw [hz']; exact h5) h6
  rw [xput_len, hz'] at this
  exact this
theorem xi_iastore (C : xCx G l X he p s m meth c) {n N : Nat} {f : Nat → Int32} {i x : Int32} (hd : decode X.code pc = .ok (.iastore, 1)) (hn : xat hp n = some (xI 0 N f)) (hi : vp_in i N)
    (kk : xAt G l d he p e s m args below meth c Q (pc + 1) ls st (xput hp n (xI 0 N (upd f i.toNatClampNeg x)))) : xAt G l d he p e s m args below meth c Q pc ls (.int x :: .int i :: .ref n :: st) hp := by
  intro H locs cls h1 h2 h3 h4 h5 h6
  obtain ⟨-, hc, hn0, -⟩ := xat_cell h1 hn
  rw [List.map_cons, List.map_cons, List.map_cons, xcv_loc G hn0]
  refine W.iast C.ex C.cd hc.2 ((xk_ty C (k := 0) (by omega)).1 N (fun j => .int (f j))) (fun q => by cases q) (xk_inb hi) rfl rfl hd fun H' e1 z oq => xk_stored (e1 := xI 0 N (upd f i.toNatClampNeg x)) hn rfl h1 h2 h3 h4 h5 h6 z oq ⟨by omega, ?_⟩ kk
  rw [e1, vp_cell_i, vp_cell_i, arrV_store]
  congr 2
  funext q
  by_cases hq : q = i.toNatClampNeg
  · subst hq
    simp [updV, upd]
  · simp [updV, upd, hq]
theorem xi_bastore (C : xCx G l X he p s m meth c) {n N : Nat} {f : Nat → Int32} {i x : Int32} (hd : decode X.code pc = .ok (.bastore, 1)) (hn : xat hp n = some (xI 1 N f)) (hi : vp_in i N)
    (kk : xAt G l d he p e s m args below meth c Q (pc + 1) ls st (xput hp n (xI 1 N (upd f i.toNatClampNeg (vp_nar .byte x))))) : xAt G l d he p e s m args below meth c Q pc ls (.int x :: .int i :: .ref n :: st) hp := by
  intro H locs cls h1 h2 h3 h4 h5 h6
  obtain ⟨-, hc, hn0, -⟩ := xat_cell h1 hn
  rw [List.map_cons, List.map_cons, List.map_cons, xcv_loc G hn0]
  refine W.bast C.ex C.cd hc.2 ((xk_ty C (k := 1) (by omega)).1 N (fun j => .int (f j))) (fun q => by cases q) (xk_inb hi) rfl rfl hd fun H' e1 z oq => xk_stored (e1 := xI 1 N (upd f i.toNatClampNeg (vp_nar .byte x))) hn rfl h1 h2 h3 h4 h5 h6 z oq ⟨by omega, ?_⟩ kk
  rw [e1, vp_cell_i, vp_cell_i, arrV_store]
  congr 2
  funext q
  by_cases hq : q = i.toNatClampNeg
  · subst hq
    simp [updV, upd, vp_nar]
    try rfl
  · simp [updV, upd, hq]
theorem xi_zastore (C : xCx G l X he p s m meth c) {n N : Nat} {f : Nat → Int32} {i x : Int32} (hd : decode X.code pc = .ok (.bastore, 1)) (hn : xat hp n = some (xI 2 N f)) (hi : vp_in i N)
    (kk : xAt G l d he p e s m args below meth c Q (pc + 1) ls st (xput hp n (xI 2 N (upd f i.toNatClampNeg (vp_nar .boolean x))))) : xAt G l d he p e s m args below meth c Q pc ls (.int x :: .int i :: .ref n :: st) hp := by
  intro H locs cls h1 h2 h3 h4 h5 h6
  obtain ⟨-, hc, hn0, -⟩ := xat_cell h1 hn
  rw [List.map_cons, List.map_cons, List.map_cons, xcv_loc G hn0]
  refine W.zast C.ex C.cd hc.2 ((xk_ty C (k := 2) (by omega)).1 N (fun j => .int (f j))) (fun q => by cases q) (xk_inb hi) rfl rfl hd fun H' e1 z oq => xk_stored (e1 := xI 2 N (upd f i.toNatClampNeg (vp_nar .boolean x))) hn rfl h1 h2 h3 h4 h5 h6 z oq ⟨by omega, ?_⟩ kk
  rw [e1, vp_cell_i, vp_cell_i, arrV_store]
  congr 2
  funext q
  by_cases hq : q = i.toNatClampNeg
  · subst hq
    simp [updV, upd, vp_nar]
    try rfl
  · simp [updV, upd, hq]
theorem xi_lastore (C : xCx G l X he p s m meth c) {n N : Nat} {f : Nat → Int64} {i : Int32} {x : Int64} (hd : decode X.code pc = .ok (.lastore, 1)) (hn : xat hp n = some (xL N f)) (hi : vp_in i N)
    (kk : xAt G l d he p e s m args below meth c Q (pc + 1) ls st (xput hp n (xL N (vp_updL f i.toNatClampNeg x)))) : xAt G l d he p e s m args below meth c Q pc ls (.long x :: .int i :: .ref n :: st) hp := by
  intro H locs cls h1 h2 h3 h4 h5 h6
  obtain ⟨-, hc, hn0, -⟩ := xat_cell h1 hn
  rw [List.map_cons, List.map_cons, List.map_cons, xcv_loc G hn0]
  refine W.last C.ex C.cd hc ((xk_ty C (k := 3) (by omega)).1 N (fun j => .long (f j))) (fun q => by cases q) (xk_inb hi) rfl rfl hd fun H' e1 z oq => xk_stored (e1 := xL N (vp_updL f i.toNatClampNeg x)) hn rfl h1 h2 h3 h4 h5 h6 z oq ?_ kk
  show H'[_]? = some (vp_cell _ _)
  rw [e1, vp_cell_l, vp_cell_l, arrV_store]
  congr 2
  funext q
  by_cases hq : q = i.toNatClampNeg
  · subst hq
    simp [updV, vp_updL]
  · simp [updV, vp_updL, hq]
/-- the class of an array's elements -/
def xkc (k : Nat) : Nat := if k = 4 then 1 else 4
theorem xi_aastore (C : xCx G l X he p s m meth c) {n v k N : Nat} {f : Nat → Nat} {i : Int32} {fs : List Value} (hd : decode X.code pc = .ok (.aastore, 1)) (hn : xat hp n = some (xA k N f)) (hv : xat hp v = some (xO (xkc k) fs)) (hi : vp_in i N)
    (kk : xAt G l d he p e s m args below meth c Q (pc + 1) ls st (xput hp n (xA k N (va_up f i.toNatClampNeg v)))) : xAt G l d he p e s m args below meth c Q pc ls (.ref v :: .int i :: .ref n :: st) hp := by
  intro H locs cls h1 h2 h3 h4 h5 h6
  obtain ⟨-, hc, hn0, -⟩ := xat_cell h1 hn
  obtain ⟨hv0, hc11, hlen, cellV, g1, g2, g3, -⟩ := xk_field h1 hv
  obtain ⟨hk, hc⟩ := hc
  have hlt : i.toNatClampNeg < N := Nat.not_le.mp fun q => hi (Or.inr q)
  have h0 : ¬ i < 0 := fun q => hi (Or.inl q)
  have hcls := (C.gs.2.1.1 (xkc k) _ (xC_at hc11)).2
  obtain ⟨kC, hkC, -⟩ := hcls.2
  have hra := (xk_ty C (k := k) (by omega)).2
  obtain ⟨kA, comp, k1, k2, k3⟩ : ∃ (kA : Class) (comp : ClassId), s.vm.classes[G.dA k]? = some kA ∧ kA.kind = .array comp (.object (xR (xkc k))) ∧ s.vm.findClass (xR (xkc k)) = some comp := by
    rcases hk with rfl | rfl
    · obtain ⟨kA, comp, k1, k2, k3, -⟩ := hra
      exact ⟨kA, comp, k1, k2, k3⟩
    · obtain ⟨kA, comp, k1, k2, k3, -⟩ := hra
      exact ⟨kA, comp, k1, k2, k3⟩
  have hcomp : comp = G.dC (xkc k) := Option.some.inj (k3.symm.trans hcls.1)
  subst hcomp
  rw [List.map_cons, List.map_cons, List.map_cons, xcv_loc G hn0, xcv_loc G hv0]
  refine W.aast C.ex C.cd hc (fun q h => by cases h) (fun h => by cases h) k1 k2 rfl hkC ⟨h0, by show _ < (arrV _ _ _).slots.size; rw [arrV_size]; exact hlt⟩ g1 (fun q h => by rw [g3] at h; cases h) (by rw [g2]; exact hkC) (by rw [g2]; exact va_assign hcls) rfl rfl hd fun H' e1 z oq => xk_stored (e1 := xA k N (va_up f i.toNatClampNeg v)) hn rfl h1 h2 h3 h4 h5 h6 z oq ⟨hk, ?_⟩ kk
  rw [e1, vp_cell_q, vp_cell_q, arrV_store]
  congr 2
  funext q
  by_cases hq : q = i.toNatClampNeg
  · subst hq
    simp [updV, va_up, va_rf, xcvo, hv0]
  · simp [updV, va_up, hq]
end XH
