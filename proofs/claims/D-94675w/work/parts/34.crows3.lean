set_option maxRecDepth 100000
/-! new arrays, casts, calls, returns of the component -/
def nwI (w : AH) (t : Nat) (n : Int32) : Option AH := if n < 0 ∨ 1000000 < n.toNatClampNeg then none else nwE w (.inl (t, n.toNatClampNeg, .inl (fun _ => 0))) n.toNatClampNeg
def nwL (w : AH) (n : Int32) : Option AH := if n < 0 ∨ 1000000 < n.toNatClampNeg then none else nwE w (.inl (3, n.toNatClampNeg, .inr (.inl (fun _ => 0)))) n.toNatClampNeg
def nwR (w : AH) (t : Nat) (n : Int32) : Option AH := if n < 0 ∨ 1000000 < n.toNatClampNeg then none else nwE w (.inl (t, n.toNatClampNeg, .inr (.inr (.inr (.inr (fun _ => none)))))) n.toNatClampNeg
/-- an object's class is one of these -/
def ckO (w : AH) (a : Nat) (cs : List Nat) : Option Nat := (gO w a cs).bind fun _ => some a
theorem ckO_eq {w : AH} {a b : Nat} {cs : List Nat} (h : ckO w a cs = some b) : b = a ∧ ∃ ci fs, ci ∈ cs ∧ w.1 a = .inr (ci, fs) := by
  obtain ⟨fs, h1, h2⟩ := ob h
  obtain ⟨ci, h3, h4⟩ := gO_eq h1
  exact ⟨(Option.some.inj h2).symm, ci, fs, h3, h4⟩
/-- the number of an object's class -/
def clO (w : AH) (a : Nat) : Option Nat := match w.1 a with
  | .inr q => some q.1
  | .inl _ => none
theorem clO_eq {w : AH} {a ci : Nat} (h : clO w a = some ci) : ∃ fs, w.1 a = .inr (ci, fs) := by
  unfold clO at h
  split at h
  · rename_i q hq; cases h; exact ⟨q.2, hq⟩
  · cases h
def CKs (own : String) (index : Nat) (cs : List Nat) : Prop := ∃ nm : String, Cond.classLink own index nm ∈ lw_all ∧ ∀ ci ∈ cs, ∃ (C : String) (T : u_T) (N : Nat), cls_[ci]? = some (C, T, N) ∧ (C = nm ∨ Cond.castable C nm ∈ lw_tbl)
section RowsZ
variable {p : Program} {l : Launch} {e : Env} {R : Room} {s : State} {m : MethodId} {args : Array Value} {below : List Frame} {meth : Method} {c : Code} {H : Heap} {locs : List Loc} {cells slots : Nat} {Q : State → Prop}
variable {cc : ByteArray} {pc : Nat} {ls : Array Slot} {rest st0 : List Value} {D : vG} {z : Nat} {E : State → Prop} {w0 w w1 : AH} {a nL : Nat} {own : String}
theorem x_fresh {e1 : cE} {N : Nat} (hg : nwE w e1 N = some w1) (hR : Rx D z w0 w s H locs) {H1 : Heap} (z1 : H1.size = w.2.1 + 1) (o1 : ∀ q : Nat, q < w.2.1 → H1[q]? = H[q]?) (h1 : va_at D.1 cls_ (w.2.1, tr D.2.1 e1) H1)
    (kk : Rx D z w0 w1 s H1 locs → W p l e R s m args below meth c H1 locs (uc w0 w1) (us w0 w1) Q (F0 m pc ls st0)) : W p l e R s m args below meth c H1 locs (uc w0 w + 1) (us w0 w + N) Q (F0 m pc ls st0) := by
  obtain ⟨q1, q2, rfl⟩ := nwE_eq hg
  obtain ⟨hR1, hR2, hR3⟩ := hR
  have hS := hR1.2
  have hz := hR1.1.1
  have hk := kk ⟨⟨hR1.1.push z1 o1 h1, ⟨Nat.le_trans hS.1 (by rw [z1, hz]; omega), fun x h1 h2 => (o1 x (by rw [← hz]; exact Nat.lt_of_lt_of_le h1 hS.1)).trans (hS.2.1 x h1 h2), hS.2.2⟩⟩, by simp only; omega, by simp only; omega⟩
  have e2 : uc w0 (va_up w.1 w.2.1 e1, w.2.1 + 1, w.2.2.1 - 1, w.2.2.2.1 - N, w.2.2.2.2) = uc w0 w + 1 := by simp only [uc]; omega
  have e3 : us w0 (va_up w.1 w.2.1 e1, w.2.1 + 1, w.2.2.1 - 1, w.2.2.2.1 - N, w.2.2.2.2) = us w0 w + N := by simp only [us]; omega
  rw [e2, e3] at hk
  exact hk
theorem x_newa (t : Nat) {atype : ArrayType} {ty : FieldType} (hty : newarray.typeOf atype = ty) (ht : (tys_ D.2.1)[t]? = some (D.2.1 t, ty)) (hra : va_RA s (D.2.1 t) ty → s.vm.findClass ("[" ++ ty.toString) = some (D.2.1 t)) (hcb : componentBytes ty ≤ 8) (hdf : defaultValue ty = .int 0) (harr : Cond.arrayClass ty ∈ lw_all) {n : Int32} (hg : nwI w t n = some w1) (hRc : w0.2.2.1 ≤ R.cells ∧ w0.2.2.2.1 ≤ R.slots) (hx : p.tables.exec = Jvm.exec) (hb : c.code = cc) (hC : Cx D z E s m args own) (hR : Rx D z w0 w s H locs) (hdg : decode cc pc = .ok (.newarray atype, 2)) (kk : ∀ (H1 : Heap) (locs1 : List Loc), Rx D z w0 w1 s H1 locs1 → W p l e R s m args below meth c H1 locs1 (uc w0 w1) (us w0 w1) Q (F0 m (pc + 2) ls (.ref w.2.1 :: rest))) : W p l e R s m args below meth c H locs (uc w0 w) (us w0 w) Q (F0 m pc ls (.int n :: rest)) := by
  unfold nwI at hg
  split at hg
  · cases hg
  rename_i hn
  obtain ⟨q1, q2, -⟩ := nwE_eq hg
  subst hty
  have hR2 := hR.2
  have hz := hR.1.1.1
  refine W.newa hx hb (hC.1 _ harr) rfl hdg rfl (fun h => hn (Or.inl h)) ?_ (by simp only [uc]; omega) (by simp only [us]; omega) fun cA kA comp h1 h2 h3 => ?_
  · have : n.toNatClampNeg ≤ 1000000 := Nat.not_lt.mp (fun h => hn (Or.inr h))
    calc n.toNatClampNeg * componentBytes (newarray.typeOf atype) ≤ 1000000 * 8 := Nat.mul_le_mul this hcb
      _ ≤ 536870912 := by decide
  · have hcA : cA = D.2.1 t := Option.some.inj (h1.symm.trans (hra (hC.2.2.1.2 t _ ht).2))
    rw [hz]
    refine x_fresh hg hR (by rw [Array.size_push, hz]) (fun q hq => by rw [Array.getElem?_push, if_neg (by rw [hz]; omega)]) ?_ (fun h => kk _ _ h)
    show _ = some (vp_cell _ _)
    rw [← hz, Array.getElem?_push_size, vp_cell_i, hcA, hdf, ← arrV_new]
theorem x_newl {n : Int32} (harr : Cond.arrayClass .long ∈ lw_all) (hg : nwL w n = some w1) (hRc : w0.2.2.1 ≤ R.cells ∧ w0.2.2.2.1 ≤ R.slots) (hx : p.tables.exec = Jvm.exec) (hb : c.code = cc) (hC : Cx D z E s m args own) (hR : Rx D z w0 w s H locs) (hdg : decode cc pc = .ok (.newarray .long, 2)) (kk : ∀ (H1 : Heap) (locs1 : List Loc), Rx D z w0 w1 s H1 locs1 → W p l e R s m args below meth c H1 locs1 (uc w0 w1) (us w0 w1) Q (F0 m (pc + 2) ls (.ref w.2.1 :: rest))) : W p l e R s m args below meth c H locs (uc w0 w) (us w0 w) Q (F0 m pc ls (.int n :: rest)) := by
  unfold nwL at hg
  split at hg
  · cases hg
  rename_i hn
  obtain ⟨q1, q2, -⟩ := nwE_eq hg
  have hR2 := hR.2
  have hz := hR.1.1.1
  refine W.newa (atype := .long) hx hb (hC.1 _ harr) rfl hdg rfl (fun h => hn (Or.inl h)) ?_ (by simp only [uc]; omega) (by simp only [us]; omega) fun cA kA comp h1 h2 h3 => ?_
  · have : n.toNatClampNeg ≤ 1000000 := Nat.not_lt.mp (fun h => hn (Or.inr h))
    calc n.toNatClampNeg * componentBytes (newarray.typeOf .long) ≤ 1000000 * 8 := Nat.mul_le_mul this (by decide)
      _ ≤ 536870912 := by decide
  · have hcA : cA = D.2.1 3 := Option.some.inj (h1.symm.trans (hC.2.2.1.2 3 _ rfl).2)
    rw [hz]
    refine x_fresh hg hR (by rw [Array.size_push, hz]) (fun q hq => by rw [Array.getElem?_push, if_neg (by rw [hz]; omega)]) ?_ (fun h => kk _ _ h)
    show _ = some (vp_cell _ _)
    rw [← hz, Array.getElem?_push_size, vp_cell_l, hcA, ← arrV_new]
    rfl
theorem x_newr (t : Nat) {index : Nat} {C : String} (ht : (tys_ D.2.1)[t]? = some (D.2.1 t, .object C)) (hcl : Cond.classLink own index C ∈ lw_all) (hao : Cond.arrayOver (.object C) ∈ lw_tbl) (hEW : EW s) {n : Int32} (hg : nwR w t n = some w1) (hRc : w0.2.2.1 ≤ R.cells ∧ w0.2.2.2.1 ≤ R.slots) (hx : p.tables.exec = Jvm.exec) (hb : c.code = cc) (hC : Cx D z E s m args own) (hR : Rx D z w0 w s H locs) (hdg : decode cc pc = .ok (.anewarray index, 3)) (kk : ∀ (H1 : Heap) (locs1 : List Loc), Rx D z w0 w1 s H1 locs1 → W p l e R s m args below meth c H1 locs1 (uc w0 w1) (us w0 w1) Q (F0 m (pc + 3) ls (.ref w.2.1 :: rest))) : W p l e R s m args below meth c H locs (uc w0 w) (us w0 w) Q (F0 m pc ls (.int n :: rest)) := by
  unfold nwR at hg
  split at hg
  · cases hg
  rename_i hn
  obtain ⟨q1, q2, -⟩ := nwE_eq hg
  have hR2 := hR.2
  have hz := hR.1.1.1
  refine W.anew hx hb hC.2.1 (hC.1 _ hcl) (va_AO.use (hEW.2.2.2.1 C hao)) rfl hdg rfl (fun h => hn (Or.inl h)) ?_ (by simp only [uc]; omega) (by simp only [us]; omega) fun cA kA comp f1 f2 f3 f4 => ?_
  · have : n.toNatClampNeg ≤ 1000000 := Nat.not_lt.mp (fun h => hn (Or.inr h))
    calc n.toNatClampNeg * 4 ≤ 1000000 * 4 := Nat.mul_le_mul this (by decide)
      _ ≤ 536870912 := by decide
  · obtain ⟨kA', comp', k1, k2, k3, k4⟩ := (hC.2.2.1.2 t _ ht).2
    have hcA : cA = D.2.1 t := Option.some.inj (f1.symm.trans k4)
    rw [hz]
    refine x_fresh hg hR (by rw [Array.size_push, hz]) (fun q hq => by rw [Array.getElem?_push, if_neg (by rw [hz]; omega)]) ?_ (fun h => kk _ _ h)
    show _ = some (vp_cell _ _)
    rw [← hz, Array.getElem?_push_size, vp_cell_q, hcA, ← arrV_new]
    rfl
theorem x_ck {index : Nat} {cs : List Nat} {b : Nat} (hk : CKs own index cs) (hEW : EW s) (hg : ckO w a cs = some b) (hx : p.tables.exec = Jvm.exec) (hb : c.code = cc) (hC : Cx D z E s m args own) (hR : Rx D z w0 w s H locs) (hdg : decode cc pc = .ok (.checkcast index, 3)) (kk : W p l e R s m args below meth c H locs cells slots Q (F0 m (pc + 3) ls (.ref b :: rest))) : W p l e R s m args below meth c H locs cells slots Q (F0 m pc ls (.ref a :: rest)) := by
  obtain ⟨rfl, ci, fs, h1, h2⟩ := ckO_eq hg
  obtain ⟨nm, hl, hcs⟩ := hk
  obtain ⟨C, T, N, hc, h | h⟩ := hcs ci h1
  · subst h
    exact va_castS hx hb hC.2.1 (hC.1 _ hl) (hC.2.2.1.1 ci _ hc).2 (w_recv hC hR.1 h2 hc) hdg kk
  · exact va_castY hx hb hC.2.1 (hC.1 _ hl) (hEW.2.2.1 C nm h) (w_recv hC hR.1 h2 hc) hdg kk
theorem x_ran {r : Option Value} {a0 : Array Value} (hR : Rx D z w0 w s H locs) (hr : va_Run p l e R s m args below meth c H locs (uc w0 w) (us w0 w) (uc w w1) (us w w1) (F0 m pc ls st0) rest (Qa D z r w w1 a0) (zA z))
    (kk : ∀ (H1 : Heap) (locs1 : List Loc), Rx D z w0 w1 s H1 locs1 → W p l e R s m args below meth c H1 locs1 (uc w0 w1) (us w0 w1) Q (F0 m (pc + 3) ls (r.toList ++ rest))) : W p l e R s m args below meth c H locs (uc w0 w) (us w0 w) Q (F0 m pc ls st0) := by
  intro T hT X
  obtain ⟨v, st₀, t, T', L, h0, X', hL, e1, e2, ⟨⟨⟨hv, hp⟩, hz, hk⟩, hb1, hb2⟩, st⟩ := hr T hT X
  cases hv
  rw [h0] at hz hk
  obtain ⟨⟨-, hS⟩, hR2, hR3⟩ := hR
  have e3 : uc w0 w + uc w w1 = uc w0 w1 := by simp only [uc]; omega
  have e4 : us w0 w + us w w1 = us w0 w1 := by simp only [us]; omega
  rw [e3, e4] at X'
  obtain ⟨t2, a1, b1⟩ := kk T'.heap (locs ++ L) ⟨⟨by rw [e1]; exact hp, Nat.le_trans hS.1 (by rw [e1]; exact hz), fun q h1 h2 => by rw [e1, hk q (Nat.lt_of_lt_of_le h1 hS.1) h2]; exact hS.2.1 q h1 h2, fun q hq => by
      rcases List.mem_append.mp hq with h | h
      · exact hS.2.2 q h
      · exact hL q h⟩, by omega, by omega⟩ T' rfl X'
  exact ⟨t2, st t2 a1, b1⟩
theorem x_ran5 {r : Option Value} {a0 : Array Value} (hR : Rx D z w0 w s H locs) (hr : va_Run5 p l e R s m args below meth c H locs (uc w0 w) (us w0 w) (uc w w1) (us w w1) (F0 m pc ls st0) rest (Qa D z r w w1 a0) (zA z))
    (kk : ∀ (H1 : Heap) (locs1 : List Loc), Rx D z w0 w1 s H1 locs1 → W p l e R s m args below meth c H1 locs1 (uc w0 w1) (us w0 w1) Q (F0 m (pc + 5) ls (r.toList ++ rest))) : W p l e R s m args below meth c H locs (uc w0 w) (us w0 w) Q (F0 m pc ls st0) := by
  intro T hT X
  obtain ⟨v, st₀, t, T', L, h0, X', hL, e1, e2, ⟨⟨⟨hv, hp⟩, hz, hk⟩, hb1, hb2⟩, st⟩ := hr T hT X
  cases hv
  rw [h0] at hz hk
  obtain ⟨⟨-, hS⟩, hR2, hR3⟩ := hR
  have e3 : uc w0 w + uc w w1 = uc w0 w1 := by simp only [uc]; omega
  have e4 : us w0 w + us w w1 = us w0 w1 := by simp only [us]; omega
  rw [e3, e4] at X'
  obtain ⟨t2, a1, b1⟩ := kk T'.heap (locs ++ L) ⟨⟨by rw [e1]; exact hp, Nat.le_trans hS.1 (by rw [e1]; exact hz), fun q h1 h2 => by rw [e1, hk q (Nat.lt_of_lt_of_le h1 hS.1) h2]; exact hS.2.1 q h1 h2, fun q hq => by
      rcases List.mem_append.mp hq with h | h
      · exact hS.2.2 q h
      · exact hL q h⟩, by omega, by omega⟩ T' rfl X'
  exact ⟨t2, st t2 a1, b1⟩
theorem x_room (hRc : w0.2.2.1 ≤ R.cells ∧ w0.2.2.2.1 ≤ R.slots) (hR : Rx D z w0 w s H locs) (F L : Nat) : uc w0 w + (rmA F L w).cells ≤ R.cells ∧ us w0 w + (rmA F L w).slots ≤ R.slots := by
  have hR2 := hR.2
  constructor
  · show uc w0 w + w.2.2.1 ≤ R.cells
    simp only [uc]; omega
  · show us w0 w + w.2.2.2.1 ≤ R.slots
    simp only [us]; omega
variable {x y : MethodName} {bytes : ByteArray} {maxL index n F L : Nat} {As : List Value} {ret : Option FieldType} {r : Option Value} {C : String} {T : u_T} {N ci : Nat} {fs : List Value}
theorem x_cV (hx : p.tables.exec = Jvm.exec) (hb : c.code = cc) (hml : c.maxLocals = nL) (hC : Cx D z E s m args own) (hR : Rx D z w0 w s H locs) (hls : ls.size = nL) (hRc : w0.2.2.1 ≤ R.cells ∧ w0.2.2.2.1 ≤ R.slots) (he : w.1 a = .inr (ci, fs)) (hc : cls_[ci]? = some (C, T, N))
    (hM : Met l y (ws_ y bytes maxL ret) (rmA F L w) (Pa D z E (.ref a :: As) w) (Qa D z r w w1) (uc w w1) (us w w1) (zA z)) (cw : CallW R s args own C index y bytes maxL ret (ws_ y bytes maxL ret) (rmA F L w) (rmA F L w).cells (rmA F L w).slots n) (hn : As.length = n) (hst : st0 = As.reverse ++ .ref a :: rest) (hroom : (rest.map fun v => v.category).sum ≤ 8) (hdg : decode cc pc = .ok (.invokevirtual index, 3))
    (kk : ∀ (H1 : Heap) (locs1 : List Loc), Rx D z w0 w1 s H1 locs1 → W p l e R s m args below meth c H1 locs1 (uc w0 w1) (us w0 w1) Q (F0 m (pc + 3) ls (r.toList ++ rest))) : W p l e R s m args below meth c H locs (uc w0 w) (us w0 w) Q (F0 m pc ls st0) :=
  x_ran hR (x_runV (Ts := lw_all) ⟨hx, hb, hml, hC.2.1, hC.1⟩ hM cw ⟨Pa_blind hC.2.2.2.2.1, w_recv hC hR.1 he hc, Pa_at hC hR.1⟩ rfl hn hls hst (lv_room hroom) hdg (x_room hRc hR F L)) kk
theorem x_cS (hx : p.tables.exec = Jvm.exec) (hb : c.code = cc) (hml : c.maxLocals = nL) (hC : Cx D z E s m args own) (hR : Rx D z w0 w s H locs) (hls : ls.size = nL) (hRc : w0.2.2.1 ≤ R.cells ∧ w0.2.2.2.1 ≤ R.slots)
    (hM : Met l y (ws_ y bytes maxL ret) (rmA F L w) (Pa D z E As w) (Qa D z r w w1) (uc w w1) (us w w1) (zA z)) (cw : CallB R s args own index y bytes maxL ret (ws_ y bytes maxL ret) (rmA F L w) (rmA F L w).cells (rmA F L w).slots n ∧ (Cond.static y).before args s = true) (hn : As.length = n) (hst : st0 = As.reverse ++ rest) (hroom : (rest.map fun v => v.category).sum ≤ 8) (hdg : decode cc pc = .ok (.invokestatic index, 3))
    (kk : ∀ (H1 : Heap) (locs1 : List Loc), Rx D z w0 w1 s H1 locs1 → W p l e R s m args below meth c H1 locs1 (uc w0 w1) (us w0 w1) Q (F0 m (pc + 3) ls (r.toList ++ rest))) : W p l e R s m args below meth c H locs (uc w0 w) (us w0 w) Q (F0 m pc ls st0) :=
  x_ran hR (x_runS (Ts := lw_all) ⟨hx, hb, hml, hC.2.1, hC.1⟩ hM cw ⟨Pa_blind hC.2.2.2.2.1, Pa_at hC hR.1⟩ rfl hn hls hst (lv_room hroom) hdg (x_room hRc hR F L)) kk
theorem x_cI (hx : p.tables.exec = Jvm.exec) (hb : c.code = cc) (hml : c.maxLocals = nL) (hC : Cx D z E s m args own) (hR : Rx D z w0 w s H locs) (hls : ls.size = nL) (hRc : w0.2.2.1 ≤ R.cells ∧ w0.2.2.2.1 ≤ R.slots)
    (hM : Met l y (ws_ y bytes maxL none) (rmA F L w) (Pa D z E (.ref a :: As) w) (Qa D z none w w1) (uc w w1) (us w w1) (zA z)) (cw : CallB R s args own index y bytes maxL none (ws_ y bytes maxL none) (rmA F L w) (rmA F L w).cells (rmA F L w).slots n ∧ y.name = "<init>" ∧ (Cond.instanceMethod y).before args s = true) (hn : As.length = n) (hst : st0 = As.reverse ++ .ref a :: rest) (hroom : (rest.map fun v => v.category).sum ≤ 8) (hdg : decode cc pc = .ok (.invokespecial index, 3))
    (kk : ∀ (H1 : Heap) (locs1 : List Loc), Rx D z w0 w1 s H1 locs1 → W p l e R s m args below meth c H1 locs1 (uc w0 w1) (us w0 w1) Q (F0 m (pc + 3) ls rest)) : W p l e R s m args below meth c H locs (uc w0 w) (us w0 w) Q (F0 m pc ls st0) :=
  x_ran hR (x_runI (Ts := lw_all) ⟨hx, hb, hml, hC.2.1, hC.1⟩ hM cw ⟨Pa_blind hC.2.2.2.2.1, Pa_at hC hR.1⟩ rfl hn hls hst (lv_room hroom) hdg (x_room hRc hR F L)) kk
theorem x_cSN {host : String} (hx : p.tables.exec = Jvm.exec) (hb : c.code = cc) (hml : c.maxLocals = nL) (hC : Cx D z E s m args own) (hR : Rx D z w0 w s H locs) (hls : ls.size = nL) (hRc : w0.2.2.1 ≤ R.cells ∧ w0.2.2.2.1 ≤ R.slots)
    (hM : Met l y (ws_ y bytes maxL ret) (rmA F L w) (Pa D z E As w) (Qa D z r w w1) (uc w w1) (us w w1) (zA z)) (cw : va_CN R s args own index y host bytes maxL ret (ws_ y bytes maxL ret) (rmA F L w) (rmA F L w).cells (rmA F L w).slots n ∧ (Cond.static y).before args s = true) (hn : As.length = n) (hst : st0 = As.reverse ++ rest) (hroom : (rest.map fun v => v.category).sum ≤ 8) (hdg : decode cc pc = .ok (.invokestatic index, 3))
    (kk : ∀ (H1 : Heap) (locs1 : List Loc), Rx D z w0 w1 s H1 locs1 → W p l e R s m args below meth c H1 locs1 (uc w0 w1) (us w0 w1) Q (F0 m (pc + 3) ls (r.toList ++ rest))) : W p l e R s m args below meth c H locs (uc w0 w) (us w0 w) Q (F0 m pc ls st0) :=
  x_ran hR (x_runSN (Ts := lw_all) ⟨hx, hb, hml, hC.2.1, hC.1⟩ hM ⟨cw.1, cw.2, trivial⟩ ⟨Pa_blind hC.2.2.2.2.1, Pa_at hC hR.1⟩ rfl hn hls hst (lv_room hroom) hdg (x_room hRc hR F L)) kk
theorem x_cIN {host : String} (hx : p.tables.exec = Jvm.exec) (hb : c.code = cc) (hml : c.maxLocals = nL) (hC : Cx D z E s m args own) (hR : Rx D z w0 w s H locs) (hls : ls.size = nL) (hRc : w0.2.2.1 ≤ R.cells ∧ w0.2.2.2.1 ≤ R.slots)
    (hM : Met l y (ws_ y bytes maxL none) (rmA F L w) (Pa D z E (.ref a :: As) w) (Qa D z none w w1) (uc w w1) (us w w1) (zA z)) (cw : va_CN R s args own index y host bytes maxL none (ws_ y bytes maxL none) (rmA F L w) (rmA F L w).cells (rmA F L w).slots n ∧ y.name = "<init>" ∧ (Cond.instanceMethod y).before args s = true) (hn : As.length = n) (hst : st0 = As.reverse ++ .ref a :: rest) (hroom : (rest.map fun v => v.category).sum ≤ 8) (hdg : decode cc pc = .ok (.invokespecial index, 3))
    (kk : ∀ (H1 : Heap) (locs1 : List Loc), Rx D z w0 w1 s H1 locs1 → W p l e R s m args below meth c H1 locs1 (uc w0 w1) (us w0 w1) Q (F0 m (pc + 3) ls rest)) : W p l e R s m args below meth c H locs (uc w0 w) (us w0 w) Q (F0 m pc ls st0) :=
  x_ran hR (x_runIN (Ts := lw_all) ⟨hx, hb, hml, hC.2.1, hC.1⟩ hM cw ⟨Pa_blind hC.2.2.2.2.1, Pa_at hC hR.1⟩ rfl hn hls hst (lv_room hroom) hdg (x_room hRc hR F L)) kk
theorem x_cU {owner : String} (hx : p.tables.exec = Jvm.exec) (hb : c.code = cc) (hml : c.maxLocals = nL) (hC : Cx D z E s m args own) (hR : Rx D z w0 w s H locs) (hls : ls.size = nL) (hRc : w0.2.2.1 ≤ R.cells ∧ w0.2.2.2.1 ≤ R.slots) (he : w.1 a = .inr (ci, fs)) (hc : cls_[ci]? = some (C, T, N))
    (hM : Met l y (ws_ y bytes maxL ret) (rmA F L w) (Pa D z E (.ref a :: As) w) (Qa D z r w w1) (uc w w1) (us w w1) (zA z)) (cw : va_CU R s args own C owner index x y bytes maxL ret (ws_ y bytes maxL ret) (rmA F L w) (rmA F L w).cells (rmA F L w).slots n) (hn : As.length = n) (hst : st0 = As.reverse ++ .ref a :: rest) (hroom : (rest.map fun v => v.category).sum ≤ 8) (hdg : decode cc pc = .ok (.invokevirtual index, 3))
    (kk : ∀ (H1 : Heap) (locs1 : List Loc), Rx D z w0 w1 s H1 locs1 → W p l e R s m args below meth c H1 locs1 (uc w0 w1) (us w0 w1) Q (F0 m (pc + 3) ls (r.toList ++ rest))) : W p l e R s m args below meth c H locs (uc w0 w) (us w0 w) Q (F0 m pc ls st0) :=
  x_ran hR (x_runU (Ts := lw_all) ⟨hx, hb, hml, hC.2.1, hC.1⟩ hM cw ⟨Pa_blind hC.2.2.2.2.1, w_recv hC hR.1 he hc, Pa_at hC hR.1⟩ rfl hn hls hst (lv_room hroom) hdg (x_room hRc hR F L)) kk
theorem x_cF {count : Nat} (hx : p.tables.exec = Jvm.exec) (hb : c.code = cc) (hml : c.maxLocals = nL) (hC : Cx D z E s m args own) (hR : Rx D z w0 w s H locs) (hls : ls.size = nL) (hRc : w0.2.2.1 ≤ R.cells ∧ w0.2.2.2.1 ≤ R.slots) (he : w.1 a = .inr (ci, fs)) (hc : cls_[ci]? = some (C, T, N))
    (hM : Met l y (ws_ y bytes maxL ret) (rmA F L w) (Pa D z E (.ref a :: As) w) (Qa D z r w w1) (uc w w1) (us w w1) (zA z)) (cw : va_CI R s args own C index x y bytes maxL ret (ws_ y bytes maxL ret) (rmA F L w) (rmA F L w).cells (rmA F L w).slots n) (hn : As.length = n) (hst : st0 = As.reverse ++ .ref a :: rest) (hroom : (rest.map fun v => v.category).sum ≤ 8) (hdg : decode cc pc = .ok (.invokeinterface index count, 5))
    (kk : ∀ (H1 : Heap) (locs1 : List Loc), Rx D z w0 w1 s H1 locs1 → W p l e R s m args below meth c H1 locs1 (uc w0 w1) (us w0 w1) Q (F0 m (pc + 5) ls (r.toList ++ rest))) : W p l e R s m args below meth c H locs (uc w0 w) (us w0 w) Q (F0 m pc ls st0) :=
  x_ran5 hR (x_runF (Ts := lw_all) (hC.2.2.1.1 ci _ hc).2 ⟨hx, hb, hml, hC.2.1, hC.1⟩ hM cw ⟨Pa_blind hC.2.2.2.2.1, w_recv hC hR.1 he hc, Pa_at hC hR.1⟩ rfl hn hls hst (lv_room hroom) hdg (x_room hRc hR F L)) kk
theorem x_cSU (hx : p.tables.exec = Jvm.exec) (hb : c.code = cc) (hml : c.maxLocals = nL) (hC : Cx D z E s m args own) (hR : Rx D z w0 w s H locs) (hls : ls.size = nL) (hRc : w0.2.2.1 ≤ R.cells ∧ w0.2.2.2.1 ≤ R.slots) (he : w.1 a = .inr (ci, fs)) (hc : cls_[ci]? = some (C, T, N))
    (hM : Met l y (ws_ y bytes maxL ret) (rmA F L w) (Pa D z E (.ref a :: As) w) (Qa D z r w w1) (uc w w1) (us w w1) (zA z)) (cw : va_CS R s args own index y bytes maxL ret (ws_ y bytes maxL ret) (rmA F L w) (rmA F L w).cells (rmA F L w).slots n) (hn : As.length = n) (hst : st0 = As.reverse ++ .ref a :: rest) (hroom : (rest.map fun v => v.category).sum ≤ 8) (hdg : decode cc pc = .ok (.invokespecial index, 3))
    (kk : ∀ (H1 : Heap) (locs1 : List Loc), Rx D z w0 w1 s H1 locs1 → W p l e R s m args below meth c H1 locs1 (uc w0 w1) (us w0 w1) Q (F0 m (pc + 3) ls (r.toList ++ rest))) : W p l e R s m args below meth c H locs (uc w0 w) (us w0 w) Q (F0 m pc ls st0) :=
  x_ran hR (x_runSU (Ts := lw_all) (hC.2.2.1.1 ci _ hc).2 ⟨hx, hb, hml, hC.2.1, hC.1⟩ hM cw ⟨Pa_blind hC.2.2.2.2.1, w_recv hC hR.1 he hc, Pa_at hC hR.1⟩ rfl hn hls hst (lv_room hroom) hdg (x_room hRc hR F L)) kk
theorem x_iret {x : Int32} {ty : FieldType} (hn : narrow ty (.int x) = .int x) (hx : p.tables.exec = Jvm.exec) (hb : c.code = cc) (hr : meth.sig.returnType = some ty) (hlk : meth.locks = false) (hR : Rx D z w0 w s H locs) (hdg : decode cc pc = .ok (.ireturn, 1)) : W p l e R s m args below meth c H locs (uc w0 w) (us w0 w) (MQ below (Qa D z (some (.int x)) w0 w) args s (uc w0 w) (us w0 w) (zA z)) (F0 m pc ls [.int x]) :=
  W.zret hx hb hr hn (fun t ht _ => ⟨⟨⟨rfl, by rw [ht]; exact hR.1.1⟩, hR.1.2.F ht⟩, hR.2⟩) hR.1.2.2.2 hdg hlk
theorem x_zret {x : Int32} {b : Bool} (hxb : x = b2i b) (hx : p.tables.exec = Jvm.exec) (hb : c.code = cc) (hr : meth.sig.returnType = some .boolean) (hlk : meth.locks = false) (hR : Rx D z w0 w s H locs) (hdg : decode cc pc = .ok (.ireturn, 1)) : W p l e R s m args below meth c H locs (uc w0 w) (us w0 w) (MQ below (Qa D z (some (.int (b2i b))) w0 w) args s (uc w0 w) (us w0 w) (zA z)) (F0 m pc ls [.int x]) := by
  subst hxb
  exact x_iret (b2i_nar b) hx hb hr hlk hR hdg
theorem x_lret {x : Int64} (hx : p.tables.exec = Jvm.exec) (hb : c.code = cc) (hr : meth.sig.returnType = some .long) (hlk : meth.locks = false) (hR : Rx D z w0 w s H locs) (hdg : decode cc pc = .ok (.lreturn, 1)) : W p l e R s m args below meth c H locs (uc w0 w) (us w0 w) (MQ below (Qa D z (some (.long x)) w0 w) args s (uc w0 w) (us w0 w) (zA z)) (F0 m pc ls [.long x]) :=
  W.lret hx hb hr (fun t ht _ => ⟨⟨⟨rfl, by rw [ht]; exact hR.1.1⟩, hR.1.2.F ht⟩, hR.2⟩) hR.1.2.2.2 hdg hlk
theorem x_vret (hx : p.tables.exec = Jvm.exec) (hb : c.code = cc) (hr : meth.sig.returnType = none) (hlk : meth.locks = false) (hR : Rx D z w0 w s H locs) (hdg : decode cc pc = .ok (.return_, 1)) : W p l e R s m args below meth c H locs (uc w0 w) (us w0 w) (MQ below (Qa D z none w0 w) args s (uc w0 w) (us w0 w) (zA z)) (F0 m pc ls []) :=
  W.vret hx hb hr (fun t ht _ => ⟨⟨⟨rfl, by rw [ht]; exact hR.1.1⟩, hR.1.2.F ht⟩, hR.2⟩) hR.1.2.2.2 hdg hlk
theorem x_aret {x : Nat} {rt : FieldType} (hrt : (∃ n, rt = .object n) ∨ ∃ t, rt = .array t) (hx : p.tables.exec = Jvm.exec) (hb : c.code = cc) (hr : meth.sig.returnType = some rt) (hlk : meth.locks = false) (hR : Rx D z w0 w s H locs) (hdg : decode cc pc = .ok (.areturn, 1)) : W p l e R s m args below meth c H locs (uc w0 w) (us w0 w) (MQ below (Qa D z (some (.ref x)) w0 w) args s (uc w0 w) (us w0 w) (zA z)) (F0 m pc ls [.ref x]) :=
  W.aret hx hb hr hrt (Or.inr ⟨x, rfl⟩) (fun t ht _ => ⟨⟨⟨rfl, by rw [ht]; exact hR.1.1⟩, hR.1.2.F ht⟩, hR.2⟩) hR.1.2.2.2 hdg hlk
theorem x_aretN {x : Option Nat} {rt : FieldType} (hrt : (∃ n, rt = .object n) ∨ ∃ t, rt = .array t) (hx : p.tables.exec = Jvm.exec) (hb : c.code = cc) (hr : meth.sig.returnType = some rt) (hlk : meth.locks = false) (hR : Rx D z w0 w s H locs) (hdg : decode cc pc = .ok (.areturn, 1)) : W p l e R s m args below meth c H locs (uc w0 w) (us w0 w) (MQ below (Qa D z (some (va_rf x)) w0 w) args s (uc w0 w) (us w0 w) (zA z)) (F0 m pc ls [va_rf x]) :=
  W.aret hx hb hr hrt (by cases x with | none => exact Or.inl rfl | some x => exact Or.inr ⟨x, rfl⟩) (fun t ht _ => ⟨⟨⟨rfl, by rw [ht]; exact hR.1.1⟩, hR.1.2.F ht⟩, hR.2⟩) hR.1.2.2.2 hdg hlk
end RowsZ
