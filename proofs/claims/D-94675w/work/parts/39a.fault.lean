set_option maxRecDepth 100000
/-! a Fault's super(): Throwable's fields (no traces kept) -/
def thI (w : AH) (a : Nat) : Option AH := match w.1 a with
  | .inr q => if q.1 = 8 ∧ q.2.length = 8 ∧ q.2[4]? = some .null then some (aup w a (.inr (8, ((q.2.set 0 (.ref a)).set 1 (va_rf (nz (w.2.2.2.2.2 5)))).set 2 (va_rf (nz (w.2.2.2.2.2 6)))))) else none
  | .inl _ => none
def tyX15 : Nat → FieldType := fun _ => .int
theorem tyX15_ok : ∀ k, k < 0 → parseFieldDescriptor (TX15 k).2.2.1 = some (tyX15 k) := fun k h => absurd h (Nat.not_lt_zero k)
theorem in_X15 : ∀ w ∈ u_ws RX15 TX15 0, w ∈ lw_all := fun w h => by simp [u_ws] at h
theorem nf_X15 : ∀ j, j < 0 → defaultValue (tyX15 j) = vp_V [] j := fun k h => absurd h (Nat.not_lt_zero k)
section RowsF
variable {p : Program} {l : Launch} {e : Env} {R : Room} {s : State} {m : MethodId} {args : Array Value} {below : List Frame} {meth : Method} {c : Code} {H : Heap} {locs : List Loc} {cells slots : Nat} {Q : State → Prop}
variable {cc : ByteArray} {pc : Nat} {ls : Array Slot} {rest st0 : List Value} {D : vG} {z : Nat} {E : State → Prop} {w0 w w1 : AH} {a nL : Nat}
/-- nobody holds the object's monitor -/
def mFr (H : Heap) (a : Nat) : Prop := ∃ cell : Cell, H[a]? = some cell ∧ cell.monitor.owner = none ∧ cell.monitor.count = 0
theorem th_val {U : State} {A : Nat → Prop} {n d : String} {v : Value} {cT : ClassId} {kT : Class} {i : Nat} {f : Field} {aS : Nat} {cell0 : Cell} (h : va_Z Bundle.tN n d v A U U.heap) (hf : U.fieldFound? Bundle.tN n d = some (cT, kT, i, f)) (hs : kT.statics = some aS) (hc : U.heap[aS]? = some cell0) : cell0.slots[f.slot]? = some v ∧ ¬ A aS := by
  obtain ⟨cf, kf, fi, f', a, cell, h1, h2, h3, h4, h5, h6, h7, h8⟩ := h
  cases hf.symm.trans h1
  cases hs.symm.trans h4
  cases hc.symm.trans h5
  exact ⟨h7, h8⟩
theorem th_slot {U : State} {O n d : String} {cT : ClassId} {kT : Class} {i : Nat} {f : Field} {k : Nat} (h : SlotIs U O n d k) (hf : U.fieldFound? O n d = some (cT, kT, i, f)) : f.slot = k := by
  obtain ⟨cf, kf, fi, f', h1, h2⟩ := h
  cases hf.symm.trans h1
  exact h2
theorem th_takes {U : State} {c : Nat} {k : Class} {f : Field} {v : Value} {ce : Cell} (hcl : ce.cls = c) (hvm : ce.vm = .none) (hlt : f.slot < ce.slots.size) (hk : U.vm.classes[c]? = some k) (hord : k.kind = .ordinary) (hty : k.instanceTypes[f.slot]? = some f.type) (hv : fits f.type v = true) : Takes U ce f v := by
  refine ⟨hlt, ?_⟩
  rw [hcl, hvm]
  simp [State.fitsSlot, State.slotType?, hk, hord, hty, hv]
theorem rf_isRef (o : Option Nat) : (va_rf o).isRef = true := by cases o <;> rfl
set_option maxHeartbeats 4000000 in
theorem x_thI (hst : l.stackTraces = false) (hX : EX z s) (hEW : EW s) (hES : ES D z s) (hmf : mFr H a) (hg : thI w a = some w1) (hx : p.tables.exec = Jvm.exec) (hb : c.code = cc) (hml : c.maxLocals = nL) (hls : ls.size = nL) (hC : Cx D z E s m args RX8) (hR : Rx D z w0 w s H locs) (hframes : 5 ≤ R.frames) (hlocals : (rest.map fun v => v.category).sum + 60 ≤ R.locals) (hdg : decode cc pc = .ok (.invokespecial 1, 3)) (kk : ∀ (H1 : Heap) (locs1 : List Loc), Rx D z w0 w1 s H1 locs1 → W p l e R s m args below meth c H1 locs1 (uc w0 w1) (us w0 w1) Q (F0 m (pc + 3) ls rest)) : W p l e R s m args below meth c H locs (uc w0 w) (us w0 w) Q (F0 m pc ls (.ref a :: rest)) := by
  intro T0 hT X
  subst hT
  unfold thI at hg
  split at hg
  case h_2 => cases hg
  rename_i q he
  obtain ⟨ci, fs⟩ := q
  split at hg
  case isFalse => cases hg
  rename_i hq
  obtain ⟨q1, q2, q3⟩ := hq
  have hw1 := Option.some.inj hg
  dsimp only at q1 q2 q3 he
  subst q1
  have hat := (hR.1.1.one he (jk_ne_obj (q := (RX8, TX8, 8)) rfl))
  obtain ⟨hza, r, hr, ce, g1, g2, g3, g4⟩ := hat
  cases hr
  obtain ⟨ce', m1, m2, m3⟩ := hmf
  cases g1.symm.trans m1
  obtain ⟨hSl, hfc, kF, hkF, hkind⟩ := hC.2.2.1.1 8 (RX8, TX8, 8) rfl
  have htr : e.platform.stackTraces = false := (show e.platform.stackTraces = l.stackTraces by rw [X.admits.platform]).trans hst
  have howns : e.platform.frameOwnsMonitors = true := by rw [X.admits.platform]
  have hfin : e.platform.finalization = false := by rw [X.admits.platform]
  have hpl : e.platform.magicAccessors = ({} : Platform).magicAccessors := by rw [X.admits.platform]
  have hTA : ∀ x ∈ Bundle.throwableAtoms, x.before args s = true := by
    intro x hx
    simp only [Bundle.throwableAtoms, List.mem_cons, List.not_mem_nil, or_false] at hx
    rcases hx with rfl | rfl | rfl | rfl | rfl | rfl | rfl | rfl | rfl | rfl | rfl | rfl | rfl | rfl | rfl | rfl | rfl | rfl | rfl | rfl | rfl | rfl | rfl | rfl
    · exact hC.1 _ q177
    · exact hC.1 _ q567
    · exact hC.1 _ q576
    · exact hC.1 _ q578
    · exact hC.1 _ q581
    · exact hC.1 _ q583
    · exact hC.1 _ q568
    · exact hC.1 _ q569
    · exact hC.1 _ q215
    · exact hC.1 _ q216
    · exact hC.1 _ q570
    · exact hC.1 _ q575
    · exact hC.1 _ q579
    · exact hC.1 _ q596
    · exact hC.1 _ q557
    · exact hC.1 _ q597
    · exact hC.1 _ q559
    · exact hC.1 _ q598
    · exact hC.1 _ q561
    · exact hC.1 _ q571
    · exact hX.2.1.word
    · exact hC.1 _ q573
    · exact hX.2.2.1.word
    · exact hC.1 _ q563
  have hPA : ∀ x ∈ Bundle.chain0Atoms "java/lang/Exception" [], x.before args s = true := by
    intro x hx
    simp only [Bundle.chain0Atoms, Bundle.passAtoms, List.mem_cons, List.not_mem_nil, or_false] at hx
    rcases hx with rfl | rfl | rfl | rfl | rfl
    · exact hC.1 _ q588
    · exact hC.1 _ q589
    · exact hC.1 _ q590
    · exact hC.1 _ q568
    · exact va_Nw.use rfl (hEW.2.2.2.2.2 _ q552)
  obtain ⟨T, Z, L, LZ, Y⟩ := ThrowableC.of_atoms (args := args) howns hfin hpl hTA
  obtain ⟨P1, Ps, hlen, L1, hL, hP1m, hlink1, hlink⟩ := Bundle.chain0 (args := args) hpl Y.init0 [] "java/lang/Exception" (by decide) (fun n h => nomatch h) hPA
  have hsel0 : selectMethod e.platform s.vm ce.cls T.fill0 = .method T.fill0 := by
    obtain ⟨c2, r2, m2, e1, e2, e3, e4, -⟩ := Cond.selects_spec (hC.1 _ q554)
    cases Option.some.inj (e1.symm.trans hfc)
    cases Option.some.inj (e2.symm.trans (State.methodFound?_of_named Y.fill0 (by decide)))
    cases Option.some.inj (e3.symm.trans Y.fill0)
    rw [Launch.admits_selectMethod X.admits, g2]; exact e4
  have hselF : selectMethod e.platform s.vm ce.cls T.fill = .method T.fill := by
    obtain ⟨c2, r2, m2, e1, e2, e3, e4, -⟩ := Cond.selects_spec (hC.1 _ q555)
    cases Option.some.inj (e1.symm.trans hfc)
    cases Option.some.inj (e2.symm.trans (State.methodFound?_of_named Y.fill (by decide)))
    cases Option.some.inj (e3.symm.trans Y.fill)
    rw [Launch.admits_selectMethod X.admits, g2]; exact e4
  obtain ⟨cellS, hcS0, hiss⟩ := Y.statics
  have hZU := hES.2.2.2.2.2.1
  have hZS := hES.2.2.2.2.2.2.1
  obtain ⟨vU, nA⟩ := th_val hZU Y.unassigned L.statics hcS0
  obtain ⟨vS, -⟩ := th_val hZS Y.sentinel L.statics hcS0
  have hK5 : w.2.2.2.2 = D.2.2 := hR.1.1.2.1.2
  have hcellS : T0.heap[T.aS]? = some cellS := (hR.1.2.2.1 T.aS (Array.getElem?_eq_some_iff.mp hcS0).1 nA).trans hcS0
  have hneS : T.aS ≠ a := fun h => nA (by rw [h]; exact hza)
  have hknownS : cellS.vm ≠ .unknown := by intro hu; rw [hu] at hiss; cases hiss
  obtain ⟨ci198, i198, fB, hk198, hg198, ha198, hsB, -, hnB, htB, hffB⟩ := Cond.ownField (t := .object "java/lang/Object") Y.found L.cls (by decide +kernel) (hC.1 _ q566) (hC.1 _ q565) e.platform hpl
  have sC : T.fCause.slot = D.1.2 8 0 := th_slot (hSl 0 (by decide)) Y.cause
  have sS : T.fStack.slot = D.1.2 8 1 := th_slot (hSl 1 (by decide)) Y.stack
  have sP : T.fSupp.slot = D.1.2 8 2 := th_slot (hSl 2 (by decide)) Y.supp
  have sB : fB.slot = D.1.2 8 4 := th_slot (hSl 4 (by decide)) hffB
  have hap := va_apart (own := RX8) hC.1 in_X8 tyX8 tyX8_ok (by decide) hC.2.2.1 (ci := 8) (C := RX8) (T := TX8) (N := 8) rfl
  obtain ⟨tyC, -⟩ := Cond.laysAt hfc hkF Y.cause (hC.1 _ q556)
  obtain ⟨tyS, -⟩ := Cond.laysAt hfc hkF Y.stack (hC.1 _ q558)
  obtain ⟨tyP, -⟩ := Cond.laysAt hfc hkF Y.supp (hC.1 _ q560)
  have lt : ∀ k, k < 8 → D.1.2 8 k < ce.slots.size := fun k hk => (Array.getElem?_eq_some_iff.mp (g4 k hk)).1
  have bk : ce.slots[D.1.2 8 4]? = some .null := by
    rw [g4 4 (by decide)]
    show some (fs.getD 4 .null) = _
    rw [List.getD_eq_getElem?_getD, q3]
    rfl
  obtain ⟨u0, hu0⟩ : ∃ u : RefV, u = ⟨va_rf (nz (D.2.2.2 5)), rf_isRef _⟩ := ⟨_, rfl⟩
  obtain ⟨sen, hsen⟩ : ∃ u : RefV, u = ⟨va_rf (nz (D.2.2.2 6)), rf_isRef _⟩ := ⟨_, rfl⟩
  have hskip : SkipFacts T e.platform s (fun u => u) u0 ((preparedCellV T.toThrowableT ce a u0 sen).withEntry T0.cur) :=
    ⟨{ ci198 := ci198, i198 := i198, fBack := fB }, ⟨hk198, hg198, ha198, hsB⟩, by
      have n0 := hap 4 0 (by decide) (by decide) (by decide)
      have n1 := hap 4 1 (by decide) (by decide) (by decide)
      have n2 := hap 4 2 (by decide) (by decide) (by decide)
      simp [preparedCellV, Cell.setSlot, Cell.withEntry, Array.getElem?_setIfInBounds, sC, sS, sP, sB, n0, n1, n2, n0.symm, n1.symm, n2.symm, bk], fun _ _ => rfl⟩
  obtain ⟨tm, methC, cdC, kC, vm₁, hnC, -, -, -, -, -, -, -, hW₁, st1⟩ := Steps.initCold (tb := p.tables) (e := e) (below := below) (s := s) (U := T0) X.here hx X.warmed hpl hC.2.1 (t := Bundle.init0 "java/lang/Exception") rfl rfl (by decide)
    (hC.1 _ q587) (hC.1 _ q588) (bytes := Bundle.five) (maxL := 1) (hC.1 _ q589)
    (f := F0 m pc ls (.ref a :: rest)) rfl (a := a) (rest := rest) rfl (by rw [hb]; exact hdg)
  cases Option.some.inj (hnC.symm.trans hP1m)
  have X₁ := X.noted hW₁
  obtain ⟨vm₂, X₂, st2⟩ := X₁.ctorPlainOffV hx (g := F0 m pc ls rest) rfl (hls.trans hml.symm) T L Z LZ (P1 :: Ps)
    (fun P hP => by rcases List.mem_cons.mp hP with rfl | hP; exact L1; exact hL P hP) ⟨hlink1, hlink⟩ (u0 := u0) (sen := sen) (self := a) (cell := ce) (cellS := cellS)
    g1 (fun k h => by rw [g3] at h; cases h) (by rw [g3]; intro h; cases h) m2 m3 hsel0 hselF hcellS hneS hknownS (by rw [hu0]; exact vU) (by rw [hsen]; exact vS)
    (th_takes g2 g3 (by rw [sC]; exact lt 0 (by decide)) hkF hkind tyC (by rw [Y.causeType]; rfl)) (th_takes g2 g3 (by rw [sS]; exact lt 1 (by decide)) hkF hkind tyS (by rw [Y.stackType]; exact fits_refV_array _ u0)) (th_takes g2 g3 (by rw [sP]; exact lt 2 (by decide)) hkF hkind tyP (by rw [Y.suppType]; exact fits_refV_object _ sen)) Y.objLocals hskip htr [] (by rw [hb]; exact hdg)
    (by simp only [List.length_cons, hlen, List.length_nil]; omega) (by simp only [List.length_cons, hlen, List.length_nil]; show 2 * 0 + (rest.map fun v => v.category).sum + (13 * (0 + 1) + 41) ≤ R.locals; omega)
  have hlt : a < T0.heap.size := (Array.getElem?_eq_some_iff.mp g1).1
  have hev : ∀ (x y v : Value) (j : Nat), updV (updV (updV (updV (vp_V fs) 0 x) 1 y) 2 v) 1 y j = vp_V (((fs.set 0 x).set 1 y).set 2 v) j := by
    intro x y v j
    have h1 : updV (vp_V fs) 0 x = vp_V (fs.set 0 x) := funext (vp_updV_set (by omega) x)
    have h2 : updV (vp_V (fs.set 0 x)) 1 y = vp_V ((fs.set 0 x).set 1 y) := funext (vp_updV_set (by simp only [List.length_set]; omega) y)
    have h3 : updV (vp_V ((fs.set 0 x).set 1 y)) 2 v = vp_V (((fs.set 0 x).set 1 y).set 2 v) := funext (vp_updV_set (by simp only [List.length_set]; omega) v)
    rw [h1, h2, h3]
    by_cases hj : j = 1
    · subst hj
      have h8 : (((fs.set 0 x).set 1 y).set 2 v)[1]? = some y := by
        rw [List.getElem?_set_ne (by decide), List.getElem?_set_self (by simp only [List.length_set]; omega)]
      simp only [updV, if_true, vp_V, List.getD_eq_getElem?_getD, h8, Option.getD_some]
    · simp only [updV, if_neg hj]
  have g8 := t_set (t_set (t_set (t_set g4 hap (k := 0) (by decide) (.ref a)) hap (k := 1) (by decide) u0.v) hap (k := 2) (by decide) sen.v) hap (k := 1) (by decide) u0.v
  have e6 : T0.heap.size = (((T0.setVm vm₁).setVm vm₂).setCell a ((preparedCellV T.toThrowableT ce a u0 sen).setSlot T.fStack.slot u0.v)).heap.size := (Array.size_setIfInBounds ..).symm
  have e7 : ∀ q : Nat, q ≠ a → (((T0.setVm vm₁).setVm vm₂).setCell a ((preparedCellV T.toThrowableT ce a u0 sen).setSlot T.fStack.slot u0.v)).heap[q]? = T0.heap[q]? := fun q hq => State.heap_setCell_other (fun h => hq h.symm)
  have e8 : va_at D.1 cls_ (a, tr D.2.1 (.inr (8, ((fs.set 0 (.ref a)).set 1 (va_rf (nz (w.2.2.2.2.2 5)))).set 2 (va_rf (nz (w.2.2.2.2.2 6)))))) (((T0.setVm vm₁).setVm vm₂).setCell a ((preparedCellV T.toThrowableT ce a u0 sen).setSlot T.fStack.slot u0.v)).heap := by
    refine ⟨(RX8, TX8, 8), rfl, _, heapAt_setCell_self (s := (T0.setVm vm₁).setVm vm₂) _ hlt, g2, g3, fun k hk => ?_⟩
    have h9 := g8 k hk
    rw [hev] at h9
    rw [hK5]
    rw [hu0, hsen] at h9 ⊢
    simp only [preparedCellV, sC, sS, sP]
    exact h9
  obtain ⟨t, a1, b1⟩ := kk _ (locs ++ [⟨a, T.fCause.slot⟩, ⟨a, T.fStack.slot⟩, ⟨a, T.fSupp.slot⟩, ⟨a, T.fStack.slot⟩]) (by
    rw [← hw1]
    refine ⟨⟨hR.1.1.up he (jk_ne_obj (q := (RX8, TX8, 8)) rfl) e8 e6.symm e7, ?_⟩, hR.2⟩
    refine ⟨by rw [← e6]; exact hR.1.2.1, fun q h1 h2 => (e7 q (fun h => h2 (by rw [h]; exact hza))).trans (hR.1.2.2.1 q h1 h2), fun y hy => ?_⟩
    rcases List.mem_append.mp hy with h | h
    · exact hR.1.2.2.2 y h
    · simp only [List.mem_cons, List.not_mem_nil, or_false] at h
      rcases h with rfl | rfl | rfl | rfl <;> exact hza) _ rfl (by rw [← hw1]; exact X₂)
  exact ⟨t, st1 _ (fun acts => by rw [doInvoke_state]; exact st2 _ a1), b1⟩
end RowsF
def PaF (D : vG) (z : Nat) (E : State → Prop) (a : Nat) (av : List Value) (w : AH) : Array Value → State → Prop := fun v U => Pa D z E av w v U ∧ mFr U.heap a
section RowsNF
variable {p : Program} {l : Launch} {e : Env} {R : Room} {s : State} {m : MethodId} {args : Array Value} {below : List Frame} {meth : Method} {c : Code} {H : Heap} {locs : List Loc} {cells slots : Nat} {Q : State → Prop}
variable {cc : ByteArray} {pc : Nat} {ls : Array Slot} {rest st0 : List Value} {D : vG} {z : Nat} {E : State → Prop} {w0 w w1 : AH} {a nL : Nat} {own : String}
theorem x_newF {index ci N : Nat} {C : String} {T : u_T} {fs : List Value} (hc : cls_[ci]? = some (C, T, N)) (hin : ∀ w ∈ u_ws C T N, w ∈ lw_all) (ty : Nat → FieldType) (hty : ∀ k, k < N → parseFieldDescriptor (T k).2.2.1 = some (ty k)) (hcl : Cond.classLink own index C ∈ lw_all) (hinst : Cond.instantiable C N ∈ lw_all) (hini : Cond.initialized C ∈ lw_all) (hfs : ∀ j, j < N → defaultValue (ty j) = vp_V fs j) (hg : nwE w (.inr (ci, fs)) N = some w1) (hRc : w0.2.2.1 ≤ R.cells ∧ w0.2.2.2.1 ≤ R.slots) (hx : p.tables.exec = Jvm.exec) (hb : c.code = cc) (hC : Cx D z E s m args own) (hR : Rx D z w0 w s H locs) (hdg : decode cc pc = .ok (.new index, 3)) (kk : ∀ (H1 : Heap) (locs1 : List Loc), Rx D z w0 w1 s H1 locs1 → mFr H1 w.2.1 → W p l e R s m args below meth c H1 locs1 (uc w0 w1) (us w0 w1) Q (F0 m (pc + 3) ls (.ref w.2.1 :: rest))) : W p l e R s m args below meth c H locs (uc w0 w) (us w0 w) Q (F0 m pc ls rest) := by
  obtain ⟨h1, h2, rfl⟩ := nwE_eq hg
  have hKn := hC.2.2.1.1 ci _ hc
  obtain ⟨hR1, hR2, hR3⟩ := hR
  refine W.newcK hx hb hC.2.1 (hC.1 _ hcl) (hC.1 _ hinst) (hC.1 _ hini) rfl hdg (by simp only [uc]; omega) (by simp only [us]; omega) hKn.2.1 hR1.1.1 fun H1 kC hkC e1 z1 o1 => ?_
  have hS := hR1.2
  have hk := kk H1 locs ⟨⟨hR1.1.push z1 (fun q hq => o1 q hq) ⟨_, hc, (u_born ty hC.1 hin hKn hkC e1 hty).to hfs⟩, ?_⟩, ?_, ?_⟩ ⟨_, e1, rfl, rfl⟩
  · have e2 : uc w0 (va_up w.1 w.2.1 (.inr (ci, fs)), w.2.1 + 1, w.2.2.1 - 1, w.2.2.2.1 - N, w.2.2.2.2) = uc w0 w + 1 := by simp only [uc]; omega
    have e3 : us w0 (va_up w.1 w.2.1 (.inr (ci, fs)), w.2.1 + 1, w.2.2.1 - 1, w.2.2.2.1 - N, w.2.2.2.2) = us w0 w + N := by simp only [us]; omega
    rw [e2, e3] at hk
    exact hk
  · have hz := hR1.1.1
    exact ⟨Nat.le_trans hS.1 (by rw [z1, hz]; omega), fun x h1 h2 => (o1 x (by rw [← hz]; exact Nat.lt_of_lt_of_le h1 hS.1)).trans (hS.2.1 x h1 h2), hS.2.2⟩
  · simp only; omega
  · simp only; omega
end RowsNF
section RowsIF
variable {p : Program} {l : Launch} {e : Env} {R : Room} {s : State} {m : MethodId} {args : Array Value} {below : List Frame} {meth : Method} {c : Code} {H : Heap} {locs : List Loc} {cells slots : Nat} {Q : State → Prop}
variable {cc : ByteArray} {pc : Nat} {ls : Array Slot} {rest st0 : List Value} {D : vG} {z : Nat} {E : State → Prop} {w0 w w1 : AH} {a nL : Nat} {own : String}
variable {x y : MethodName} {bytes : ByteArray} {maxL index n F L : Nat} {As : List Value} {ret : Option FieldType} {r : Option Value} {C : String} {T : u_T} {N ci : Nat} {fs : List Value}
theorem x_cIF (hmf : mFr H a) (hx : p.tables.exec = Jvm.exec) (hb : c.code = cc) (hml : c.maxLocals = nL) (hC : Cx D z E s m args own) (hR : Rx D z w0 w s H locs) (hls : ls.size = nL) (hRc : w0.2.2.1 ≤ R.cells ∧ w0.2.2.2.1 ≤ R.slots)
    (hM : Met l y (ws_ y bytes maxL none) (rmA F L w) (PaF D z E a (.ref a :: As) w) (Qa D z none w w1) (uc w w1) (us w w1) (zA z)) (cw : CallB R s args own index y bytes maxL none (ws_ y bytes maxL none) (rmA F L w) (rmA F L w).cells (rmA F L w).slots n ∧ y.name = "<init>" ∧ (Cond.instanceMethod y).before args s = true) (hn : As.length = n) (hst : st0 = As.reverse ++ .ref a :: rest) (hroom : (rest.map fun v => v.category).sum ≤ 8) (hdg : decode cc pc = .ok (.invokespecial index, 3))
    (kk : ∀ (H1 : Heap) (locs1 : List Loc), Rx D z w0 w1 s H1 locs1 → W p l e R s m args below meth c H1 locs1 (uc w0 w1) (us w0 w1) Q (F0 m (pc + 3) ls rest)) : W p l e R s m args below meth c H locs (uc w0 w) (us w0 w) Q (F0 m pc ls st0) :=
  x_ran hR (x_runI (Ts := lw_all) ⟨hx, hb, hml, hC.2.1, hC.1⟩ hM cw ⟨fun a U g mk h => ⟨Pa_blind hC.2.2.2.2.1 a U g mk h.1, h.2⟩, fun U hU hW => ⟨Pa_at hC hR.1 U hU hW, by rw [hU]; exact hmf⟩⟩ rfl hn hls hst (lv_room hroom) hdg (x_room hRc hR F L)) kk
end RowsIF
