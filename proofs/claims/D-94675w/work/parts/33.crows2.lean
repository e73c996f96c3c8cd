set_option maxRecDepth 100000
/-! arrays, new objects, casts, calls of the component -/
def alI (w : AH) (a t : Nat) (i : Int32) : Option Int32 := match w.1 a with
  | .inl (t', n, .inl f) => if t' = t ∧ ¬ (i < 0 ∨ n ≤ i.toNatClampNeg) then some (f i.toNatClampNeg) else none
  | _ => none
def asI (w : AH) (a t : Nat) (i x : Int32) : Option AH := match w.1 a with
  | .inl (t', n, .inl f) => if t' = t ∧ ¬ (i < 0 ∨ n ≤ i.toNatClampNeg) then some (aup w a (.inl (t, n, .inl (va_up f i.toNatClampNeg x)))) else none
  | _ => none
def alL (w : AH) (a : Nat) (i : Int32) : Option Int64 := match w.1 a with
  | .inl (t', n, .inr (.inl f)) => if t' = 3 ∧ ¬ (i < 0 ∨ n ≤ i.toNatClampNeg) then some (f i.toNatClampNeg) else none
  | _ => none
def asL (w : AH) (a : Nat) (i : Int32) (x : Int64) : Option AH := match w.1 a with
  | .inl (t', n, .inr (.inl f)) => if t' = 3 ∧ ¬ (i < 0 ∨ n ≤ i.toNatClampNeg) then some (aup w a (.inl (3, n, .inr (.inl (va_up f i.toNatClampNeg x))))) else none
  | _ => none
def alR (w : AH) (a t : Nat) (i : Int32) : Option Nat := match w.1 a with
  | .inl (t', n, .inr (.inr (.inr (.inr f)))) => if t' = t ∧ ¬ (i < 0 ∨ n ≤ i.toNatClampNeg) then f i.toNatClampNeg else none
  | _ => none
def asR (w : AH) (a t : Nat) (i : Int32) (x : Nat) : Option AH := match w.1 a with
  | .inl (t', n, .inr (.inr (.inr (.inr f)))) => if t' = t ∧ ¬ (i < 0 ∨ n ≤ i.toNatClampNeg) then some (aup w a (.inl (t, n, .inr (.inr (.inr (.inr (va_up f i.toNatClampNeg (some x)))))))) else none
  | _ => none
def aln (w : AH) (a t : Nat) : Option Int32 := match w.1 a with
  | .inl (t', x) => if t' = t then some (Int32.ofNat x.1) else none
  | _ => none
theorem alI_eq {w : AH} {a t : Nat} {i x : Int32} (h : alI w a t i = some x) : ∃ n f, w.1 a = .inl (t, n, .inl f) ∧ vp_in i n ∧ f i.toNatClampNeg = x := by
  unfold alI at h
  split at h
  · rename_i t' n f hq
    split at h
    · rename_i h1; cases h; rw [h1.1] at hq; exact ⟨n, f, hq, h1.2, rfl⟩
    · cases h
  · cases h
theorem asI_eq {w w1 : AH} {a t : Nat} {i x : Int32} (h : asI w a t i x = some w1) : ∃ n f, w.1 a = .inl (t, n, .inl f) ∧ vp_in i n ∧ w1 = aup w a (.inl (t, n, .inl (va_up f i.toNatClampNeg x))) := by
  unfold asI at h
  split at h
  · rename_i t' n f hq
    split at h
    · rename_i h1; cases h; rw [h1.1] at hq; exact ⟨n, f, hq, h1.2, rfl⟩
    · cases h
  · cases h
theorem alL_eq {w : AH} {a : Nat} {i : Int32} {x : Int64} (h : alL w a i = some x) : ∃ n f, w.1 a = .inl (3, n, .inr (.inl f)) ∧ vp_in i n ∧ f i.toNatClampNeg = x := by
  unfold alL at h
  split at h
  · rename_i t' n f hq
    split at h
    · rename_i h1; cases h; rw [h1.1] at hq; exact ⟨n, f, hq, h1.2, rfl⟩
    · cases h
  · cases h
theorem asL_eq {w w1 : AH} {a : Nat} {i : Int32} {x : Int64} (h : asL w a i x = some w1) : ∃ n f, w.1 a = .inl (3, n, .inr (.inl f)) ∧ vp_in i n ∧ w1 = aup w a (.inl (3, n, .inr (.inl (va_up f i.toNatClampNeg x)))) := by
  unfold asL at h
  split at h
  · rename_i t' n f hq
    split at h
    · rename_i h1; cases h; rw [h1.1] at hq; exact ⟨n, f, hq, h1.2, rfl⟩
    · cases h
  · cases h
theorem alR_eq {w : AH} {a t : Nat} {i : Int32} {x : Nat} (h : alR w a t i = some x) : ∃ n f, w.1 a = .inl (t, n, .inr (.inr (.inr (.inr f)))) ∧ vp_in i n ∧ f i.toNatClampNeg = some x := by
  unfold alR at h
  split at h
  · rename_i t' n f hq
    split at h
    · rename_i h1; rw [h1.1] at hq; exact ⟨n, f, hq, h1.2, h⟩
    · cases h
  · cases h
theorem asR_eq {w w1 : AH} {a t : Nat} {i : Int32} {x : Nat} (h : asR w a t i x = some w1) : ∃ n f, w.1 a = .inl (t, n, .inr (.inr (.inr (.inr f)))) ∧ vp_in i n ∧ w1 = aup w a (.inl (t, n, .inr (.inr (.inr (.inr (va_up f i.toNatClampNeg (some x))))))) := by
  unfold asR at h
  split at h
  · rename_i t' n f hq
    split at h
    · rename_i h1; cases h; rw [h1.1] at hq; exact ⟨n, f, hq, h1.2, rfl⟩
    · cases h
  · cases h
theorem aln_eq {w : AH} {a t : Nat} {x : Int32} (h : aln w a t = some x) : ∃ y : vp_A, w.1 a = .inl (t, y) ∧ Int32.ofNat y.1 = x := by
  unfold aln at h
  split at h
  · rename_i t' y hq
    split at h
    · rename_i h1; cases h; rw [h1] at hq; exact ⟨y, hq, rfl⟩
    · cases h
  · cases h
/-- a new cell -/
def nwE (w : AH) (e : cE) (N : Nat) : Option AH := if 1 ≤ w.2.2.1 ∧ N ≤ w.2.2.2.1 then some (va_up w.1 w.2.1 e, w.2.1 + 1, w.2.2.1 - 1, w.2.2.2.1 - N, w.2.2.2.2) else none
theorem nwE_eq {w w1 : AH} {e : cE} {N : Nat} (h : nwE w e N = some w1) : 1 ≤ w.2.2.1 ∧ N ≤ w.2.2.2.1 ∧ w1 = (va_up w.1 w.2.1 e, w.2.1 + 1, w.2.2.1 - 1, w.2.2.2.1 - N, w.2.2.2.2) := by
  unfold nwE at h
  split at h
  · rename_i h1; cases h; exact ⟨h1.1, h1.2, rfl⟩
  · cases h
theorem Rp.push {D : vG} {z : Nat} {w : AH} {H H1 : Heap} (h : Rp D z w H) {e : cE} {r1 r2 : Nat} (hz : H1.size = w.2.1 + 1) (o1 : ∀ q : Nat, q < w.2.1 → H1[q]? = H[q]?) (h1 : va_at D.1 cls_ (w.2.1, tr D.2.1 e) H1) : Rp D z (va_up w.1 w.2.1 e, w.2.1 + 1, r1, r2, w.2.2.2.2) H1 := by
  refine ⟨hz, ⟨Nat.le_succ_of_le h.2.1.1, h.2.1.2⟩, fun b => ?_⟩
  by_cases hb : b = w.2.1
  · subst hb
    right
    refine ⟨h.2.1.1, ?_⟩
    simp only [va_up, if_true]
    exact h1
  · rcases h.2.2 b with h2 | h2
    · left; simp only [va_up, if_neg hb]; exact h2
    · right
      refine ⟨h2.1, ?_⟩
      simp only [va_up, if_neg hb]
      have hlt : b < H.size := h2.2.lt
      exact h2.2.kept (o1 b (by rw [← h.1]; exact hlt))
/-- words that don't ride in the lists, told at the start -/
def EW (U : State) : Prop := (∀ a i x h, Cond.methodLinkNest a i x h ∈ lw_tbl → va_Nw (.methodLinkNest a i x h) U) ∧ (∀ a i b n d h, Cond.fieldLinkNest a i b n d h ∈ lw_tbl → va_Nw (.fieldLinkNest a i b n d h) U) ∧ (∀ C T, Cond.castable C T ∈ lw_tbl → va_Nw (.castable C T) U) ∧ (∀ C, Cond.arrayOver (.object C) ∈ lw_tbl → va_AO C U) ∧ (∀ C x y, x.cls ≠ "java/lang/invoke/MethodHandle" ∧ x.cls ≠ "java/lang/invoke/VarHandle" → Cond.declares x ∈ lw_tbl → Cond.interfaceMethod x.cls x.cls x.name x.desc ∈ lw_tbl → Cond.publicMethod y ∈ lw_tbl → Cond.unhidden C x.name x.desc ∈ lw_tbl → Cond.castable C x.cls ∈ lw_tbl → va_Fw C x y U) ∧ (∀ x, Cond.declares x ∈ lw_tbl → va_Nw (.declares x) U)
section RowsY
variable {p : Program} {l : Launch} {e : Env} {R : Room} {s : State} {m : MethodId} {args : Array Value} {below : List Frame} {meth : Method} {c : Code} {H : Heap} {locs : List Loc} {cells slots : Nat} {Q : State → Prop}
variable {cc : ByteArray} {pc : Nat} {ls : Array Slot} {rest st0 : List Value} {D : vG} {z : Nat} {E : State → Prop} {w0 w w1 : AH} {a nL : Nat} {own : String}
theorem x_iald {i x : Int32} (hg : alI w a 0 i = some x) (hx : p.tables.exec = Jvm.exec) (hb : c.code = cc) (hC : Cx D z E s m args own) (hR : Rx D z w0 w s H locs) (hdg : decode cc pc = .ok (.iaload, 1)) (kk : W p l e R s m args below meth c H locs cells slots Q (F0 m (pc + 1) ls (.int x :: rest))) : W p l e R s m args below meth c H locs cells slots Q (F0 m pc ls (.int i :: .ref a :: rest)) := by
  obtain ⟨n, f, h1, h2, rfl⟩ := alI_eq hg
  exact w_iald hx hb hC hR.1 h1 h2 hdg kk
theorem x_cald {i x : Int32} (hg : alI w a 1 i = some x) (hx : p.tables.exec = Jvm.exec) (hb : c.code = cc) (hC : Cx D z E s m args own) (hR : Rx D z w0 w s H locs) (hdg : decode cc pc = .ok (.caload, 1)) (kk : W p l e R s m args below meth c H locs cells slots Q (F0 m (pc + 1) ls (.int x :: rest))) : W p l e R s m args below meth c H locs cells slots Q (F0 m pc ls (.int i :: .ref a :: rest)) := by
  obtain ⟨n, f, h1, h2, rfl⟩ := alI_eq hg
  exact va_cald hx hb hC.2.2.1 (hR.1.1.P h1 jk_ne_arr) 0 1 rfl rfl h2 hdg kk
theorem x_lald {i : Int32} {x : Int64} (hg : alL w a i = some x) (hx : p.tables.exec = Jvm.exec) (hb : c.code = cc) (hC : Cx D z E s m args own) (hR : Rx D z w0 w s H locs) (hdg : decode cc pc = .ok (.laload, 1)) (kk : W p l e R s m args below meth c H locs cells slots Q (F0 m (pc + 1) ls (.long x :: rest))) : W p l e R s m args below meth c H locs cells slots Q (F0 m pc ls (.int i :: .ref a :: rest)) := by
  obtain ⟨n, f, h1, h2, rfl⟩ := alL_eq hg
  exact w_lald hx hb hC hR.1 h1 h2 hdg kk
theorem x_aald (t : Nat) {C : String} (ht : (tys_ D.2.1)[t]? = some (D.2.1 t, .object C)) {i : Int32} {x : Nat} (hg : alR w a t i = some x) (hx : p.tables.exec = Jvm.exec) (hb : c.code = cc) (hC : Cx D z E s m args own) (hR : Rx D z w0 w s H locs) (hdg : decode cc pc = .ok (.aaload, 1)) (kk : W p l e R s m args below meth c H locs cells slots Q (F0 m (pc + 1) ls (.ref x :: rest))) : W p l e R s m args below meth c H locs cells slots Q (F0 m pc ls (.int i :: .ref a :: rest)) := by
  obtain ⟨n, f, h1, h2, h3⟩ := alR_eq hg
  refine va_aldq hx hb hC.2.2.1 (hR.1.1.P h1 jk_ne_arr) 0 t rfl ht h2 hdg ?_
  rw [h3]
  exact kk
theorem x_alen (t : Nat) {ty : FieldType} (ht : (tys_ D.2.1)[t]? = some (D.2.1 t, ty)) {x : Int32} (hg : aln w a t = some x) (hx : p.tables.exec = Jvm.exec) (hb : c.code = cc) (hC : Cx D z E s m args own) (hR : Rx D z w0 w s H locs) (hdg : decode cc pc = .ok (.arraylength, 1)) (kk : W p l e R s m args below meth c H locs cells slots Q (F0 m (pc + 1) ls (.int x :: rest))) : W p l e R s m args below meth c H locs cells slots Q (F0 m pc ls (.ref a :: rest)) := by
  obtain ⟨y, h1, h2⟩ := aln_eq hg
  exact va_alen hx hb hC.2.2.1 (hR.1.1.P h1 jk_ne_arr) 0 t rfl ht h2 hdg kk
theorem x_iast {i x : Int32} (hg : asI w a 0 i x = some w1) (hx : p.tables.exec = Jvm.exec) (hb : c.code = cc) (hC : Cx D z E s m args own) (hR : Rx D z w0 w s H locs) (hdg : decode cc pc = .ok (.iastore, 1)) (kk : ∀ (H1 : Heap) (locs1 : List Loc), Rx D z w0 w1 s H1 locs1 → W p l e R s m args below meth c H1 locs1 (uc w0 w1) (us w0 w1) Q (F0 m (pc + 1) ls rest)) : W p l e R s m args below meth c H locs (uc w0 w) (us w0 w) Q (F0 m pc ls (.int x :: .int i :: .ref a :: rest)) := by
  obtain ⟨n, f, h1, h2, rfl⟩ := asI_eq hg
  exact w_iast hx hb hC hR.1 h1 h2 hdg (fun H1 locs1 h => kk H1 locs1 ⟨h, hR.2⟩)
theorem x_last {i : Int32} {x : Int64} (hg : asL w a i x = some w1) (hx : p.tables.exec = Jvm.exec) (hb : c.code = cc) (hC : Cx D z E s m args own) (hR : Rx D z w0 w s H locs) (hdg : decode cc pc = .ok (.lastore, 1)) (kk : ∀ (H1 : Heap) (locs1 : List Loc), Rx D z w0 w1 s H1 locs1 → W p l e R s m args below meth c H1 locs1 (uc w0 w1) (us w0 w1) Q (F0 m (pc + 1) ls rest)) : W p l e R s m args below meth c H locs (uc w0 w) (us w0 w) Q (F0 m pc ls (.long x :: .int i :: .ref a :: rest)) := by
  obtain ⟨n, f, h1, h2, rfl⟩ := asL_eq hg
  exact w_last hx hb hC hR.1 h1 h2 hdg (fun H1 locs1 h => kk H1 locs1 ⟨h, hR.2⟩)
theorem x_cast {i x : Int32} (hxn : narrow .char (.int x) = .int x) (hg : asI w a 1 i x = some w1) (hx : p.tables.exec = Jvm.exec) (hb : c.code = cc) (hC : Cx D z E s m args own) (hR : Rx D z w0 w s H locs) (hdg : decode cc pc = .ok (.castore, 1)) (kk : ∀ (H1 : Heap) (locs1 : List Loc), Rx D z w0 w1 s H1 locs1 → W p l e R s m args below meth c H1 locs1 (uc w0 w1) (us w0 w1) Q (F0 m (pc + 1) ls rest)) : W p l e R s m args below meth c H locs (uc w0 w) (us w0 w) Q (F0 m pc ls (.int x :: .int i :: .ref a :: rest)) := by
  obtain ⟨n, f, h1, h2, rfl⟩ := asI_eq hg
  have hat := (hR.1.1.one h1 jk_ne_arr).2
  refine W.cast hx hb hat ((hC.2.2.1.2 1 _ rfl).1 n (fun j => .int (f j))) (fun q => by cases q) (by show ¬ (i < 0 ∨ (arrV _ _ _).slots.size ≤ _); rw [arrV_size]; exact h2) rfl rfl hdg fun H1 e z oq => ?_
  refine kk H1 _ ⟨hR.1.put h1 jk_ne_arr ?_ z oq, hR.2⟩
  show H1[a]? = some (vp_cell _ _)
  rw [e, hxn, vp_cell_i, vp_cell_i, arrV_store]
  congr 2
  funext q
  by_cases hq : q = i.toNatClampNeg
  · subst hq; simp [updV, va_up]
  · simp [updV, va_up, hq]
/-- an object of a known class into an array of it, or of a class it can be cast to -/
theorem x_aast (t : Nat) {ET : String} (ht : (tys_ D.2.1)[t]? = some (D.2.1 t, .object ET)) {ci : Nat} {C : String} {T : u_T} {N x : Nat} {fs : List Value} (hv : w.1 x = .inr (ci, fs)) (hc : cls_[ci]? = some (C, T, N)) (hca : C = ET ∨ Cond.castable C ET ∈ lw_tbl) (hEW : EW s) {i : Int32} (hg : asR w a t i x = some w1) (hx : p.tables.exec = Jvm.exec) (hb : c.code = cc) (hC : Cx D z E s m args own) (hR : Rx D z w0 w s H locs) (hdg : decode cc pc = .ok (.aastore, 1)) (kk : ∀ (H1 : Heap) (locs1 : List Loc), Rx D z w0 w1 s H1 locs1 → W p l e R s m args below meth c H1 locs1 (uc w0 w1) (us w0 w1) Q (F0 m (pc + 1) ls rest)) : W p l e R s m args below meth c H locs (uc w0 w) (us w0 w) Q (F0 m pc ls (.ref x :: .int i :: .ref a :: rest)) := by
  obtain ⟨n, f, h1, h2, rfl⟩ := asR_eq hg
  have hat := (hR.1.1.one h1 jk_ne_arr).2
  obtain ⟨cellV, g1, g2, g3⟩ := w_recv hC hR.1 hv hc
  have hcls := (hC.2.2.1.1 ci _ hc).2
  obtain ⟨kA, comp, k1, k2, k3, -⟩ := (hC.2.2.1.2 t _ ht).2
  obtain ⟨kE, hkE, -⟩ := Vm.findClass_spec k3
  have hlt : i.toNatClampNeg < n := Nat.not_le.mp fun q => h2 (Or.inr q)
  have h0 : ¬ i < 0 := fun q => h2 (Or.inl q)
  have hcl : cellV.cls = D.1.1 ci := Option.some.inj (g3.symm.trans hcls.1)
  have hkC : ∃ kC : Class, s.vm.classes[cellV.cls]? = some kC := by obtain ⟨kC, hkC, -⟩ := hcls.2; exact ⟨kC, by rw [hcl]; exact hkC⟩
  obtain ⟨kC, hkC⟩ := hkC
  have hasg : s.vm.assignable cellV.cls comp = true := by
    rcases hca with h | h
    · have : comp = D.1.1 ci := by rw [← h] at k3; exact Option.some.inj (k3.symm.trans hcls.1)
      rw [this, hcl]; exact va_assign hcls
    · obtain ⟨c0, t0, f1, f2, f3⟩ := Cond.castable_spec (va_Nw.use (A := args) rfl (hEW.2.2.1 C ET h))
      cases Option.some.inj (g3.symm.trans f1)
      cases Option.some.inj (k3.symm.trans f2)
      exact f3
  refine W.aast hx hb hat (fun q h => by cases h) (fun h => by cases h) k1 k2 rfl hkE ⟨h0, by show _ < (arrV _ _ _).slots.size; rw [arrV_size]; exact hlt⟩ g1 (fun q h => by rw [h] at g2; cases g2) hkC hasg rfl rfl hdg fun H1 e z oq => ?_
  refine kk H1 _ ⟨hR.1.put h1 jk_ne_arr ?_ z oq, hR.2⟩
  show H1[a]? = some (vp_cell _ _)
  rw [e, vp_cell_q, vp_cell_q, arrV_store]
  congr 2
  funext q
  by_cases hq : q = i.toNatClampNeg
  · subst hq; simp [updV, va_up, va_rf]
  · simp [updV, va_up, hq]
theorem x_new {index ci N : Nat} {C : String} {T : u_T} {fs : List Value} (hc : cls_[ci]? = some (C, T, N)) (hin : ∀ w ∈ u_ws C T N, w ∈ lw_all) (ty : Nat → FieldType) (hty : ∀ k, k < N → parseFieldDescriptor (T k).2.2.1 = some (ty k)) (hcl : Cond.classLink own index C ∈ lw_all) (hinst : Cond.instantiable C N ∈ lw_all) (hini : Cond.initialized C ∈ lw_all) (hfs : ∀ j, j < N → defaultValue (ty j) = vp_V fs j) (hg : nwE w (.inr (ci, fs)) N = some w1) (hRc : w0.2.2.1 ≤ R.cells ∧ w0.2.2.2.1 ≤ R.slots) (hx : p.tables.exec = Jvm.exec) (hb : c.code = cc) (hC : Cx D z E s m args own) (hR : Rx D z w0 w s H locs) (hdg : decode cc pc = .ok (.new index, 3)) (kk : ∀ (H1 : Heap) (locs1 : List Loc), Rx D z w0 w1 s H1 locs1 → W p l e R s m args below meth c H1 locs1 (uc w0 w1) (us w0 w1) Q (F0 m (pc + 3) ls (.ref w.2.1 :: rest))) : W p l e R s m args below meth c H locs (uc w0 w) (us w0 w) Q (F0 m pc ls rest) := by
  obtain ⟨h1, h2, rfl⟩ := nwE_eq hg
  have hKn := hC.2.2.1.1 ci _ hc
  obtain ⟨hR1, hR2, hR3⟩ := hR
  refine W.newcK hx hb hC.2.1 (hC.1 _ hcl) (hC.1 _ hinst) (hC.1 _ hini) rfl hdg (by simp only [uc]; omega) (by simp only [us]; omega) hKn.2.1 hR1.1.1 fun H1 kC hkC e1 z1 o1 => ?_
  have hS := hR1.2
  have hk := kk H1 locs ⟨⟨hR1.1.push z1 (fun q hq => o1 q hq) ⟨_, hc, (u_born ty hC.1 hin hKn hkC e1 hty).to hfs⟩, ?_⟩, ?_, ?_⟩
  · have e2 : uc w0 (va_up w.1 w.2.1 (.inr (ci, fs)), w.2.1 + 1, w.2.2.1 - 1, w.2.2.2.1 - N, w.2.2.2.2) = uc w0 w + 1 := by simp only [uc]; omega
    have e3 : us w0 (va_up w.1 w.2.1 (.inr (ci, fs)), w.2.1 + 1, w.2.2.1 - 1, w.2.2.2.1 - N, w.2.2.2.2) = us w0 w + N := by simp only [us]; omega
    rw [e2, e3] at hk
    exact hk
  · have hz := hR1.1.1
    exact ⟨Nat.le_trans hS.1 (by rw [z1, hz]; omega), fun x h1 h2 => (o1 x (by rw [← hz]; exact Nat.lt_of_lt_of_le h1 hS.1)).trans (hS.2.1 x h1 h2), hS.2.2⟩
  · simp only; omega
  · simp only; omega
end RowsY
