set_option maxRecDepth 100000
/-! ROWS: an abstract heap AH (address -> cell, next address, cells left, slots left, what lies there from the start); Rp: a machine heap holds it; rows over it -/
def TX15 : u_T := fun _ => ("TuneDoor$Always", "", "", false)
abbrev cls_ : List vw_C := [(RX0, TX0, 14), (RX1, TX1, 11), (RX2, TX2, 2), (RX3, TX3, 5), (RX4, TX4, 1), (RX5, TX5, 3), (RX6, TX6, 74), (RX7, TX7, 12), (RX8, TX8, 8), (RX10, TX10, 4), (RX11, TX11, 1), (RX12, TX12, 1), (RX13, TX13, 3), (RX14, TX14, 2), (RX15, TX15, 0), (RX16, TX16, 3), (RX17, TX17, 1), (RX18, TX18, 2), (RX19, TX19, 7), (RX21, TX21, 3), (RX22, TX22, 3), (RX23, TX23, 3), (RX24, TX24, 3), (RX25, TX25, 3), (RX26, TX26, 9), (RJ2, TJ2, 3), (RJ5, TJ5, 4), (RJ14, TJ14, 4)]
abbrev cE : Type := (Nat × vp_A) ⊕ (Nat × List Value)
abbrev kT : Type := (Nat → cE) × (Nat → Nat)
abbrev vG : Type := va_G × (Nat → ClassId) × kT
abbrev AH : Type := (Nat → cE) × Nat × Nat × Nat × kT
def jk : cE := .inr (9999, [])
def tr (A : Nat → ClassId) (e : cE) : va_E := match e with
  | .inl q => .inl (A q.1, q.2)
  | .inr q => .inr q
abbrev tys_ (A : Nat → ClassId) : List (ClassId × FieldType) := [(A 0, .int), (A 1, .char), (A 2, .byte), (A 3, .long), (A 4, .boolean), (A 5, .object "TuneDoor$Song"), (A 6, .object "TuneDoor$Ear"), (A 7, .object "java/lang/Object")]
def Rp (D : vG) (z : Nat) (w : AH) (H : Heap) : Prop := H.size = w.2.1 ∧ (z ≤ w.2.1 ∧ w.2.2.2.2 = D.2.2) ∧ ∀ a, w.1 a = jk ∨ (z ≤ a ∧ va_at D.1 cls_ (a, tr D.2.1 (w.1 a)) H)
def Rw (D : vG) (z : Nat) (w : AH) (s : State) (H : Heap) (locs : List Loc) : Prop := Rp D z w H ∧ va_S (fun q => z ≤ q) s.heap H locs
def aup (w : AH) (a : Nat) (e : cE) : AH := (va_up w.1 a e, w.2)
/-- what else is known of the state all through (told at the claim's start), kept by every step -/
def Ek (z : Nat) (E : State → Prop) : Prop := ∀ s U : State, E s → (s.WarmedH U.vm ∨ U.vm = s.vm) → (∀ q : Nat, q < z → U.heap[q]? = s.heap[q]?) → E U
def Cx (D : vG) (z : Nat) (E : State → Prop) (s : State) (m : MethodId) (args : Array Value) (own : String) : Prop := (∀ w ∈ lw_all, w.before args s = true) ∧ s.vm.findClass own = some m.cls ∧ va_K D.1 cls_ (tys_ D.2.1) s ∧ E s ∧ Ek z E ∧ z ≤ s.heap.size
/-- a contract's start and its end -/
def Pa (D : vG) (z : Nat) (E : State → Prop) (av : List Value) (w : AH) : Array Value → State → Prop := fun v U => v = av.toArray ∧ Rp D z w U.heap ∧ va_K D.1 cls_ (tys_ D.2.1) U ∧ E U
def Qx (D : vG) (z : Nat) (r : Option Value) (w : AH) : Array Value → State → Outcome → State → Prop := fun _ st oc t => (oc = .returned r ∧ Rp D z w t.heap) ∧ va_F (fun q => z ≤ q) st t
abbrev zA (z : Nat) : Nat → Prop := fun q => z ≤ q
theorem ob {α β : Type} {o : Option α} {f : α → Option β} {b : β} (h : o.bind f = some b) : ∃ a, o = some a ∧ f a = some b := by
  cases o with
  | none => exact absurd h (by simp)
  | some a => exact ⟨a, rfl, h⟩
def bd2 {α β γ : Type} (o : Option (α × β)) (f : α → β → Option γ) : Option γ := o.bind fun q => f q.1 q.2
theorem ob2 {α β γ : Type} {o : Option (α × β)} {f : α → β → Option γ} {b : γ} (h : bd2 o f = some b) : ∃ x y, o = some (x, y) ∧ f x y = some b := by
  cases o with
  | none => exact absurd h (by simp [bd2])
  | some a => exact ⟨a.1, a.2, rfl, h⟩
theorem bd2_some {α β γ : Type} (x : α) (y : β) (f : α → β → Option γ) : bd2 (some (x, y)) f = f x y := rfl
def b2i (b : Bool) : Int32 := if b = true then 1 else 0
theorem b2i_nar (b : Bool) : narrow .boolean (.int (b2i b)) = .int (b2i b) := by cases b <;> rfl
theorem b2i_0 {b : Bool} : b2i b = 0 ↔ b = false := by cases b <;> decide
theorem b2i_1 {b : Bool} : b2i b = 1 ↔ b = true := by cases b <;> decide
def z2b (x : Int32) : Option Bool := if x = 0 then some false else if x = 1 then some true else none
theorem z2b_eq {x : Int32} {b : Bool} (h : z2b x = some b) : x = b2i b := by
  unfold z2b at h
  split at h
  · cases h; assumption
  · split at h
    · cases h; assumption
    · cases h
def irm (x y : Int32) : Option Int32 := if y = 0 then none else some (x - x / y * y)
def idv (x y : Int32) : Option Int32 := if y = 0 then none else some (x / y)
def lrm (x y : Int64) : Option Int64 := if y = 0 then none else some (x - x / y * y)
def ldv (x y : Int64) : Option Int64 := if y = 0 then none else some (x / y)
theorem irm_eq {x y v : Int32} (h : irm x y = some v) : ¬ y = 0 ∧ x - x / y * y = v := by
  unfold irm at h; split at h
  · cases h
  · cases h; exact ⟨by assumption, rfl⟩
theorem idv_eq {x y v : Int32} (h : idv x y = some v) : ¬ y = 0 ∧ x / y = v := by
  unfold idv at h; split at h
  · cases h
  · cases h; exact ⟨by assumption, rfl⟩
theorem lrm_eq {x y v : Int64} (h : lrm x y = some v) : ¬ y = 0 ∧ x - x / y * y = v := by
  unfold lrm at h; split at h
  · cases h
  · cases h; exact ⟨by assumption, rfl⟩
theorem ldv_eq {x y v : Int64} (h : ldv x y = some v) : ¬ y = 0 ∧ x / y = v := by
  unfold ldv at h; split at h
  · cases h
  · cases h; exact ⟨by assumption, rfl⟩
theorem jk_ne_arr {x : Nat × vp_A} : (Sum.inl x : cE) ≠ jk := by unfold jk; intro h; cases h
theorem jk_ne_obj {ci : Nat} {fs : List Value} {q : vw_C} (hc : cls_[ci]? = some q) : (Sum.inr (ci, fs) : cE) ≠ jk := by
  unfold jk
  intro h
  cases h
  have hn : cls_[9999]? = none := rfl
  rw [hn] at hc
  cases hc
theorem Rp.one {D : vG} {z : Nat} {w : AH} {H : Heap} (h : Rp D z w H) {a : Nat} {e : cE} (he : w.1 a = e) (hj : e ≠ jk) : z ≤ a ∧ va_at D.1 cls_ (a, tr D.2.1 e) H := by
  rcases h.2.2 a with h1 | h1
  · exact absurd (he.symm.trans h1) hj
  · rw [he] at h1; exact h1
theorem Rp.P {D : vG} {z : Nat} {w : AH} {H : Heap} (h : Rp D z w H) {a : Nat} {e : cE} (he : w.1 a = e) (hj : e ≠ jk) : va_P D.1 cls_ [(a, tr D.2.1 e)] H := by
  intro k q hk
  match k, hk with
  | 0, hk => cases hk; exact (h.one he hj).2
  | k + 1, hk => simp at hk
theorem Rp.up {D : vG} {z : Nat} {w : AH} {H H1 : Heap} (h : Rp D z w H) {a : Nat} {e e1 : cE} (he : w.1 a = e) (hj : e ≠ jk) (h1 : va_at D.1 cls_ (a, tr D.2.1 e1) H1) (hz : H1.size = H.size) (oq : ∀ q : Nat, q ≠ a → H1[q]? = H[q]?) : Rp D z (aup w a e1) H1 := by
  refine ⟨hz.trans h.1, h.2.1, fun b => ?_⟩
  by_cases hb : b = a
  · subst hb
    right
    refine ⟨(h.one he hj).1, ?_⟩
    simp only [aup, va_up, if_true]
    exact h1
  · rcases h.2.2 b with h2 | h2
    · left; simp only [aup, va_up, if_neg hb]; exact h2
    · right
      refine ⟨h2.1, ?_⟩
      simp only [aup, va_up, if_neg hb]
      exact h2.2.kept (oq b hb)
theorem Rw.put {D : vG} {z : Nat} {w : AH} {s : State} {H H1 : Heap} {locs : List Loc} (h : Rw D z w s H locs) {a k : Nat} {e e1 : cE} (he : w.1 a = e) (hj : e ≠ jk) (h1 : va_at D.1 cls_ (a, tr D.2.1 e1) H1) (hz : H1.size = H.size) (oq : ∀ q : Nat, q ≠ a → H1[q]? = H[q]?) : Rw D z (aup w a e1) s H1 (locs ++ [⟨a, k⟩]) :=
  ⟨h.1.up he hj h1 hz oq, h.2.put hz oq (h.1.one he hj).1⟩
section RowsA
variable {p : Program} {l : Launch} {e : Env} {R : Room} {s : State} {m : MethodId} {args : Array Value} {below : List Frame} {meth : Method} {c : Code} {H : Heap} {locs : List Loc} {cells slots : Nat} {Q : State → Prop}
variable {cc : ByteArray} {pc : Nat} {ls : Array Slot} {rest : List Value} {D : vG} {z : Nat} {E : State → Prop} {w : AH} {a : Nat} {own : String}
theorem w_get (hx : p.tables.exec = Jvm.exec) (hb : c.code = cc) (hC : Cx D z E s m args own) (hR : Rw D z w s H locs) {ref C : String} {T : u_T} {N ci index : Nat} {fs : List Value} (he : w.1 a = .inr (ci, fs)) (hc : cls_[ci]? = some (C, T, N)) (hin : ∀ w ∈ u_ws C T N, w ∈ lw_all) (k : Nat) (hk : k < N) (hlink : Cond.fieldLink own index ref (T k).2.1 (T k).2.2.1 ∈ lw_all) (hsame : ∀ x, s.fieldFound? (T k).1 (T k).2.1 (T k).2.2.1 = some x → s.fieldFound? ref (T k).2.1 (T k).2.2.1 = some x) {v : Value} (hv : fs[k]? = some v) (hdg : decode cc pc = .ok (.getfield index, 3))
    (kk : W p l e R s m args below meth c H locs cells slots Q (F0 m (pc + 3) ls (v :: rest))) : W p l e R s m args below meth c H locs cells slots Q (F0 m pc ls (.ref a :: rest)) :=
  va_get hx hb hC.1 hin hC.2.1 hC.2.2.1 (hR.1.P he (jk_ne_obj hc)) 0 rfl hc k hk (hC.1 _ hlink) hsame hv hdg kk
theorem w_put (hx : p.tables.exec = Jvm.exec) (hb : c.code = cc) (hC : Cx D z E s m args own) (hR : Rw D z w s H locs) {ref C : String} {T : u_T} {N ci index : Nat} {fs : List Value} (he : w.1 a = .inr (ci, fs)) (hc : cls_[ci]? = some (C, T, N)) (hin : ∀ w ∈ u_ws C T N, w ∈ lw_all) (ty0 : Nat → FieldType) (hty : ∀ k, k < N → parseFieldDescriptor (T k).2.2.1 = some (ty0 k)) (hnm : ∀ a, a < N → ∀ b, b < N → a ≠ b → (T a).2.1 ≠ (T b).2.1) (k : Nat) (hk : k < N) (hlink : Cond.fieldLink own index ref (T k).2.1 (T k).2.2.1 ∈ lw_all) (hsame : ∀ x, s.fieldFound? (T k).1 (T k).2.1 (T k).2.2.1 = some x → s.fieldFound? ref (T k).2.1 (T k).2.2.1 = some x) (hfin : (T k).2.2.2 = false) {ty : FieldType} {v : Value} (hd : parseFieldDescriptor (T k).2.2.1 = some ty) (hn : narrow ty v = v) (hfit : fits ty v = true) (hl : k < fs.length) (hdg : decode cc pc = .ok (.putfield index, 3))
    (kk : ∀ (H1 : Heap) (locs1 : List Loc), Rw D z (aup w a (.inr (ci, fs.set k v))) s H1 locs1 → W p l e R s m args below meth c H1 locs1 cells slots Q (F0 m (pc + 3) ls rest)) : W p l e R s m args below meth c H locs cells slots Q (F0 m pc ls (v :: .ref a :: rest)) := by
  have hap := va_apart (own := own) hC.1 hin ty0 hty hnm hC.2.2.1 hc
  have hat := (hR.1.one he (jk_ne_obj hc)).2
  obtain ⟨r, h1, cell, q1, q2, q3, q4⟩ := hat
  have hr : r = (C, T, N) := Option.some.inj (h1.symm.trans hc)
  subst hr
  obtain ⟨hS, hfc, kC, hkC, hkind⟩ := hC.2.2.1.1 ci _ hc
  obtain ⟨cf, kf, fi, f, hi, hsl⟩ := hS k hk
  have hlay := hC.1 _ (hin _ (u_in_lay hk))
  unfold u_lay at hlay
  rw [if_neg (by rw [hfin]; decide)] at hlay
  have hst := (u_facts hfc hkC (u_lays hC.1 hin hk) hi).1
  have h6 := u_store hfc hkC hkind hlay hi hd hn hfit
  refine W.putK hx hb (f := f) ⟨hC.2.1, hC.1 _ hlink, ⟨_, _, _, hsame _ hi⟩, hst⟩ (by rw [q2]; exact h6) q1 q3 (by rw [hsl]; exact k2_hasslot (q4 k hk)) rfl rfl hdg fun H' e1 e2 e3 => ?_
  rw [hsl] at e1 ⊢
  exact kk H' _ (hR.put he (jk_ne_obj hc) ⟨_, hc, t_OB.to (V := updV (vp_V fs) k v) ⟨_, e1, q2, q3, t_set q4 hap hk v⟩ (fun j _ => vp_updV_set hl v j)⟩ e2 e3)
theorem w_iald (hx : p.tables.exec = Jvm.exec) (hb : c.code = cc) (hC : Cx D z E s m args own) (hR : Rw D z w s H locs) {n : Nat} {f : Nat → Int32} (he : w.1 a = .inl (0, n, .inl f)) {i : Int32} (hin : vp_in i n) (hdg : decode cc pc = .ok (.iaload, 1))
    (kk : W p l e R s m args below meth c H locs cells slots Q (F0 m (pc + 1) ls (.int (f i.toNatClampNeg) :: rest))) : W p l e R s m args below meth c H locs cells slots Q (F0 m pc ls (.int i :: .ref a :: rest)) :=
  va_iald hx hb hC.2.2.1 (hR.1.P he jk_ne_arr) 0 0 rfl rfl hin hdg kk
theorem w_lald (hx : p.tables.exec = Jvm.exec) (hb : c.code = cc) (hC : Cx D z E s m args own) (hR : Rw D z w s H locs) {n : Nat} {f : Nat → Int64} (he : w.1 a = .inl (3, n, .inr (.inl f))) {i : Int32} (hin : vp_in i n) (hdg : decode cc pc = .ok (.laload, 1))
    (kk : W p l e R s m args below meth c H locs cells slots Q (F0 m (pc + 1) ls (.long (f i.toNatClampNeg) :: rest))) : W p l e R s m args below meth c H locs cells slots Q (F0 m pc ls (.int i :: .ref a :: rest)) :=
  va_lald hx hb hC.2.2.1 (hR.1.P he jk_ne_arr) 0 3 rfl rfl hin hdg kk
theorem w_zald (hx : p.tables.exec = Jvm.exec) (hb : c.code = cc) (hC : Cx D z E s m args own) (hR : Rw D z w s H locs) {n : Nat} {f : Nat → Int32} (he : w.1 a = .inl (4, n, .inl f)) {i : Int32} (hin : vp_in i n) (hdg : decode cc pc = .ok (.baload, 1))
    (kk : W p l e R s m args below meth c H locs cells slots Q (F0 m (pc + 1) ls (.int (f i.toNatClampNeg) :: rest))) : W p l e R s m args below meth c H locs cells slots Q (F0 m pc ls (.int i :: .ref a :: rest)) :=
  va_zald hx hb hC.2.2.1 (hR.1.P he jk_ne_arr) 0 4 rfl rfl hin hdg kk
theorem w_iast (hx : p.tables.exec = Jvm.exec) (hb : c.code = cc) (hC : Cx D z E s m args own) (hR : Rw D z w s H locs) {n : Nat} {f : Nat → Int32} (he : w.1 a = .inl (0, n, .inl f)) {i x : Int32} (hin : vp_in i n) (hdg : decode cc pc = .ok (.iastore, 1))
    (kk : ∀ (H1 : Heap) (locs1 : List Loc), Rw D z (aup w a (.inl (0, n, .inl (va_up f i.toNatClampNeg x)))) s H1 locs1 → W p l e R s m args below meth c H1 locs1 cells slots Q (F0 m (pc + 1) ls rest)) : W p l e R s m args below meth c H locs cells slots Q (F0 m pc ls (.int x :: .int i :: .ref a :: rest)) := by
  have hat := (hR.1.one he jk_ne_arr).2
  refine W.iast hx hb hat ((hC.2.2.1.2 0 _ rfl).1 n (fun j => .int (f j))) (fun q => by cases q) (by show ¬ (i < 0 ∨ (arrV _ _ _).slots.size ≤ _); rw [arrV_size]; exact hin) rfl rfl hdg fun H1 e z oq => ?_
  refine kk H1 _ (hR.put he jk_ne_arr ?_ z oq)
  show H1[a]? = some (vp_cell _ _)
  rw [e, vp_cell_i, vp_cell_i, arrV_store]
  congr 2
  funext q
  by_cases hq : q = i.toNatClampNeg
  · subst hq; simp [updV, va_up]
  · simp [updV, va_up, hq]
theorem w_zast (hx : p.tables.exec = Jvm.exec) (hb : c.code = cc) (hC : Cx D z E s m args own) (hR : Rw D z w s H locs) {n : Nat} {f : Nat → Int32} (he : w.1 a = .inl (4, n, .inl f)) {i x : Int32} (hxn : narrow .boolean (.int x) = .int x) (hin : vp_in i n) (hdg : decode cc pc = .ok (.bastore, 1))
    (kk : ∀ (H1 : Heap) (locs1 : List Loc), Rw D z (aup w a (.inl (4, n, .inl (va_up f i.toNatClampNeg x)))) s H1 locs1 → W p l e R s m args below meth c H1 locs1 cells slots Q (F0 m (pc + 1) ls rest)) : W p l e R s m args below meth c H locs cells slots Q (F0 m pc ls (.int x :: .int i :: .ref a :: rest)) := by
  have hat := (hR.1.one he jk_ne_arr).2
  refine W.zast hx hb hat ((hC.2.2.1.2 4 _ rfl).1 n (fun j => .int (f j))) (fun q => by cases q) (by show ¬ (i < 0 ∨ (arrV _ _ _).slots.size ≤ _); rw [arrV_size]; exact hin) rfl rfl hdg fun H1 e z oq => ?_
  refine kk H1 _ (hR.put he jk_ne_arr ?_ z oq)
  show H1[a]? = some (vp_cell _ _)
  rw [e, hxn, vp_cell_i, vp_cell_i, arrV_store]
  congr 2
  funext q
  by_cases hq : q = i.toNatClampNeg
  · subst hq; simp [updV, va_up]
  · simp [updV, va_up, hq]
theorem w_last (hx : p.tables.exec = Jvm.exec) (hb : c.code = cc) (hC : Cx D z E s m args own) (hR : Rw D z w s H locs) {n : Nat} {f : Nat → Int64} (he : w.1 a = .inl (3, n, .inr (.inl f))) {i : Int32} {x : Int64} (hin : vp_in i n) (hdg : decode cc pc = .ok (.lastore, 1))
    (kk : ∀ (H1 : Heap) (locs1 : List Loc), Rw D z (aup w a (.inl (3, n, .inr (.inl (va_up f i.toNatClampNeg x))))) s H1 locs1 → W p l e R s m args below meth c H1 locs1 cells slots Q (F0 m (pc + 1) ls rest)) : W p l e R s m args below meth c H locs cells slots Q (F0 m pc ls (.long x :: .int i :: .ref a :: rest)) := by
  have hat := (hR.1.one he jk_ne_arr).2
  refine W.last hx hb hat ((hC.2.2.1.2 3 _ rfl).1 n (fun j => .long (f j))) (fun q => by cases q) (by show ¬ (i < 0 ∨ (arrV _ _ _).slots.size ≤ _); rw [arrV_size]; exact hin) rfl rfl hdg fun H1 e z oq => ?_
  refine kk H1 _ (hR.put he jk_ne_arr ?_ z oq)
  show H1[a]? = some (vp_cell _ _)
  rw [e, vp_cell_l, vp_cell_l, arrV_store]
  congr 2
  funext q
  by_cases hq : q = i.toNatClampNeg
  · subst hq; simp [updV, va_up]
  · simp [updV, va_up, hq]
/-- lcmp and the branch behind it -/
theorem w_lceq (hx : p.tables.exec = Jvm.exec) (hb : c.code = cc) {x y : Int64} {off : Int} {tgt : Nat} (h1 : decode cc pc = .ok (.lcmp, 1)) (h2 : decode cc (pc + 1) = .ok (.ifCond .eq off, 3)) (ht : ((pc + 1 : Nat) : Int) + off = (tgt : Int)) (kt : x = y → W p l e R s m args below meth c H locs cells slots Q (F0 m tgt ls rest)) (kf : ¬ x = y → W p l e R s m args below meth c H locs cells slots Q (F0 m (pc + 1 + 3) ls rest)) : W p l e R s m args below meth c H locs cells slots Q (F0 m pc ls (.long y :: .long x :: rest)) :=
  W.lcmp hx hb h1 (lv_if_eq hx hb h2 ht (fun h => kt ((lg_cmp_eq x y).mp h)) (fun h => kf (fun q => h ((lg_cmp_eq x y).mpr q))))
theorem w_lcne (hx : p.tables.exec = Jvm.exec) (hb : c.code = cc) {x y : Int64} {off : Int} {tgt : Nat} (h1 : decode cc pc = .ok (.lcmp, 1)) (h2 : decode cc (pc + 1) = .ok (.ifCond .ne off, 3)) (ht : ((pc + 1 : Nat) : Int) + off = (tgt : Int)) (kt : ¬ x = y → W p l e R s m args below meth c H locs cells slots Q (F0 m tgt ls rest)) (kf : x = y → W p l e R s m args below meth c H locs cells slots Q (F0 m (pc + 1 + 3) ls rest)) : W p l e R s m args below meth c H locs cells slots Q (F0 m pc ls (.long y :: .long x :: rest)) :=
  W.lcmp hx hb h1 (lv_if_ne hx hb h2 ht (fun h => kt (fun q => h ((lg_cmp_eq x y).mpr q))) (fun h => kf ((lg_cmp_eq x y).mp h)))
theorem w_lcge (hx : p.tables.exec = Jvm.exec) (hb : c.code = cc) {x y : Int64} {off : Int} {tgt : Nat} (h1 : decode cc pc = .ok (.lcmp, 1)) (h2 : decode cc (pc + 1) = .ok (.ifCond .ge off, 3)) (ht : ((pc + 1 : Nat) : Int) + off = (tgt : Int)) (kt : y ≤ x → W p l e R s m args below meth c H locs cells slots Q (F0 m tgt ls rest)) (kf : ¬ y ≤ x → W p l e R s m args below meth c H locs cells slots Q (F0 m (pc + 1 + 3) ls rest)) : W p l e R s m args below meth c H locs cells slots Q (F0 m pc ls (.long y :: .long x :: rest)) :=
  W.lcmp hx hb h1 (lv_if_ge hx hb h2 ht (fun h => kt ((lg_cmp_ge x y).mp h)) (fun h => kf (fun q => h ((lg_cmp_ge x y).mpr q))))
theorem w_lclt (hx : p.tables.exec = Jvm.exec) (hb : c.code = cc) {x y : Int64} {off : Int} {tgt : Nat} (h1 : decode cc pc = .ok (.lcmp, 1)) (h2 : decode cc (pc + 1) = .ok (.ifCond .lt off, 3)) (ht : ((pc + 1 : Nat) : Int) + off = (tgt : Int)) (kt : x < y → W p l e R s m args below meth c H locs cells slots Q (F0 m tgt ls rest)) (kf : ¬ x < y → W p l e R s m args below meth c H locs cells slots Q (F0 m (pc + 1 + 3) ls rest)) : W p l e R s m args below meth c H locs cells slots Q (F0 m pc ls (.long y :: .long x :: rest)) :=
  W.lcmp hx hb h1 (lv_if_lt hx hb h2 ht (fun h => kt ((lg_cmp_lt x y).mp h)) (fun h => kf (fun q => h ((lg_cmp_lt x y).mpr q))))
theorem w_lcle (hx : p.tables.exec = Jvm.exec) (hb : c.code = cc) {x y : Int64} {off : Int} {tgt : Nat} (h1 : decode cc pc = .ok (.lcmp, 1)) (h2 : decode cc (pc + 1) = .ok (.ifCond .le off, 3)) (ht : ((pc + 1 : Nat) : Int) + off = (tgt : Int)) (kt : x ≤ y → W p l e R s m args below meth c H locs cells slots Q (F0 m tgt ls rest)) (kf : ¬ x ≤ y → W p l e R s m args below meth c H locs cells slots Q (F0 m (pc + 1 + 3) ls rest)) : W p l e R s m args below meth c H locs cells slots Q (F0 m pc ls (.long y :: .long x :: rest)) :=
  W.lcmp hx hb h1 (lv_if_le hx hb h2 ht (fun h => kt ((lg_cmp_le x y).mp h)) (fun h => kf (fun q => h ((lg_cmp_le x y).mpr q))))
theorem w_lcgt (hx : p.tables.exec = Jvm.exec) (hb : c.code = cc) {x y : Int64} {off : Int} {tgt : Nat} (h1 : decode cc pc = .ok (.lcmp, 1)) (h2 : decode cc (pc + 1) = .ok (.ifCond .gt off, 3)) (ht : ((pc + 1 : Nat) : Int) + off = (tgt : Int)) (kt : y < x → W p l e R s m args below meth c H locs cells slots Q (F0 m tgt ls rest)) (kf : ¬ y < x → W p l e R s m args below meth c H locs cells slots Q (F0 m (pc + 1 + 3) ls rest)) : W p l e R s m args below meth c H locs cells slots Q (F0 m pc ls (.long y :: .long x :: rest)) :=
  W.lcmp hx hb h1 (lv_if_gt hx hb h2 ht (fun h => kt ((lg_cmp_gt x y).mp h)) (fun h => kf (fun q => h ((lg_cmp_gt x y).mpr q))))
end RowsA
