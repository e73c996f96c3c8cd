set_option maxRecDepth 100000
/-! THE COMPONENT's ROWS: reads and writes of the abstract heap, with what is left of the room in it -/
abbrev uc (w0 w : AH) : Nat := w0.2.2.1 - w.2.2.1
abbrev us (w0 w : AH) : Nat := w0.2.2.2.1 - w.2.2.2.1
def Rx (D : vG) (z : Nat) (w0 w : AH) (s : State) (H : Heap) (locs : List Loc) : Prop := Rw D z w s H locs ∧ w.2.2.1 ≤ w0.2.2.1 ∧ w.2.2.2.1 ≤ w0.2.2.2.1
def Qa (D : vG) (z : Nat) (r : Option Value) (w w1 : AH) : Array Value → State → Outcome → State → Prop := fun a st oc t => Qx D z r w1 a st oc t ∧ w1.2.2.1 ≤ w.2.2.1 ∧ w1.2.2.2.1 ≤ w.2.2.2.1
abbrev rmA (F L : Nat) (w : AH) : Room := { frames := F, cells := w.2.2.1, slots := w.2.2.2.1, locals := L }
/-- the fields of an object of one of some classes -/
def gO (w : AH) (a : Nat) (cs : List Nat) : Option (List Value) := match w.1 a with
  | .inr q => if q.1 ∈ cs then some q.2 else none
  | .inl _ => none
def vI (v : Option Value) : Option Int32 := match v with
  | some (.int x) => some x
  | _ => none
def vL (v : Option Value) : Option Int64 := match v with
  | some (.long x) => some x
  | _ => none
def vR (v : Option Value) : Option Nat := match v with
  | some (.ref x) => some x
  | _ => none
def gI (w : AH) (a : Nat) (cs : List Nat) (k : Nat) : Option Int32 := (gO w a cs).bind fun fs => vI fs[k]?
def gL (w : AH) (a : Nat) (cs : List Nat) (k : Nat) : Option Int64 := (gO w a cs).bind fun fs => vL fs[k]?
def gR (w : AH) (a : Nat) (cs : List Nat) (k : Nat) : Option Nat := (gO w a cs).bind fun fs => vR fs[k]?
def pV (w : AH) (a : Nat) (cs : List Nat) (k : Nat) (v : Value) : Option AH := match w.1 a with
  | .inr q => if q.1 ∈ cs ∧ k < q.2.length then some (aup w a (.inr (q.1, q.2.set k v))) else none
  | .inl _ => none
theorem vI_eq {o : Option Value} {x : Int32} (h : vI o = some x) : o = some (.int x) := by
  unfold vI at h; split at h
  · cases h; rfl
  · cases h
theorem vL_eq {o : Option Value} {x : Int64} (h : vL o = some x) : o = some (.long x) := by
  unfold vL at h; split at h
  · cases h; rfl
  · cases h
theorem vR_eq {o : Option Value} {x : Nat} (h : vR o = some x) : o = some (.ref x) := by
  unfold vR at h; split at h
  · cases h; rfl
  · cases h
theorem gO_eq {w : AH} {a : Nat} {cs : List Nat} {fs : List Value} (h : gO w a cs = some fs) : ∃ ci, ci ∈ cs ∧ w.1 a = .inr (ci, fs) := by
  unfold gO at h
  split at h
  · rename_i q hq
    split at h
    · cases h; exact ⟨q.1, by assumption, hq⟩
    · cases h
  · cases h
theorem gI_eq {w : AH} {a : Nat} {cs : List Nat} {k : Nat} {x : Int32} (h : gI w a cs k = some x) : ∃ ci fs, ci ∈ cs ∧ w.1 a = .inr (ci, fs) ∧ fs[k]? = some (.int x) := by
  obtain ⟨fs, h1, h2⟩ := ob h
  obtain ⟨ci, h3, h4⟩ := gO_eq h1
  exact ⟨ci, fs, h3, h4, vI_eq h2⟩
theorem gL_eq {w : AH} {a : Nat} {cs : List Nat} {k : Nat} {x : Int64} (h : gL w a cs k = some x) : ∃ ci fs, ci ∈ cs ∧ w.1 a = .inr (ci, fs) ∧ fs[k]? = some (.long x) := by
  obtain ⟨fs, h1, h2⟩ := ob h
  obtain ⟨ci, h3, h4⟩ := gO_eq h1
  exact ⟨ci, fs, h3, h4, vL_eq h2⟩
theorem gR_eq {w : AH} {a : Nat} {cs : List Nat} {k : Nat} {x : Nat} (h : gR w a cs k = some x) : ∃ ci fs, ci ∈ cs ∧ w.1 a = .inr (ci, fs) ∧ fs[k]? = some (.ref x) := by
  obtain ⟨fs, h1, h2⟩ := ob h
  obtain ⟨ci, h3, h4⟩ := gO_eq h1
  exact ⟨ci, fs, h3, h4, vR_eq h2⟩
theorem pV_eq {w w1 : AH} {a : Nat} {cs : List Nat} {k : Nat} {v : Value} (h : pV w a cs k v = some w1) : ∃ ci fs, ci ∈ cs ∧ w.1 a = .inr (ci, fs) ∧ k < fs.length ∧ w1 = aup w a (.inr (ci, fs.set k v)) := by
  unfold pV at h
  split at h
  · rename_i q hq
    split at h
    · rename_i h1
      cases h; exact ⟨q.1, q.2, h1.1, hq, h1.2, rfl⟩
    · cases h
  · cases h
/-- a field link of a class, for objects of some classes -/
def FLk (own : String) (index : Nat) (cs : List Nat) (k : Nat) : Prop := ∀ ci ∈ cs, ∃ (C : String) (T : u_T) (N : Nat) (ref : String), cls_[ci]? = some (C, T, N) ∧ (∀ w ∈ u_ws C T N, w ∈ lw_all) ∧ k < N ∧ Cond.fieldLink own index ref (T k).2.1 (T k).2.2.1 ∈ lw_all ∧ (ref = (T k).1 ∨ Cond.sameField ref (T k).1 (T k).2.1 (T k).2.2.1 ∈ lw_all)
def FTy (cs : List Nat) (k : Nat) (ty : FieldType) (fin : Bool) (decl : String) : Prop := ∀ ci ∈ cs, ∃ (C : String) (T : u_T) (N : Nat) (ty0 : Nat → FieldType), cls_[ci]? = some (C, T, N) ∧ (∀ k, k < N → parseFieldDescriptor (T k).2.2.1 = some (ty0 k)) ∧ (∀ a, a < N → ∀ b, b < N → a ≠ b → (T a).2.1 ≠ (T b).2.1) ∧ (T k).2.2.2 = fin ∧ (T k).1 = decl ∧ parseFieldDescriptor (T k).2.2.1 = some ty
theorem FLk.one {own : String} {index ci k : Nat} {C : String} {T : u_T} {N : Nat} (hc : cls_[ci]? = some (C, T, N)) (hin : ∀ w ∈ u_ws C T N, w ∈ lw_all) (hk : k < N) {ref : String} (hl : Cond.fieldLink own index ref (T k).2.1 (T k).2.2.1 ∈ lw_all) (hs : ref = (T k).1 ∨ Cond.sameField ref (T k).1 (T k).2.1 (T k).2.2.1 ∈ lw_all) : FLk own index [ci] k := by
  intro c h
  rw [List.mem_singleton.mp h]
  exact ⟨C, T, N, ref, hc, hin, hk, hl, hs⟩
theorem FLk.cons {own : String} {index ci k : Nat} {cs : List Nat} (h1 : FLk own index [ci] k) (h2 : FLk own index cs k) : FLk own index (ci :: cs) k := by
  intro c h
  rcases List.mem_cons.mp h with h | h
  · rw [h]; exact h1 ci List.mem_cons_self
  · exact h2 c h
theorem FTy.one {ci k : Nat} {C : String} {T : u_T} {N : Nat} {ty0 : Nat → FieldType} {ty : FieldType} {fin : Bool} {decl : String} (hc : cls_[ci]? = some (C, T, N)) (h1 : ∀ k, k < N → parseFieldDescriptor (T k).2.2.1 = some (ty0 k)) (h2 : ∀ a, a < N → ∀ b, b < N → a ≠ b → (T a).2.1 ≠ (T b).2.1) (h3 : (T k).2.2.2 = fin) (h4 : (T k).1 = decl) (h5 : parseFieldDescriptor (T k).2.2.1 = some ty) : FTy [ci] k ty fin decl := by
  intro c h
  rw [List.mem_singleton.mp h]
  exact ⟨C, T, N, ty0, hc, h1, h2, h3, h4, h5⟩
theorem FTy.cons {ci k : Nat} {cs : List Nat} {ty : FieldType} {fin : Bool} {decl : String} (h1 : FTy [ci] k ty fin decl) (h2 : FTy cs k ty fin decl) : FTy (ci :: cs) k ty fin decl := by
  intro c h
  rcases List.mem_cons.mp h with h | h
  · rw [h]; exact h1 ci List.mem_cons_self
  · exact h2 c h
section RowsX
variable {p : Program} {l : Launch} {e : Env} {R : Room} {s : State} {m : MethodId} {args : Array Value} {below : List Frame} {meth : Method} {c : Code} {H : Heap} {locs : List Loc} {cells slots : Nat} {Q : State → Prop}
variable {cc : ByteArray} {pc : Nat} {ls : Array Slot} {rest st0 : List Value} {D : vG} {z : Nat} {E : State → Prop} {w0 w w1 : AH} {a nL : Nat} {own : String}
theorem FLk.same {ref decl n d : String} (hts : ∀ w ∈ lw_all, w.before args s = true) (h : ref = decl ∨ Cond.sameField ref decl n d ∈ lw_all) : ∀ x, s.fieldFound? decl n d = some x → s.fieldFound? ref n d = some x := by
  rcases h with h | h
  · intro x hx; rw [h]; exact hx
  · exact fun x hx => u_same (hts _ h) x hx
theorem x_get {index k : Nat} {cs : List Nat} {ci : Nat} {fs : List Value} {v : Value} (hf : FLk own index cs k) (hci : ci ∈ cs) (he : w.1 a = .inr (ci, fs)) (hv : fs[k]? = some v) (hx : p.tables.exec = Jvm.exec) (hb : c.code = cc) (hC : Cx D z E s m args own) (hR : Rx D z w0 w s H locs) (hdg : decode cc pc = .ok (.getfield index, 3))
    (kk : W p l e R s m args below meth c H locs cells slots Q (F0 m (pc + 3) ls (v :: rest))) : W p l e R s m args below meth c H locs cells slots Q (F0 m pc ls (.ref a :: rest)) := by
  obtain ⟨C, T, N, ref, hc, hin, hk, hl, hs⟩ := hf ci hci
  exact w_get hx hb hC hR.1 he hc hin k hk hl (FLk.same hC.1 hs) hv hdg kk
theorem x_gI {index k : Nat} {cs : List Nat} {x : Int32} (hf : FLk own index cs k) (hg : gI w a cs k = some x) (hx : p.tables.exec = Jvm.exec) (hb : c.code = cc) (hC : Cx D z E s m args own) (hR : Rx D z w0 w s H locs) (hdg : decode cc pc = .ok (.getfield index, 3))
    (kk : W p l e R s m args below meth c H locs cells slots Q (F0 m (pc + 3) ls (.int x :: rest))) : W p l e R s m args below meth c H locs cells slots Q (F0 m pc ls (.ref a :: rest)) := by
  obtain ⟨ci, fs, h1, h2, h3⟩ := gI_eq hg
  exact x_get hf h1 h2 h3 hx hb hC hR hdg kk
theorem x_gL {index k : Nat} {cs : List Nat} {x : Int64} (hf : FLk own index cs k) (hg : gL w a cs k = some x) (hx : p.tables.exec = Jvm.exec) (hb : c.code = cc) (hC : Cx D z E s m args own) (hR : Rx D z w0 w s H locs) (hdg : decode cc pc = .ok (.getfield index, 3))
    (kk : W p l e R s m args below meth c H locs cells slots Q (F0 m (pc + 3) ls (.long x :: rest))) : W p l e R s m args below meth c H locs cells slots Q (F0 m pc ls (.ref a :: rest)) := by
  obtain ⟨ci, fs, h1, h2, h3⟩ := gL_eq hg
  exact x_get hf h1 h2 h3 hx hb hC hR hdg kk
theorem x_gR {index k : Nat} {cs : List Nat} {x : Nat} (hf : FLk own index cs k) (hg : gR w a cs k = some x) (hx : p.tables.exec = Jvm.exec) (hb : c.code = cc) (hC : Cx D z E s m args own) (hR : Rx D z w0 w s H locs) (hdg : decode cc pc = .ok (.getfield index, 3))
    (kk : W p l e R s m args below meth c H locs cells slots Q (F0 m (pc + 3) ls (.ref x :: rest))) : W p l e R s m args below meth c H locs cells slots Q (F0 m pc ls (.ref a :: rest)) := by
  obtain ⟨ci, fs, h1, h2, h3⟩ := gR_eq hg
  exact x_get hf h1 h2 h3 hx hb hC hR hdg kk
theorem x_put {index k : Nat} {cs : List Nat} {v : Value} {ty : FieldType} {decl : String} (hf : FLk own index cs k) (ht : FTy cs k ty false decl) (hn : narrow ty v = v) (hfit : fits ty v = true) (hg : pV w a cs k v = some w1) (hx : p.tables.exec = Jvm.exec) (hb : c.code = cc) (hC : Cx D z E s m args own) (hR : Rx D z w0 w s H locs) (hdg : decode cc pc = .ok (.putfield index, 3))
    (kk : ∀ (H1 : Heap) (locs1 : List Loc), Rx D z w0 w1 s H1 locs1 → W p l e R s m args below meth c H1 locs1 (uc w0 w1) (us w0 w1) Q (F0 m (pc + 3) ls rest)) : W p l e R s m args below meth c H locs (uc w0 w) (us w0 w) Q (F0 m pc ls (v :: .ref a :: rest)) := by
  obtain ⟨ci, fs, h1, h2, h3, rfl⟩ := pV_eq hg
  obtain ⟨C, T, N, ref, hc, hin, hk, hl, hs⟩ := hf ci h1
  obtain ⟨C', T', N', ty0, hc', q1, q2, q3, q4, q5⟩ := ht ci h1
  cases hc.symm.trans hc'
  exact w_put hx hb hC hR.1 h2 hc hin ty0 q1 q2 k hk hl (FLk.same hC.1 hs) q3 q5 hn hfit h3 hdg (fun H1 locs1 h => kk H1 locs1 ⟨h, hR.2⟩)
theorem x_putF {index k : Nat} {cs : List Nat} {v : Value} {ty : FieldType} (hf : FLk own index cs k) (ht : FTy cs k ty true own) (hn : narrow ty v = v) (hfit : fits ty v = true) (hin2 : meth.name = "<init>") (hg : pV w a cs k v = some w1) (hx : p.tables.exec = Jvm.exec) (hb : c.code = cc) (hC : Cx D z E s m args own) (hR : Rx D z w0 w s H locs) (hdg : decode cc pc = .ok (.putfield index, 3))
    (kk : ∀ (H1 : Heap) (locs1 : List Loc), Rx D z w0 w1 s H1 locs1 → W p l e R s m args below meth c H1 locs1 (uc w0 w1) (us w0 w1) Q (F0 m (pc + 3) ls rest)) : W p l e R s m args below meth c H locs (uc w0 w) (us w0 w) Q (F0 m pc ls (v :: .ref a :: rest)) := by
  obtain ⟨ci, fs, h1, h2, h3, rfl⟩ := pV_eq hg
  obtain ⟨C, T, N, ref, hc, hin, hk, hl, hs⟩ := hf ci h1
  obtain ⟨C', T', N', ty0, hc', q1, q2, q3, q4, q5⟩ := ht ci h1
  cases hc.symm.trans hc'
  have hap := va_apart (own := own) hC.1 hin ty0 q1 q2 hC.2.2.1 hc
  have hat := (hR.1.1.one h2 (jk_ne_obj hc)).2
  obtain ⟨r, g1, cell, g2, g3, g4, g5⟩ := hat
  have hr : r = (C, T, N) := Option.some.inj (g1.symm.trans hc)
  subst hr
  obtain ⟨hS, hfc, kC, hkC, hkind⟩ := hC.2.2.1.1 ci _ hc
  obtain ⟨cf, kf, fi, f, hi, hsl⟩ := hS k hk
  have hlay := hC.1 _ (hin _ (u_in_lay hk))
  unfold u_lay at hlay
  rw [if_pos q3] at hlay
  have hst := (u_facts hfc hkC (u_lays hC.1 hin hk) hi).1
  have hcf : m.cls = cf := by
    obtain ⟨_, _, c', _, _, _, -, -, hf', -, -, -, hown2, -⟩ := Cond.laysFinal_spec hlay
    have e1 : c' = cf := by have := hi.symm.trans hf'; simp at this; exact this.1.symm
    rw [q4] at hown2
    rw [← e1]; exact Option.some.inj (hC.2.1.symm.trans hown2)
  have h6 := u_fits hfc hkC hkind (Or.inr hlay) hi q5 hn hfit
  refine W.putFinK hx hb hC.2.1 (hC.1 _ hl) (FLk.same hC.1 hs _ hi) hst hcf hin2 (by rw [g3]; exact h6) g2 g4 (by rw [hsl]; exact k2_hasslot (g5 k hk)) rfl rfl hdg fun H' e1 e2 e3 => ?_
  rw [hsl] at e1 ⊢
  exact kk H' _ ⟨hR.1.put h2 (jk_ne_obj hc) ⟨_, hc, t_OB.to (V := updV (vp_V fs) k v) ⟨_, e1, g3, g4, t_set g5 hap hk v⟩ (fun j _ => vp_updV_set h3 v j)⟩ e2 e3, hR.2⟩
end RowsX
