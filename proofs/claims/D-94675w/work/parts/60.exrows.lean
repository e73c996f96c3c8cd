set_option maxRecDepth 100000
/-! methods that may throw a Fault: their answers are .inl v (returned) or .inr q (thrown: the object's address) -/
def bdx {α β : Type} (o : Option ((α ⊕ Nat) × AH)) (f : α → AH → Option ((β ⊕ Nat) × AH)) : Option ((β ⊕ Nat) × AH) := o.bind fun q => match q.1 with
  | .inl v => f v q.2
  | .inr t => some (.inr t, q.2)
theorem obx {α β : Type} {o : Option ((α ⊕ Nat) × AH)} {f : α → AH → Option ((β ⊕ Nat) × AH)} {r : β ⊕ Nat} {w' : AH} (h : bdx o f = some (r, w')) : (∃ v w1, o = some (.inl v, w1) ∧ f v w1 = some (r, w')) ∨ (∃ q, o = some (.inr q, w') ∧ r = .inr q) := by
  unfold bdx at h
  obtain ⟨⟨x, w1⟩, h1, h2⟩ := ob h
  cases x with
  | inl v => exact Or.inl ⟨v, w1, h1, h2⟩
  | inr q =>
    obtain ⟨e1, e2⟩ := so2 h2
    subst e1; subst e2
    exact Or.inr ⟨q, h1, rfl⟩
def Qt {α : Type} (D : vG) (z : Nat) (rv : α → Option Value) (res : α ⊕ Nat) (w w1 : AH) : Array Value → State → Outcome → State → Prop := fun a st oc t => ∃ v, res = .inl v ∧ Qa D z (rv v) w w1 a st oc t
def XCt {α : Type} (D : vG) (z : Nat) (res : α ⊕ Nat) (w w1 : AH) : Addr → String → State → State → Prop := fun q E st t => res = .inr q ∧ E = "TuneDoor$Fault" ∧ Rp D z w1 t.heap ∧ va_F (zA z) st t ∧ w1.2.2.1 ≤ w.2.2.1 ∧ w1.2.2.2.1 ≤ w.2.2.2.1
/-- a field link to a nest mate's field -/
def FLn (own : String) (index ci k : Nat) : Prop := ∃ (C : String) (T : u_T) (N : Nat) (ref host : String), cls_[ci]? = some (C, T, N) ∧ (∀ w ∈ u_ws C T N, w ∈ lw_all) ∧ k < N ∧ Cond.fieldLinkNest own index ref (T k).2.1 (T k).2.2.1 host ∈ lw_tbl ∧ ref = (T k).1
section RowsE
variable {p : Program} {l : Launch} {e : Env} {R : Room} {s : State} {m : MethodId} {args : Array Value} {below : List Frame} {meth : Method} {c : Code} {H : Heap} {locs : List Loc} {cells slots : Nat} {Q : State → Prop}
variable {cc : ByteArray} {pc : Nat} {ls : Array Slot} {rest st0 : List Value} {D : vG} {z : Nat} {E : State → Prop} {w0 w w1 : AH} {a nL : Nat} {own : String} {α β : Type} {rv : α → Option Value} {rv2 : β → Option Value}
theorem x_gRN {index k ci x : Nat} (hf : FLn own index ci k) (hEW : EW s) (hg : gR w a [ci] k = some x) (hx : p.tables.exec = Jvm.exec) (hb : c.code = cc) (hC : Cx D z E s m args own) (hR : Rx D z w0 w s H locs) (hdg : decode cc pc = .ok (.getfield index, 3))
    (kk : W p l e R s m args below meth c H locs cells slots Q (F0 m (pc + 3) ls (.ref x :: rest))) : W p l e R s m args below meth c H locs cells slots Q (F0 m pc ls (.ref a :: rest)) := by
  obtain ⟨ci', fs, h1, h2, h3⟩ := gR_eq hg
  rw [List.mem_singleton.mp h1] at h2
  obtain ⟨C, T, N, ref, host, hc, hin, hk, hl, hs⟩ := hf
  exact va_getN hx hb hC.1 hin hC.2.1 hC.2.2.1 (hR.1.1.P h2 (jk_ne_obj hc)) 0 rfl hc k hk (va_Nw.use rfl (hEW.2.1 _ _ _ _ _ _ hl)) (fun y hy => by rw [hs]; exact hy) h3 hdg kk
theorem xx_ran {v : α} {a0 : Array Value} (hR : Rx D z w0 w s H locs) (hr : xq_Run p l e R s m args below meth c H locs (uc w0 w) (us w0 w) (uc w w1) (us w w1) (F0 m pc ls st0) rest (Qt D z rv (.inl v) w w1 a0) (XCt D z (.inl v : α ⊕ Nat) w w1) (zA z))
    (kk : ∀ (H1 : Heap) (locs1 : List Loc), Rx D z w0 w1 s H1 locs1 → W p l e R s m args below meth c H1 locs1 (uc w0 w1) (us w0 w1) Q (F0 m (pc + 3) ls ((rv v).toList ++ rest))) : W p l e R s m args below meth c H locs (uc w0 w) (us w0 w) Q (F0 m pc ls st0) := by
  intro T hT X
  rcases hr T hT X with ⟨v', st₀, t, T', L, h0, X', hL, e1, e2, ⟨v2, hv2, ⟨⟨hv, hp⟩, hz, hk⟩, hb1, hb2⟩, st⟩ | ⟨q, st₀, t, T', L, E', ce, h0, X', hL, e1, e2, ⟨hq, -⟩, -⟩
  · cases hv2
    cases hv
    rw [h0] at hz hk
    obtain ⟨⟨-, hS⟩, hR2, hR3⟩ := hR
    have e3 : uc w0 w + uc w w1 = uc w0 w1 := by simp only [uc]; omega
    have e4 : us w0 w + us w w1 = us w0 w1 := by simp only [us]; omega
    rw [e3, e4] at X'
    obtain ⟨t2, a1, b1⟩ := kk T'.heap (locs ++ L) ⟨⟨by rw [e1]; exact hp, Nat.le_trans hS.1 (by rw [e1]; exact hz), fun q h1 h2 => by rw [e1, hk q (Nat.lt_of_lt_of_le h1 hS.1) h2]; exact hS.2.1 q h1 h2, fun q hq => by
        rcases List.mem_append.mp hq with h | h
        · exact hS.2.2 q h
        · exact hL q h⟩, by omega, by omega⟩ T' rfl X'
    exact ⟨t2, st t2 a1, b1⟩
  · cases hq
/-- thrown there: what is done with it here -/
theorem xx_thr {q : Nat} {a0 : Array Value} (hR : Rx D z w0 w s H locs) (hr : xq_Run p l e R s m args below meth c H locs (uc w0 w) (us w0 w) (uc w w1) (us w w1) (F0 m pc ls st0) rest (Qt D z rv (.inr q) w w1 a0) (XCt D z (.inr q : α ⊕ Nat) w w1) (zA z))
    (kk : ∀ (H1 : Heap) (locs1 : List Loc) (ce : Cell), Rx D z w0 w1 s H1 locs1 → H1[q]? = some ce → ce.vm = .none → s.vm.findClass "TuneDoor$Fault" = some ce.cls → xq_W p l e R s m args below meth c H1 locs1 (uc w0 w1) (us w0 w1) Q (F0 m pc ls rest) q) : W p l e R s m args below meth c H locs (uc w0 w) (us w0 w) Q (F0 m pc ls st0) := by
  intro T hT X
  rcases hr T hT X with ⟨v', st₀, t, T', L, h0, X', hL, e1, e2, ⟨v2, hv2, -⟩, st⟩ | ⟨q', st₀, t, T', L, E', ce, h0, X', hL, e1, e2, ⟨hq, hE, hp, ⟨hz, hk⟩, hb1, hb2⟩, g1, g2, g3, st⟩
  · cases hv2
  · cases hq
    subst hE
    rw [h0] at hz hk
    obtain ⟨⟨-, hS⟩, hR2, hR3⟩ := hR
    have e3 : uc w0 w + uc w w1 = uc w0 w1 := by simp only [uc]; omega
    have e4 : us w0 w + us w w1 = us w0 w1 := by simp only [us]; omega
    rw [e3, e4] at X'
    obtain ⟨t2, a1, b1⟩ := kk T'.heap (locs ++ L) ce ⟨⟨by rw [e1]; exact hp, Nat.le_trans hS.1 (by rw [e1]; exact hz), fun q h1 h2 => by rw [e1, hk q (Nat.lt_of_lt_of_le h1 hS.1) h2]; exact hS.2.1 q h1 h2, fun q hq => by
        rcases List.mem_append.mp hq with h | h
        · exact hS.2.2 q h
        · exact hL q h⟩, by omega, by omega⟩ (by rw [e1]; exact g1) g2 g3 T' rfl X'
    exact ⟨t2, st.trans a1, b1⟩
theorem xx_out {q : Nat} {ce : Cell} (hout : ∀ x ∈ c.exceptionTable.toList, False) (hlk : meth.locks = false) (hR : Rx D z w0 w1 s H locs) (g1 : H[q]? = some ce) (g2 : ce.vm = .none) (g3 : s.vm.findClass "TuneDoor$Fault" = some ce.cls) : xq_W p l e R s m args below meth c H locs (uc w0 w1) (us w0 w1) (xq_MQ below (Qt D z rv2 (.inr q : β ⊕ Nat) w0 w1) (XCt D z (.inr q : β ⊕ Nat) w0 w1) args s (uc w0 w1) (us w0 w1) (zA z)) (F0 m pc ls rest) q :=
  xq_out (fun x h => (hout x h).elim) hlk g1 g2 g3 (fun t ht _ => ⟨rfl, rfl, by rw [ht]; exact hR.1.1, hR.1.2.F ht, hR.2⟩) hR.1.2.2.2 (Nat.le_refl _) (Nat.le_refl _)
theorem xx_athrow {q k : Nat} (hk : ckO w q [8] = some k) (hout : ∀ x ∈ c.exceptionTable.toList, False) (hlk : meth.locks = false) (hx : p.tables.exec = Jvm.exec) (hb : c.code = cc) (hC : Cx D z E s m args own) (hR : Rx D z w0 w s H locs) (hdg : decode cc pc = .ok (.athrow, 1)) : W p l e R s m args below meth c H locs (uc w0 w) (us w0 w) (xq_MQ below (Qt D z rv2 (.inr q : β ⊕ Nat) w0 w) (XCt D z (.inr q : β ⊕ Nat) w0 w) args s (uc w0 w) (us w0 w) (zA z)) (F0 m pc ls (.ref q :: rest)) := by
  obtain ⟨-, ci, fs, h1, h2⟩ := ckO_eq hk
  rw [List.mem_singleton.mp h1] at h2
  obtain ⟨r, hr, ce, g1, g2, g3, -⟩ := (hR.1.1.one h2 (jk_ne_obj (q := (RX8, TX8, 8)) rfl)).2
  have hcl := (hC.2.2.1.1 8 (RX8, TX8, 8) rfl).2.1
  exact xq_athrow hx hb hdg (xx_out hout hlk hR g1 g3 (by rw [g2]; exact hcl))
variable {y : MethodName} {bytes : ByteArray} {maxL index n F L : Nat} {As : List Value} {ret : Option FieldType} {C : String} {T : u_T} {N ci : Nat} {fs : List Value}
theorem xx_cV {v : α} (hx : p.tables.exec = Jvm.exec) (hb : c.code = cc) (hml : c.maxLocals = nL) (hC : Cx D z E s m args own) (hR : Rx D z w0 w s H locs) (hls : ls.size = nL) (hRc : w0.2.2.1 ≤ R.cells ∧ w0.2.2.2.1 ≤ R.slots) (he : w.1 a = .inr (ci, fs)) (hc : cls_[ci]? = some (C, T, N))
    (hM : xq_Met l y (ws_ y bytes maxL ret) (rmA F L w) (Pa D z E (.ref a :: As) w) (Qt D z rv (.inl v) w w1) (XCt D z (.inl v : α ⊕ Nat) w w1) (uc w w1) (us w w1) (zA z)) (cw : CallW R s args own C index y bytes maxL ret (ws_ y bytes maxL ret) (rmA F L w) (rmA F L w).cells (rmA F L w).slots n) (hn : As.length = n) (hst : st0 = As.reverse ++ .ref a :: rest) (hroom : (rest.map fun v => v.category).sum ≤ 8) (hdg : decode cc pc = .ok (.invokevirtual index, 3))
    (kk : ∀ (H1 : Heap) (locs1 : List Loc), Rx D z w0 w1 s H1 locs1 → W p l e R s m args below meth c H1 locs1 (uc w0 w1) (us w0 w1) Q (F0 m (pc + 3) ls ((rv v).toList ++ rest))) : W p l e R s m args below meth c H locs (uc w0 w) (us w0 w) Q (F0 m pc ls st0) :=
  xx_ran hR (xq_runV (Ts := lw_all) ⟨hx, hb, hml, hC.2.1, hC.1⟩ hM cw ⟨Pa_blind hC.2.2.2.2.1, w_recv hC hR.1 he hc, Pa_at hC hR.1⟩ rfl hn hls hst (lv_room hroom) hdg (x_room hRc hR F L)) kk
theorem xx_oV {q : Nat} (hout : ∀ x ∈ c.exceptionTable.toList, False) (hlk : meth.locks = false) (hx : p.tables.exec = Jvm.exec) (hb : c.code = cc) (hml : c.maxLocals = nL) (hC : Cx D z E s m args own) (hR : Rx D z w0 w s H locs) (hls : ls.size = nL) (hRc : w0.2.2.1 ≤ R.cells ∧ w0.2.2.2.1 ≤ R.slots) (he : w.1 a = .inr (ci, fs)) (hc : cls_[ci]? = some (C, T, N))
    (hM : xq_Met l y (ws_ y bytes maxL ret) (rmA F L w) (Pa D z E (.ref a :: As) w) (Qt D z rv (.inr q) w w1) (XCt D z (.inr q : α ⊕ Nat) w w1) (uc w w1) (us w w1) (zA z)) (cw : CallW R s args own C index y bytes maxL ret (ws_ y bytes maxL ret) (rmA F L w) (rmA F L w).cells (rmA F L w).slots n) (hn : As.length = n) (hst : st0 = As.reverse ++ .ref a :: rest) (hroom : (rest.map fun v => v.category).sum ≤ 8) (hdg : decode cc pc = .ok (.invokevirtual index, 3)) :
    W p l e R s m args below meth c H locs (uc w0 w) (us w0 w) (xq_MQ below (Qt D z rv2 (.inr q : β ⊕ Nat) w0 w1) (XCt D z (.inr q : β ⊕ Nat) w0 w1) args s (uc w0 w1) (us w0 w1) (zA z)) (F0 m pc ls st0) :=
  xx_thr hR (xq_runV (Ts := lw_all) ⟨hx, hb, hml, hC.2.1, hC.1⟩ hM cw ⟨Pa_blind hC.2.2.2.2.1, w_recv hC hR.1 he hc, Pa_at hC hR.1⟩ rfl hn hls hst (lv_room hroom) hdg (x_room hRc hR F L)) (fun H1 locs1 ce hR1 g1 g2 g3 => xx_out hout hlk hR1 g1 g2 g3)
theorem xx_ret {v : β} {g : JFrame} (k : W p l e R s m args below meth c H locs cells slots (MQ below (Qa D z (rv2 v) w0 w1) args s (uc w0 w1) (us w0 w1) (zA z)) g) : W p l e R s m args below meth c H locs cells slots (xq_MQ below (Qt D z rv2 (.inl v : β ⊕ Nat) w0 w1) (XCt D z (.inl v : β ⊕ Nat) w0 w1) args s (uc w0 w1) (us w0 w1) (zA z)) g := by
  refine xq_ret ?_
  intro T hT X
  obtain ⟨t, a1, o, b1, b2, b3, b4⟩ := k T hT X
  exact ⟨t, a1, o, b1, b2, ⟨v, rfl, b3⟩, b4⟩
end RowsE
