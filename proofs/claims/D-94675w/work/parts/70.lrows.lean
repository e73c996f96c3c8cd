set_option maxRecDepth 100000
/-! the law's own rows: a cell of the script, a call of the component, a call of the model -/
noncomputable def hld {α : Type} (P : Prop) (o : Option α) : Option α := @ite (Option α) P (Classical.propDecidable P) o none
theorem hld_eq {α : Type} {P : Prop} {o : Option α} {x : α} (h : hld P o = some x) : P ∧ o = some x := by
  unfold hld at h
  split at h
  · exact ⟨by assumption, h⟩
  · cases h
theorem hld_pos {α : Type} {P : Prop} {o : Option α} (hp : P) : hld P o = o := by
  unfold hld
  rw [if_pos hp]
/-- what the model answers, and its new state, if it is what the component answered -/
def agr {α : Type} [DecidableEq α] (r : α) (w : AH) (mm : Nat) (o : Option (α × MS)) : Option (AH × MS) := o.bind fun q => if r = q.1 then some (plug mm w q.2, q.2) else none
theorem agr_eq {α : Type} [DecidableEq α] {r : α} {w w1 : AH} {mm : Nat} {o : Option (α × MS)} {σ1 : MS} (h : agr r w mm o = some (w1, σ1)) : o = some (r, σ1) ∧ w1 = plug mm w σ1 := by
  unfold agr at h
  obtain ⟨⟨r', σ'⟩, h1, h2⟩ := ob h
  split at h2
  · rename_i e
    cases h2
    exact ⟨by rw [h1, e], rfl⟩
  · cases h2
theorem plug_plug (mm : Nat) (w : AH) (σ σ1 : MS) : plug mm (plug mm w σ) σ1 = plug mm w σ1 := by
  unfold plug
  congr 1
  funext a
  by_cases h : mm ≤ a ∧ a < mm + 54
  · simp only [if_pos h]
  · simp only [if_neg h]
section RowsL
variable {p : Program} {l : Launch} {e : Env} {R : Room} {s : State} {m : MethodId} {args : Array Value} {below : List Frame} {meth : Method} {c : Code} {H : Heap} {locs : List Loc} {cells slots : Nat} {Q : State → Prop}
variable {cc : ByteArray} {pc : Nat} {ls : Array Slot} {rest st0 : List Value} {D : vG} {z : Nat} {E : State → Prop} {w0 w w1 : AH} {a nL : Nat} {own : String} {b L mm xx : Nat} {xs : Nat → Int32} {i : Int32} {σ σ1 : MS}
theorem l_arg {k : Int} {v : Int32} (hX : va_X b L xs s s.heap) (hbz : b < z) (hz : z ≤ s.heap.size) (hx : p.tables.exec = Jvm.exec) (hb : c.code = cc) (hR : Rx D z w0 w s H locs) (hl : lv_has ls 4 [(0, .ref b), (1, .ref xx), (2, .ref mm), (3, .int i)]) (hin : vp_in (i + v) L) (hk : Int32.ofInt k = v)
    (d0 : decode cc pc = .ok (.aload_n 0, 1)) (d1 : decode cc (pc + 1) = .ok (.iload_n 3, 1)) (d2 : decode cc (pc + 2) = .ok (.iconst k, 1)) (d3 : decode cc (pc + 3) = .ok (.iadd, 1)) (d4 : decode cc (pc + 4) = .ok (.iaload, 1))
    (kk : W p l e R s m args below meth c H locs cells slots Q (F0 m (pc + 5) ls (.int (xs (i + v).toNatClampNeg) :: rest))) : W p l e R s m args below meth c H locs cells slots Q (F0 m pc ls rest) := by
  refine lv_aload_n hx hb d0 rfl (lv_at hl 0 rfl) ?_
  refine lv_iload_n hx hb d1 rfl (lv_at hl 3 rfl) ?_
  refine lv_iconst (v := v) hx hb d2 hk ?_
  refine lv_iadd hx hb d3 ?_
  exact va_sld hx hb hX (Nat.lt_of_lt_of_le hbz hz) (Nat.not_le_of_lt hbz) hR.1.2 hin d4 kk
variable {y : MethodName} {bytes : ByteArray} {maxL index n mc ms : Nat} {rm : Room} {As : List Value} {ret : Option FieldType} {r : Option Value}
theorem l_cM (hw : w = plug mm w σ) (hx : p.tables.exec = Jvm.exec) (hb : c.code = cc) (hml : c.maxLocals = nL) (hC : Cx D z E s m args own) (hR : Rx D z w0 w s H locs) (hls : ls.size = nL) (hRc : w0.2.2.1 ≤ R.cells ∧ w0.2.2.2.1 ≤ R.slots)
    (hM : Met l y (ws_ y bytes maxL ret) rm (Pa D z E (.ref mm :: As) (plug mm w σ)) (Qx D z r (plug mm w σ1)) 0 0 (zA z)) (cw : CallW R s args own RX6 index y bytes maxL ret (ws_ y bytes maxL ret) rm 0 0 n) (hn : As.length = n) (hst : st0 = As.reverse ++ .ref mm :: rest) (hroom : (rest.map fun v => v.category).sum ≤ 8) (hdg : decode cc pc = .ok (.invokevirtual index, 3))
    (kk : ∀ (H1 : Heap) (locs1 : List Loc), Rx D z w0 (plug mm w σ1) s H1 locs1 → W p l e R s m args below meth c H1 locs1 (uc w0 (plug mm w σ1)) (us w0 (plug mm w σ1)) Q (F0 m (pc + 3) ls (r.toList ++ rest))) : W p l e R s m args below meth c H locs (uc w0 w) (us w0 w) Q (F0 m pc ls st0) := by
  have hR1 : Rw D z (plug mm w σ) s H locs := by rw [← hw]; exact hR.1
  refine w_cV (C := RX6) (T := TX6) (N := 74) hx hb hml hC hR1 hls (plug_0 mm w σ) rfl hM cw hn hst hroom hdg ?_ (fun H1 locs1 h1 => kk H1 locs1 ⟨h1, hR.2⟩)
  simp only [uc, us]
  omega
end RowsL
section BackW
variable {l : Launch} {R : Room} {p : Program} {e : Env} {below : List Frame} {s : State} {sargs : Array Value} {y : MethodName} {len W9 : Nat}
theorem bk_ofW {ws : List Cond} {rm : Room} {Pc : Array Value → State → Prop} {Qc : Array Value → State → Outcome → State → Prop} {mc ms : Nat} {free : Addr → Prop} {bytes : ByteArray} {maxL : Nat} {ret : Option FieldType} {hh : List (Nat × Nat × Nat × Nat)}
    (hM : Met l y ws rm Pc Qc mc ms free) (hblind : FrameBlind Pc) (hframes : rm.frames + 1 ≤ R.frames) (hlocals : W9 + (maxL + 11) + rm.locals ≤ R.locals)
    (hws : ∀ w ∈ ws, ∀ a' U, s.WarmedH U.vm → w.before a' U = true) (hcode : Cond.codeWith y bytes maxL ret hh ∈ ws) (hinit : ∀ a' U, s.WarmedH U.vm → (Cond.initialized y.cls).before a' U = true) :
    Back l R p e below s sargs y len W9 (PreOf R rm.cells rm.slots Pc) (PostOf Qc mc ms free) := by
  refine va_ofFreeW (hh := hh) (S := headSpec ws rm) (P := Pc) (K := fun _ _ _ _ _ => True) (Q := fun a st o t => Qc a st o t ∧ ∃ L, FrameEnd st o t L mc ms ∧ ∀ q ∈ L, free q.base) (bytes := bytes) (maxL := maxL) (ret := ret)
    (E := fun a st o t L k n => k = mc ∧ n = ms ∧ ∀ q ∈ L, free q.base) hM hframes hlocals ?_ ?_ (fun _ _ _ _ _ _ _ _ _ => trivial) ?_ ?_
  · intro m meth c A a X hp
    exact ⟨atoms_intro fun w hw => hws w hw _ _ X.warmed, hws _ hcode _ _ X.warmed, hinit _ _ X.warmed, hp.1, hp.2.1⟩
  · intro m meth c A a g mk X hp
    exact hblind _ _ _ _ hp.2.2
  · intro a st o t ⟨hq, L, hF, hL⟩
    exact ⟨L, mc, ms, hF, rfl, rfl, hL⟩
  · intro m meth c A a g mk v t L k n X hp hq hF ⟨e1, e2, hL⟩
    subst e1; subst e2
    exact ⟨g, mk, t, L, rfl, rfl, hq.1, rfl, hL, rfl, rfl⟩
end BackW
section RunW
variable {p : Program} {l : Launch} {e : Env} {R : Room} {s : State} {m : MethodId} {args : Array Value} {below : List Frame} {meth : Method} {c : Code} {H : Heap} {locs : List Loc} {cells slots : Nat} {Q : State → Prop}
variable {cc : ByteArray} {pc : Nat} {ls : Array Slot} {rest st0 : List Value} {D : vG} {z : Nat} {E : State → Prop} {w0 w w1 : AH} {a nL : Nat} {own : String}
variable {y : MethodName} {bytes : ByteArray} {maxL index n F L : Nat} {As : List Value} {ret : Option FieldType} {r : Option Value} {C : String} {T : u_T} {N ci : Nat} {fs : List Value} {hh : List (Nat × Nat × Nat × Nat)}
theorem l_cVW (hx : p.tables.exec = Jvm.exec) (hb : c.code = cc) (hml : c.maxLocals = nL) (hC : Cx D z E s m args own) (hR : Rx D z w0 w s H locs) (hls : ls.size = nL) (hRc : w0.2.2.1 ≤ R.cells ∧ w0.2.2.2.1 ≤ R.slots) (he : w.1 a = .inr (ci, fs)) (hc : cls_[ci]? = some (C, T, N))
    (hM : Met l y (wsW_ y bytes maxL ret hh) (rmA F L w) (Pa D z E (.ref a :: As) w) (Qa D z r w w1) (uc w w1) (us w w1) (zA z))
    (q1 : Cond.methodLink own index y ∈ lw_all) (q2 : Cond.instanceMethod y ∈ lw_all) (q3 : Cond.selects C y y ∈ lw_all) (q4 : Cond.initialized y.cls ∈ lw_all) (q5 : Cond.codeWith y bytes maxL ret hh ∈ lw_all)
    (hd : y.cls ≠ "java/lang/invoke/MethodHandle" ∧ y.cls ≠ "java/lang/invoke/VarHandle" ∧ (parseMethodDescriptor y.desc).map (fun d => d.parameters.length) = some n) (hroomR : F + 1 ≤ R.frames ∧ 8 + (maxL + 11) + L ≤ R.locals)
    (hn : As.length = n) (hst : st0 = As.reverse ++ .ref a :: rest) (hroom : (rest.map fun v => v.category).sum ≤ 8) (hdg : decode cc pc = .ok (.invokevirtual index, 3))
    (kk : ∀ (H1 : Heap) (locs1 : List Loc), Rx D z w0 w1 s H1 locs1 → W p l e R s m args below meth c H1 locs1 (uc w0 w1) (us w0 w1) Q (F0 m (pc + 3) ls (r.toList ++ rest))) : W p l e R s m args below meth c H locs (uc w0 w) (us w0 w) Q (F0 m pc ls st0) := by
  refine x_ran (pc := pc) (ls := ls) (st0 := st0) (rest := rest) (r := r) (a0 := (Value.ref a :: As).toArray) hR ?_ kk
  have hf := x_room hRc hR F L
  have hini := hC.1 _ q4
  have hK : Back l R p e below s args y 3 8 (PreOf R (rmA F L w).cells (rmA F L w).slots (Pa D z E (.ref a :: As) w)) (PostOf (Qa D z r w w1) (uc w w1) (us w w1) (zA z)) :=
    bk_ofW (hh := hh) (bytes := bytes) (maxL := maxL) (ret := ret) hM (Pa_blind hC.2.2.2.2.1) hroomR.1 hroomR.2 (pay_in hC.1 (lw_methW q5)) List.mem_cons_self (fun a' U hW => word_at hW (Or.inl (by first | rfl | simp [Cond.onTables, Cond.keeps, Cond.steady])) hini)
  obtain ⟨cellB, hcB, hoB, hclB⟩ := w_recv hC hR.1 he hc
  intro T0 hT X
  obtain ⟨mk, methM, hnamed, hmethM, hstM, habM⟩ := Cond.instanceMethod_spec (hC.1 _ q2)
  obtain ⟨m8, methM', cM, hn8, hmethM', -, -, -, -, -, -, hsigM⟩ := Cond.codeWith_spec (hC.1 _ q5)
  cases Option.some.inj (hn8.symm.trans hnamed)
  cases hmethM.symm.trans hmethM'
  obtain ⟨c2, r2, m2, e1, e2, e3, e4, kP, hkP, hkPi⟩ := Cond.selects_spec (hC.1 _ q3)
  cases hclB.symm.trans e1
  cases (State.methodFound?_of_named hnamed ⟨hd.1, hd.2.1⟩).symm.trans e2
  cases hnamed.symm.trans e3
  have hselP : selectMethod e.platform s.vm cellB.cls mk = .method mk := by rw [Launch.admits_selectMethod X.admits]; exact e4
  have hlen : As.length = methM.sig.parameters.length := by
    have h2 := hd.2.2
    rw [hsigM] at h2
    exact hn.trans (Option.some.inj h2).symm
  obtain ⟨vm₁, X₁, hstep₁⟩ := X.invokevirtual hx hC.2.1 (hC.1 _ q1) hnamed hmethM hstM hkP hkPi ⟨hd.1, hd.2.1⟩ (a := a) (cell := cellB) (by rw [hT]; exact hcB)
    (fun z h => by rw [h] at hoB; cases hoB) hselP hmethM habM hkP hkPi (g := F0 m pc ls st0) rfl (argsL := As) (rest := rest) hlen hst (by rw [hb]; exact hdg)
  obtain ⟨v, ⟨U', l2, c2, s2⟩, X', ⟨g', mk', t, Lc, f1, f2, hq, h1, hL, h2, h3⟩, hsteps⟩ := hK m meth c ⟨T0.setVm vm₁, locs, uc w0 w, us w0 w⟩ (F0 m pc ls rest) (.invokevirtual index) mk (Value.ref a :: As).toArray X₁ rfl (hls.trans hml.symm) (by rw [hb]; exact hdg) (lv_room hroom) (X₁.named hnamed) ⟨hf.1, hf.2, Pa_at hC hR.1 (T0.setVm vm₁) hT X₁.warmed⟩
  dsimp only [Pt.U, Pt.locs, Pt.cells, Pt.slots] at X' f1 f2 h1 h2 h3 hsteps
  subst h1; subst h2; subst h3
  exact ⟨v, (T0.setVm vm₁).calling g' mk' (Value.ref a :: As).toArray, t, U', Lc, hT, X', hL, f1, f2, hq, fun target h => hstep₁ _ fun acts => by rw [doInvoke_state]; exact hsteps.trans h⟩
end RunW
