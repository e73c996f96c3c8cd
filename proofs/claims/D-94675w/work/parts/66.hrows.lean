set_option maxRecDepth 100000
/-! a method with a handler: a Fault thrown by a call is caught -/
def bdc {α γ : Type} (o : Option ((α ⊕ Nat) × AH)) (f : α → AH → Option γ) (g : Nat → AH → Option γ) : Option γ := o.bind fun q => match q.1 with
  | .inl v => f v q.2
  | .inr t => g t q.2
theorem obc {α γ : Type} {o : Option ((α ⊕ Nat) × AH)} {f : α → AH → Option γ} {g : Nat → AH → Option γ} {b : γ} (h : bdc o f g = some b) : (∃ v w1, o = some (.inl v, w1) ∧ f v w1 = some b) ∨ (∃ q w1, o = some (.inr q, w1) ∧ g q w1 = some b) := by
  unfold bdc at h
  obtain ⟨⟨x, w1⟩, h1, h2⟩ := ob h
  cases x with
  | inl v => exact Or.inl ⟨v, w1, h1, h2⟩
  | inr q => exact Or.inr ⟨q, w1, h1, h2⟩
section RowsH
variable {p : Program} {l : Launch} {e : Env} {R : Room} {s : State} {m : MethodId} {args : Array Value} {below : List Frame} {meth : Method} {c : Code} {H : Heap} {locs : List Loc} {cells slots : Nat} {Q : State → Prop}
variable {cc : ByteArray} {pc : Nat} {ls : Array Slot} {rest st0 : List Value} {D : vG} {z : Nat} {E : State → Prop} {w0 w w1 : AH} {a nL : Nat} {own : String} {α β : Type} {rv : α → Option Value} {rv2 : β → Option Value}
variable {y : MethodName} {bytes : ByteArray} {maxL index n F L : Nat} {As : List Value} {ret : Option FieldType} {C : String} {T : u_T} {N ci : Nat} {fs : List Value}
theorem xx_hV {q : Nat} {x : ExceptionTableEntry} (htab : c.exceptionTable.toList = [x]) (hcov : covers x pc = true) (h0 : x.catchType ≠ 0) (hlink : Cond.classLink own x.catchType "TuneDoor$Fault" ∈ lw_all) (hca : Cond.castable "TuneDoor$Fault" "TuneDoor$Fault" ∈ lw_tbl) (hEW : EW s)
    (hx : p.tables.exec = Jvm.exec) (hb : c.code = cc) (hml : c.maxLocals = nL) (hC : Cx D z E s m args own) (hR : Rx D z w0 w s H locs) (hls : ls.size = nL) (hRc : w0.2.2.1 ≤ R.cells ∧ w0.2.2.2.1 ≤ R.slots) (he : w.1 a = .inr (ci, fs)) (hc : cls_[ci]? = some (C, T, N))
    (hM : xq_Met l y (ws_ y bytes maxL ret) (rmA F L w) (Pa D z E (.ref a :: As) w) (Qt D z rv (.inr q) w w1) (XCt D z (.inr q : α ⊕ Nat) w w1) (uc w w1) (us w w1) (zA z)) (cw : CallW R s args own C index y bytes maxL ret (ws_ y bytes maxL ret) (rmA F L w) (rmA F L w).cells (rmA F L w).slots n) (hn : As.length = n) (hst : st0 = As.reverse ++ .ref a :: rest) (hroom : (rest.map fun v => v.category).sum ≤ 8) (hdg : decode cc pc = .ok (.invokevirtual index, 3))
    (kk : ∀ (H1 : Heap) (locs1 : List Loc), Rx D z w0 w1 s H1 locs1 → W p l e R s m args below meth c H1 locs1 (uc w0 w1) (us w0 w1) Q (F0 m x.handlerPc ls [.ref q])) : W p l e R s m args below meth c H locs (uc w0 w) (us w0 w) Q (F0 m pc ls st0) :=
  xx_thr hR (xq_runV (Ts := lw_all) ⟨hx, hb, hml, hC.2.1, hC.1⟩ hM cw ⟨Pa_blind hC.2.2.2.2.1, w_recv hC hR.1 he hc, Pa_at hC hR.1⟩ rfl hn hls hst (lv_room hroom) hdg (x_room hRc hR F L)) (fun H1 locs1 ce hR1 g1 g2 g3 =>
    xq_catch hC.2.1 [] x [] htab (fun z h => nomatch h) hcov h0 (hC.1 _ hlink) (va_Nw.use rfl (hEW.2.2.1 _ _ hca)) g1 g2 g3 (kk H1 locs1 hR1))
end RowsH
theorem Bx.ofW {p : Program} {l : Launch} {y : MethodName} {cc : ByteArray} {nL : Nat} {ret : Option FieldType} {hh : List (Nat × Nat × Nat × Nat)} {rm : Room} {e : Env} {s : State} {m : MethodId} {below : List Frame} {meth : Method} {c : Code} {s₁ : State} {D : vG} {z : Nat} {E : State → Prop} {av : List Value} {w : AH} (hE : Ek z E) (B : BodyLoose p l y (headSpec (wsW_ y cc nL ret hh) rm) cc nL ret e s m av.toArray below meth c s₁) (hml : c.maxLocals = nL) (hP : Rp D z w s.heap ∧ va_K D.1 cls_ (tys_ D.2.1) s ∧ E s) : Bx p D z E s m av.toArray meth c y.cls cc nL ret ∧ Rw D z w s s.heap [] := by
  have hts := atoms_spec (ws := wsW_ y cc nL ret hh) B.pre
  refine ⟨⟨B.exec, B.bytes, hml, B.returns, B.notSynchronized, fun w h => hts w (List.mem_cons_of_mem _ h), findClass_of_methodNamed B.named, hP.2.1, hP.2.2, hE, ?_⟩, hP.1, va_S.rf⟩
  rw [hP.1.1]; exact hP.1.2.1.1
theorem Bx.tab {p : Program} {l : Launch} {y : MethodName} {cc : ByteArray} {nL : Nat} {ret : Option FieldType} {hh : List (Nat × Nat × Nat × Nat)} {rm : Room} {e : Env} {s : State} {m : MethodId} {args : Array Value} {below : List Frame} {meth : Method} {c : Code} {s₁ : State} (B : BodyLoose p l y (headSpec (wsW_ y cc nL ret hh) rm) cc nL ret e s m args below meth c s₁) : c.exceptionTable.toList = hh.map fun q => ⟨q.1, q.2.1, q.2.2.1, q.2.2.2⟩ := by
  have h := atoms_spec (ws := wsW_ y cc nL ret hh) B.pre _ List.mem_cons_self
  obtain ⟨m9, meth9, c9, hn9, h1, h2, -, -, h6, -⟩ := Cond.codeWith_spec h
  cases Option.some.inj (hn9.symm.trans B.named)
  cases Option.some.inj (h1.symm.trans B.method)
  cases Option.some.inj (h2.symm.trans (Stand.of_body B).code)
  rw [← h6]
  simp [List.map_map, Function.comp_def]
