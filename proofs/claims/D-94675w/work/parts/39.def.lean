set_option maxRecDepth 100000
/-! a call of an interface's default method; where a static field lies (told at the start, kept) -/
def sL (C n d : String) (A : Nat → Prop) (U : State) (H : Heap) : Prop := ∃ (c : ClassId) (k : Class) (i : Nat) (f : Field) (a : Nat) (cell : Cell), U.vm.findClass C = some c ∧ U.fieldFound? C n d = some (c, k, i, f) ∧ f.isStatic = true ∧ k.statics = some a ∧ H[a]? = some cell ∧ cell.vm.isStatics = true ∧ cell.cls = c ∧ f.slot < cell.slots.size ∧ k.staticTypes[f.slot]? = some f.type ∧ ¬ A a
theorem sL.moved {C n d : String} {A : Nat → Prop} {u U : State} {H : Heap} (hvm : u.vm.Alike U.vm) (h : sL C n d A u H) : sL C n d A U H := by
  obtain ⟨c, k, i, f, a, cell, h1, h2, h3, h4, h5, h6, h7, h8, h9, h10⟩ := h
  obtain ⟨k', hi', he⟩ := State.fieldFound?_setVm hvm h2
  exact ⟨c, k', i, f, a, cell, by rw [hvm.findClass]; exact h1, hi', h3, by rw [he]; exact h4, h5, h6, h7, h8, by rw [he]; exact h9, h10⟩
theorem sL.kept {C n d : String} {A : Nat → Prop} {U : State} {H H1 : Heap} (h : sL C n d A U H) (hq : ∀ a : Nat, a < H.size → ¬ A a → H1[a]? = H[a]?) : sL C n d A U H1 := by
  obtain ⟨c, k, i, f, a, cell, h1, h2, h3, h4, h5, h6, h7, h8, h9, h10⟩ := h
  exact ⟨c, k, i, f, a, cell, h1, h2, h3, h4, by rw [hq a (Array.getElem?_eq_some_iff.mp h5).1 h10]; exact h5, h6, h7, h8, h9, h10⟩
theorem sL.word {C n d : String} {A : Nat → Prop} {s : State} {args : Array Value} (h : sL C n d A s s.heap) : (Cond.laysStatic C n d).before args s = true := by
  obtain ⟨c, k, i, f, a, cell, h1, h2, h3, h4, h5, h6, h7, h8, h9, -⟩ := h
  show (Cond.laysStatic C n d).holds args s none s [] = true
  exact Cond.laysStatic_of h1 h2 h3 h4 h5 h6 h7 h8 h9
theorem sL.of {args : Array Value} {s : State} {C n d : String} {A : Nat → Prop} (hl : (Cond.laysStatic C n d).before args s = true) (hA : ∀ a : Nat, a < s.heap.size → ¬ A a) : sL C n d A s s.heap := by
  obtain ⟨c, k, i, f, a, cell, h1, h2, h3, h4, h5, h6, h7, h8, h9⟩ := Cond.laysStatic_spec hl
  exact ⟨c, k, i, f, a, cell, h1, h2, h3, h4, h5, h6, h7, h8, h9, hA a (Array.getElem?_eq_some_iff.mp h5).1⟩
def yNot_ : MethodName := ⟨"TuneDoor$Test", "not", "()LTuneDoor$Test;"⟩
def EX (z : Nat) (U : State) : Prop := (∀ C ∈ ["TuneDoor$Against", "TuneDoor$Always", "TuneDoor$Several"], va_Nw (.landsInDefault C yNot_ yNot_) U) ∧ sL Bundle.tN "UNASSIGNED_STACK" Bundle.steD (zA z) U U.heap ∧ sL Bundle.tN "SUPPRESSED_SENTINEL" Bundle.listD (zA z) U U.heap ∧ va_Nw (.interfaceMethod "TuneDoor$Test" "TuneDoor$Test" "not" "()LTuneDoor$Test;") U ∧ va_Nw (.publicMethod yNot_) U
section RunD
variable {l : Launch} {R : Room} {p : Program} {e : Env} {below : List Frame} {s : State} {sargs : Array Value} {y : MethodName} {len W9 : Nat}
variable {p : Program} {l : Launch} {e : Env} {R : Room} {s : State} {m : MethodId} {args : Array Value} {below : List Frame} {meth : Method} {c : Code} {H : Heap} {locs : List Loc} {cells slots : Nat}
variable {y : MethodName} {bytes cc : ByteArray} {maxL nL mc ms n index : Nat} {ret : Option FieldType} {ws : List Cond} {rm : Room} {Pc : Array Value → State → Prop} {Qc : Array Value → State → Outcome → State → Prop} {free : Addr → Prop} {Ts : List Cond} {own C : String} {b : Addr} {As rest : List Value} {g : JFrame}
theorem x_runD {x y : MethodName} {bytes cc : ByteArray} {maxL nL mc ms n index count : Nat} {ret : Option FieldType} {ws : List Cond} {rm : Room} {Pc : Array Value → State → Prop} {Qc : Array Value → State → Outcome → State → Prop} {free : Addr → Prop} {Ts : List Cond} {own C : String} {cC : ClassId} {b : Addr} {As rest : List Value} {g : JFrame}
    (hat : ClassAt s C cC) (S : CallFix p m c cc nL s args Ts own) (hM : Met l y ws rm Pc Qc mc ms free) (hfr : rm.frames + 1 ≤ R.frames) (hlo : 8 + (maxL + 11) + rm.locals ≤ R.locals) (hws : ∀ w ∈ ws, ∀ (a' : Array Value) (U : State), s.WarmedH U.vm → w.before a' U = true) (hcw : Cond.code y bytes maxL ret ∈ ws) (hini : (Cond.initialized y.cls).before args s = true)
    (c1 : (Cond.methodLink own index x).before args s = true) (c2 : (Cond.declares x).before args s = true) (c3 : (Cond.interfaceMethod x.cls x.cls x.name x.desc).before args s = true) (c4 : (Cond.landsInDefault C x y).before args s = true) (c5 : (Cond.instanceMethod y).before args s = true) (c6 : (Cond.publicMethod y).before args s = true) (c7 : (Cond.castable C x.cls).before args s = true) (c8 : x.cls ≠ "java/lang/invoke/MethodHandle" ∧ x.cls ≠ "java/lang/invoke/VarHandle") (c9 : ∀ sig, parseMethodDescriptor x.desc = some sig → n = sig.parameters.length) (hp : PreV s H C b Pc As)
    (hg : g.method = m) (hn : As.length = n) (hsize : g.locals.size = nL) (hstack : g.stack = As.reverse ++ .ref b :: rest) (hW : 2 * g.monitorRoom + (rest.map fun v => v.category).sum ≤ 8) (hdg : decode cc g.pc = .ok (.invokeinterface index count, 5)) (hf : cells + rm.cells ≤ R.cells ∧ slots + rm.slots ≤ R.slots) :
    va_Run5 p l e R s m args below meth c H locs cells slots mc ms g rest (Qc (Value.ref b :: As).toArray) (free) := by
  have hK : Back l R p e below s args y 5 8 (PreOf R rm.cells rm.slots Pc) (PostOf Qc mc ms free) := bk_of (bytes := bytes) (maxL := maxL) (ret := ret) hM hp.1 hfr hlo hws hcw (fun a' U hW => word_at hW (Or.inl (by first | rfl | simp [Cond.onTables, Cond.keeps, Cond.steady])) hini)
  obtain ⟨hx, hb, hml, ho, -⟩ := S
  obtain ⟨-, ⟨cellB, hcB, hoB, hclB⟩, hPc⟩ := hp
  obtain ⟨hfc, kB, hkB, -⟩ := hat
  cases hfc.symm.trans hclB
  intro T hT X
  obtain ⟨v, vm₁, ⟨U', l2, c2', s2⟩, hW₁, X', ⟨g', mk, t, L, e1, e2, hq, h1, hL, h2, h3⟩, st⟩ := X.interfaceBackD hx (C := C) ho c1 c2 c3 c4 c5 c6 c7 c8 hK hclB hkB ⟨cellB, by rw [hT]; exact hcB, rfl, hoB⟩ hg (hsize.trans hml.symm) (Steps.refl _) (argsL := As) (rest := rest) (fun sig h => hn.trans (c9 sig h)) hstack hW (by rw [hb]; exact hdg)
    (fun vm₁ hW₁ => ⟨hf.1, hf.2, hPc (T.setVm vm₁) hT hW₁⟩)
  dsimp only [Pt.U, Pt.locs, Pt.cells, Pt.slots] at X' e1 e2 h1 h2 h3 st
  subst h1; subst h2; subst h3
  exact ⟨v, (T.setVm vm₁).calling g' mk (Value.ref b :: As).toArray, t, U', L, hT, X', hL, e1, e2, hq, fun target h => st.trans h⟩
end RunD
theorem ld_use {C : String} {x y : MethodName} {U : State} {A : Array Value} (h : va_Nw (.landsInDefault C x y) U) : (Cond.landsInDefault C x y).before A U = true :=
  (Cond.landsInDefault_setVm (args := #[]) (args' := A) (s := U) (vm' := U.vm) (Vm.Alike.refl _) rfl).trans h
theorem yNot_len : ∀ sig, parseMethodDescriptor yNot_.desc = some sig → 0 = sig.parameters.length := by
  intro sig h
  have h2 : (parseMethodDescriptor yNot_.desc).map (fun d => d.parameters.length) = some 0 := by decide +kernel
  rw [h] at h2
  exact (Option.some.inj h2).symm
section RowsD
variable {p : Program} {l : Launch} {e : Env} {R : Room} {s : State} {m : MethodId} {args : Array Value} {below : List Frame} {meth : Method} {c : Code} {H : Heap} {locs : List Loc} {cells slots : Nat} {Q : State → Prop}
variable {cc : ByteArray} {pc : Nat} {ls : Array Slot} {rest st0 : List Value} {D : vG} {z : Nat} {E : State → Prop} {w0 w w1 : AH} {a nL : Nat} {own : String}
variable {x y : MethodName} {bytes : ByteArray} {maxL index n F L : Nat} {As : List Value} {ret : Option FieldType} {r : Option Value} {C : String} {T : u_T} {N ci : Nat} {fs : List Value}
theorem x_cD {count : Nat} (hx : p.tables.exec = Jvm.exec) (hb : c.code = cc) (hml : c.maxLocals = nL) (hC : Cx D z E s m args own) (hR : Rx D z w0 w s H locs) (hls : ls.size = nL) (hRc : w0.2.2.1 ≤ R.cells ∧ w0.2.2.2.1 ≤ R.slots) (he : w.1 a = .inr (ci, fs)) (hc : cls_[ci]? = some (C, T, N))
    (hM : Met l yX27_not (ws_ yX27_not cX27_not 1 (some (.object "TuneDoor$Test"))) (rmA F L w) (Pa D z E [.ref a] w) (Qa D z r w w1) (uc w w1) (us w w1) (zA z)) (hX : EX z s) (hEW : EW s) (hcD : C ∈ ["TuneDoor$Against", "TuneDoor$Always", "TuneDoor$Several"]) (c1 : Cond.methodLink own index yNot_ ∈ lw_all) (c5 : Cond.castable C "TuneDoor$Test" ∈ lw_tbl) (hfr : F + 1 ≤ R.frames) (hlo : 8 + (1 + 11) + L ≤ R.locals) (hst : st0 = .ref a :: rest) (hroom : (rest.map fun v => v.category).sum ≤ 8) (hdg : decode cc pc = .ok (.invokeinterface index count, 5))
    (kk : ∀ (H1 : Heap) (locs1 : List Loc), Rx D z w0 w1 s H1 locs1 → W p l e R s m args below meth c H1 locs1 (uc w0 w1) (us w0 w1) Q (F0 m (pc + 5) ls (r.toList ++ rest))) : W p l e R s m args below meth c H locs (uc w0 w) (us w0 w) Q (F0 m pc ls st0) :=
  x_ran5 hR (x_runD (Ts := lw_all) (x := yNot_) (n := 0) (bytes := cX27_not) (maxL := 1) (ret := some (.object "TuneDoor$Test")) (hC.2.2.1.1 ci _ hc).2 ⟨hx, hb, hml, hC.2.1, hC.1⟩ hM hfr hlo (pay_in hC.1 (lw_meth q1132)) List.mem_cons_self (hC.1 _ q2667) (hC.1 _ c1) (va_Nw.use rfl (hEW.2.2.2.2.2 _ q1127)) (va_Nw.use rfl hX.2.2.2.1) (ld_use (hX.1 C hcD)) (hC.1 _ q1130) (va_Nw.use rfl hX.2.2.2.2) (va_Nw.use rfl (hEW.2.2.1 _ _ c5)) (by decide) yNot_len ⟨Pa_blind hC.2.2.2.2.1, w_recv hC hR.1 he hc, Pa_at hC hR.1⟩ rfl rfl hls hst (lv_room hroom) hdg (x_room hRc hR F L)) kk
end RowsD
