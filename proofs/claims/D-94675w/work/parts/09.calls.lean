set_option maxRecDepth 100000
/-! CALLS and returns over the abstract heap -/
section RowsC
variable {p : Program} {l : Launch} {e : Env} {R : Room} {s : State} {m : MethodId} {args : Array Value} {below : List Frame} {meth : Method} {c : Code} {H : Heap} {locs : List Loc} {cells slots : Nat} {Q : State → Prop}
variable {cc : ByteArray} {pc : Nat} {ls : Array Slot} {rest st0 : List Value} {D : vG} {z : Nat} {E : State → Prop} {w w1 : AH} {a nL : Nat} {own : String}
theorem w_ran {r : Option Value} {mc ms : Nat} {a0 : Array Value} (hR : Rw D z w s H locs) (hr : va_Run p l e R s m args below meth c H locs cells slots mc ms (F0 m pc ls st0) rest (Qx D z r w1 a0) (zA z))
    (kk : ∀ (H1 : Heap) (locs1 : List Loc), Rw D z w1 s H1 locs1 → W p l e R s m args below meth c H1 locs1 (cells + mc) (slots + ms) Q (F0 m (pc + 3) ls (r.toList ++ rest))) : W p l e R s m args below meth c H locs cells slots Q (F0 m pc ls st0) := by
  intro T hT X
  obtain ⟨v, st₀, t, T', L, h0, X', hL, e1, e2, ⟨⟨hv, hp⟩, hz, hk⟩, st⟩ := hr T hT X
  cases hv
  rw [h0] at hz hk
  obtain ⟨-, hS⟩ := hR
  obtain ⟨t2, a1, b1⟩ := kk T'.heap (locs ++ L) ⟨by rw [e1]; exact hp, Nat.le_trans hS.1 (by rw [e1]; exact hz), fun q h1 h2 => by rw [e1, hk q (Nat.lt_of_lt_of_le h1 hS.1) h2]; exact hS.2.1 q h1 h2, fun q hq => by
      rcases List.mem_append.mp hq with h | h
      · exact hS.2.2 q h
      · exact hL q h⟩ T' rfl X'
  exact ⟨t2, st t2 a1, b1⟩
theorem Pa_blind (hE : Ek z E) {av : List Value} : FrameBlind (Pa D z E av w) := fun a U g mk h => ⟨h.1, h.2.1, va_K.moved (u := U) (U := U.calling g mk a) (Vm.Alike.refl U.vm) h.2.2.1, hE U _ h.2.2.2 (Or.inr rfl) (fun _ _ => rfl)⟩
theorem Pa_at (hC : Cx D z E s m args own) (hR : Rw D z w s H locs) {av : List Value} : ∀ U : State, U.heap = H → s.WarmedH U.vm → Pa D z E av w av.toArray U := fun U hU hW =>
  ⟨rfl, by rw [hU]; exact hR.1, va_K.moved hW.alike hC.2.2.1, hC.2.2.2.2.1 s U hC.2.2.2.1 (Or.inl hW) (fun q hq => by rw [hU]; exact hR.2.2.1 q (Nat.lt_of_lt_of_le hq hC.2.2.2.2.2) (Nat.not_le_of_lt hq))⟩
theorem w_recv (hC : Cx D z E s m args own) (hR : Rw D z w s H locs) {ci : Nat} {q : vw_C} {fs : List Value} (he : w.1 a = .inr (ci, fs)) (hc : cls_[ci]? = some q) : ∃ cell : Cell, H[a]? = some cell ∧ cell.vm.isStatics = false ∧ s.vm.findClass q.1 = some cell.cls :=
  va_recv hC.2.2.1 (hR.1.P he (jk_ne_obj hc)) (ws := [(a, tr D.2.1 (.inr (ci, fs)))]) (q0 := 0) hc rfl
variable {y : MethodName} {bytes : ByteArray} {maxL index n mc ms : Nat} {rm : Room} {As : List Value} {ret : Option FieldType}
/-- a virtual call on an object of its own class -/
theorem w_cV {C : String} {T : u_T} {N ci : Nat} {fs : List Value} {r : Option Value} (hx : p.tables.exec = Jvm.exec) (hb : c.code = cc) (hml : c.maxLocals = nL) (hC : Cx D z E s m args own) (hR : Rw D z w s H locs) (hls : ls.size = nL) (he : w.1 a = .inr (ci, fs)) (hc : cls_[ci]? = some (C, T, N))
    (hM : Met l y (ws_ y bytes maxL ret) rm (Pa D z E (.ref a :: As) w) (Qx D z r w1) mc ms (zA z)) (cw : CallW R s args own C index y bytes maxL ret (ws_ y bytes maxL ret) rm mc ms n) (hn : As.length = n) (hst : st0 = As.reverse ++ .ref a :: rest) (hroom : (rest.map fun v => v.category).sum ≤ 8) (hdg : decode cc pc = .ok (.invokevirtual index, 3)) (hf : cells + mc ≤ R.cells ∧ slots + ms ≤ R.slots)
    (kk : ∀ (H1 : Heap) (locs1 : List Loc), Rw D z w1 s H1 locs1 → W p l e R s m args below meth c H1 locs1 (cells + mc) (slots + ms) Q (F0 m (pc + 3) ls (r.toList ++ rest))) : W p l e R s m args below meth c H locs cells slots Q (F0 m pc ls st0) :=
  w_ran hR (va_runV (Ts := lw_all) ⟨hx, hb, hml, hC.2.1, hC.1⟩ hM cw ⟨Pa_blind hC.2.2.2.2.1, w_recv hC hR he hc, Pa_at hC hR⟩ rfl hn hls hst (lv_room hroom) hdg hf) kk
theorem w_cS {r : Option Value} (hx : p.tables.exec = Jvm.exec) (hb : c.code = cc) (hml : c.maxLocals = nL) (hC : Cx D z E s m args own) (hR : Rw D z w s H locs) (hls : ls.size = nL)
    (hM : Met l y (ws_ y bytes maxL ret) rm (Pa D z E As w) (Qx D z r w1) mc ms (zA z)) (cw : CallB R s args own index y bytes maxL ret (ws_ y bytes maxL ret) rm mc ms n ∧ (Cond.static y).before args s = true) (hn : As.length = n) (hst : st0 = As.reverse ++ rest) (hroom : (rest.map fun v => v.category).sum ≤ 8) (hdg : decode cc pc = .ok (.invokestatic index, 3)) (hf : cells + mc ≤ R.cells ∧ slots + ms ≤ R.slots)
    (kk : ∀ (H1 : Heap) (locs1 : List Loc), Rw D z w1 s H1 locs1 → W p l e R s m args below meth c H1 locs1 (cells + mc) (slots + ms) Q (F0 m (pc + 3) ls (r.toList ++ rest))) : W p l e R s m args below meth c H locs cells slots Q (F0 m pc ls st0) :=
  w_ran hR (va_runS (Ts := lw_all) ⟨hx, hb, hml, hC.2.1, hC.1⟩ hM cw ⟨Pa_blind hC.2.2.2.2.1, Pa_at hC hR⟩ rfl hn hls hst (lv_room hroom) hdg hf) kk
/-- returns -/
theorem w_iret {x : Int32} (hx : p.tables.exec = Jvm.exec) (hb : c.code = cc) (hr : meth.sig.returnType = some .int) (hlk : meth.locks = false) (hR : Rw D z w s H locs) (hdg : decode cc pc = .ok (.ireturn, 1)) : W p l e R s m args below meth c H locs cells slots (MQ below (Qx D z (some (.int x)) w) args s cells slots (zA z)) (F0 m pc ls [.int x]) :=
  W.iret hx hb hr (fun t ht _ => ⟨⟨rfl, by rw [ht]; exact hR.1⟩, hR.2.F ht⟩) hR.2.2.2 hdg hlk
theorem w_zret {x : Int32} {b : Bool} (hxb : x = b2i b) (hx : p.tables.exec = Jvm.exec) (hb : c.code = cc) (hr : meth.sig.returnType = some .boolean) (hlk : meth.locks = false) (hR : Rw D z w s H locs) (hdg : decode cc pc = .ok (.ireturn, 1)) : W p l e R s m args below meth c H locs cells slots (MQ below (Qx D z (some (.int (b2i b))) w) args s cells slots (zA z)) (F0 m pc ls [.int x]) := by
  subst hxb
  exact W.zret hx hb hr (b2i_nar b) (fun t ht _ => ⟨⟨rfl, by rw [ht]; exact hR.1⟩, hR.2.F ht⟩) hR.2.2.2 hdg hlk
theorem w_lret {x : Int64} (hx : p.tables.exec = Jvm.exec) (hb : c.code = cc) (hr : meth.sig.returnType = some .long) (hlk : meth.locks = false) (hR : Rw D z w s H locs) (hdg : decode cc pc = .ok (.lreturn, 1)) : W p l e R s m args below meth c H locs cells slots (MQ below (Qx D z (some (.long x)) w) args s cells slots (zA z)) (F0 m pc ls [.long x]) :=
  W.lret hx hb hr (fun t ht _ => ⟨⟨rfl, by rw [ht]; exact hR.1⟩, hR.2.F ht⟩) hR.2.2.2 hdg hlk
theorem w_vret (hx : p.tables.exec = Jvm.exec) (hb : c.code = cc) (hr : meth.sig.returnType = none) (hlk : meth.locks = false) (hR : Rw D z w s H locs) (hdg : decode cc pc = .ok (.return_, 1)) : W p l e R s m args below meth c H locs cells slots (MQ below (Qx D z none w) args s cells slots (zA z)) (F0 m pc ls []) :=
  W.vret hx hb hr (fun t ht _ => ⟨⟨rfl, by rw [ht]; exact hR.1⟩, hR.2.F ht⟩) hR.2.2.2 hdg hlk
end RowsC
/-- all that a body's rows stand on -/
def Bx (p : Program) (D : vG) (z : Nat) (E : State → Prop) (s : State) (m : MethodId) (args : Array Value) (meth : Method) (c : Code) (own : String) (cc : ByteArray) (nL : Nat) (ret : Option FieldType) : Prop :=
  p.tables.exec = Jvm.exec ∧ c.code = cc ∧ c.maxLocals = nL ∧ meth.sig.returnType = ret ∧ meth.locks = false ∧ Cx D z E s m args own
theorem Bx.of {p : Program} {l : Launch} {y : MethodName} {cc : ByteArray} {nL : Nat} {ret : Option FieldType} {rm : Room} {e : Env} {s : State} {m : MethodId} {below : List Frame} {meth : Method} {c : Code} {s₁ : State} {D : vG} {z : Nat} {E : State → Prop} {av : List Value} {w : AH} (hE : Ek z E) (B : BodyLoose p l y (headSpec (ws_ y cc nL ret) rm) cc nL ret e s m av.toArray below meth c s₁) (hml : c.maxLocals = nL) (hP : Rp D z w s.heap ∧ va_K D.1 cls_ (tys_ D.2.1) s ∧ E s) : Bx p D z E s m av.toArray meth c y.cls cc nL ret ∧ Rw D z w s s.heap [] := by
  have hts := atoms_spec (ws := ws_ y cc nL ret) B.pre
  refine ⟨⟨B.exec, B.bytes, hml, B.returns, B.notSynchronized, fun w h => hts w (List.mem_cons_of_mem _ h), findClass_of_methodNamed B.named, hP.2.1, hP.2.2, hE, ?_⟩, hP.1, va_S.rf⟩
  rw [hP.1.1]; exact hP.1.2.1.1
theorem ts_ne {x : Int32} {k : Int} (h : ¬ x = Int32.ofInt k) (h1 : -2147483648 ≤ k) (h2 : k < 2147483648) : ¬ x.toInt = k := by
  intro e
  apply h
  rw [← e, Int32.ofInt_toInt]
theorem so1 {α : Type} {a b : α} (h : some a = some b) : b = a := (Option.some.inj h).symm
theorem so2 {α β : Type} {a c : α} {b d : β} (h : some (a, b) = some (c, d)) : c = a ∧ d = b := by
  have h1 := Option.some.inj h
  exact ⟨(congrArg Prod.fst h1).symm, (congrArg Prod.snd h1).symm⟩
