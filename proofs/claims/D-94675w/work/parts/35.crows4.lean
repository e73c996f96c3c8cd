set_option maxRecDepth 100000
/-! small checks, references that may be null, first values of fields -/
def ckC (x : Int32) : Option Unit := if (x.toUInt32 % 65536).toInt32 = x then some () else none
def ckB (x : Int32) : Option Unit := if x.toInt8.toInt32 = x then some () else none
def ckZ (x : Int32) : Option Unit := if x = 0 ∨ x = 1 then some () else none
theorem ckC_n {x : Int32} {u : Unit} (h : ckC x = some u) : narrow .char (.int x) = .int x := by
  unfold ckC at h; split at h
  · rename_i h1; have := pk_nc x; rw [h1] at this; exact this
  · cases h
theorem ckC_f {x : Int32} {u : Unit} (h : ckC x = some u) : fits .char (.int x) = true := by
  unfold ckC at h; split at h
  · rename_i h1; have := pk_fc x; rw [h1] at this; exact this
  · cases h
theorem ckB_n {x : Int32} {u : Unit} (h : ckB x = some u) : narrow .byte (.int x) = .int x := by
  unfold ckB at h; split at h
  · rename_i h1; have := pk_nb x; rw [h1] at this; exact this
  · cases h
theorem ckB_f {x : Int32} {u : Unit} (h : ckB x = some u) : fits .byte (.int x) = true := by
  unfold ckB at h; split at h
  · rename_i h1; have := pk_fb x; rw [h1] at this; exact this
  · cases h
theorem ckZ_n {x : Int32} {u : Unit} (h : ckZ x = some u) : narrow .boolean (.int x) = .int x := by
  unfold ckZ at h; split at h
  · rename_i h1; rcases h1 with rfl | rfl <;> rfl
  · cases h
theorem ckZ_f {x : Int32} {u : Unit} (h : ckZ x = some u) : fits .boolean (.int x) = true := by
  unfold ckZ at h; split at h
  · rename_i h1; rcases h1 with rfl | rfl <;> rfl
  · cases h
/-- a contract by name: her class plainly named, or no row for her in the table of natives -/
theorem MetF {l : Launch} {y : MethodName} {ws ws' : List Cond} {rm : Room} {Pc : Array Value → State → Prop} {Qc : Array Value → State → Outcome → State → Prop} {mc ms : Nat} {free : Addr → Prop} {cc : ByteArray} {maxL : Nat} {ret : Option FieldType}
    (hy : plainFor y = true) (hw : ws = Cond.code y cc maxL ret :: ws')
    (body : ∀ p e s m args below meth c s₁, BodyLoose p l y (headSpec ws rm) cc maxL ret e s m args below meth c s₁ → c.maxLocals = maxL → Pc args s →
      W p l e (headSpec ws rm).room s m args below meth c s.heap [] 0 0 (MQ below Qc args s mc ms free) (entryFrame m args maxL)) : Met l y ws rm Pc Qc mc ms free := by
  refine MetFree.of_bodySF (code := cc) (maxLocals := maxL) (ret := ret) hy ?_ ?_
  · intro args s m h hn
    obtain ⟨meth, c, h1, h2, h3, h4, h5, h6, -, -⟩ := Cond.code_spec hn (atoms_spec (ws := ws) h _ (by rw [hw]; exact List.mem_cons_self))
    exact ⟨meth, c, h1, h2, h3, h4, h5, h6⟩
  · intro p e s m args below meth c s₁ B hml hP _
    have hh0 : s₁.heap = s.heap := by rw [B.state]; rfl
    obtain ⟨t, a1, o, b1, b2, b3⟩ := body p e s m args below meth c s₁ B hml hP s₁ hh0 (Stand.of_body B)
    exact ⟨t, o, a1, b1, b2, ⟨b3.1, b3.2⟩⟩
def DP : Nat := 40
theorem x_cat1 (r : Option Nat) : (va_rf r).category = 1 := by cases r <;> rfl
section RowsN
variable {p : Program} {l : Launch} {e : Env} {R : Room} {s : State} {m : MethodId} {args : Array Value} {below : List Frame} {meth : Method} {c : Code} {H : Heap} {locs : List Loc} {cells slots : Nat} {Q : State → Prop}
variable {cc : ByteArray} {pc : Nat} {ls : Array Slot} {rest : List Value}
theorem x_null (hx : p.tables.exec = Jvm.exec) (hb : c.code = cc) (hdg : decode cc pc = .ok (.aconst_null, 1)) (k : W p l e R s m args below meth c H locs cells slots Q (F0 m (pc + 1) ls (va_rf none :: rest))) : W p l e R s m args below meth c H locs cells slots Q (F0 m pc ls rest) := lv_null hx hb hdg k
theorem x_aload_n (hx : p.tables.exec = Jvm.exec) (hb : c.code = cc) {k : Fin 4} {i : Nat} {x : Option Nat} (hdg : decode cc pc = .ok (.aload_n k, 1)) (hi : (k : Nat) = i) (hl : ls[i]? = some (.val (va_rf x))) (k : W p l e R s m args below meth c H locs cells slots Q (F0 m (pc + 1) ls (va_rf x :: rest))) : W p l e R s m args below meth c H locs cells slots Q (F0 m pc ls rest) := by
  cases x with
  | none => exact lv_aload_nN hx hb hdg hi hl k
  | some x => exact lv_aload_n hx hb hdg hi hl k
theorem x_astore_n (hx : p.tables.exec = Jvm.exec) (hb : c.code = cc) {k : Fin 4} {i nL : Nat} {x : Option Nat} {lv lv' : List (Nat × Value)} (hdg : decode cc pc = .ok (.astore_n k, 1)) (hi : (k : Nat) = i) (h : lv_has ls nL lv) (hn : i < nL) (hl : (i, va_rf x) :: lv.filter (fun q => !(q.1 == i) && !(q.1 + 1 == i && q.2.category == 2)) = lv') (kk : ∀ ls' : Array Slot, lv_has ls' nL lv' → W p l e R s m args below meth c H locs cells slots Q (F0 m (pc + 1) ls' rest)) : W p l e R s m args below meth c H locs cells slots Q (F0 m pc ls (va_rf x :: rest)) := by
  cases x with
  | none => exact lv_astore_nN hx hb hdg hi h hn hl kk
  | some x => exact lv_astore_n hx hb hdg hi h hn hl kk
end RowsN
theorem nf_X0 : ∀ j, j < 14 → defaultValue (tyX0 j) = vp_V [.null, .int 0, .null, .null, .null, .null, .null, .null, .int 0, .int 0, .long 0, .null, .null, .int 0] j := by
  intro j hj
  rcases (show j = 0 ∨ j = 1 ∨ j = 2 ∨ j = 3 ∨ j = 4 ∨ j = 5 ∨ j = 6 ∨ j = 7 ∨ j = 8 ∨ j = 9 ∨ j = 10 ∨ j = 11 ∨ j = 12 ∨ j = 13 by omega) with rfl | rfl | rfl | rfl | rfl | rfl | rfl | rfl | rfl | rfl | rfl | rfl | rfl | rfl <;> rfl
theorem nf_X1 : ∀ j, j < 11 → defaultValue (tyX1 j) = vp_V [.int 0, .int 0, .int 0, .int 0, .int 0, .null, .null, .null, .null, .null, .null] j := by
  intro j hj
  rcases (show j = 0 ∨ j = 1 ∨ j = 2 ∨ j = 3 ∨ j = 4 ∨ j = 5 ∨ j = 6 ∨ j = 7 ∨ j = 8 ∨ j = 9 ∨ j = 10 by omega) with rfl | rfl | rfl | rfl | rfl | rfl | rfl | rfl | rfl | rfl | rfl <;> rfl
theorem nf_X2 : ∀ j, j < 2 → defaultValue (tyX2 j) = vp_V [.null, .null] j := by
  intro j hj
  rcases (show j = 0 ∨ j = 1 by omega) with rfl | rfl <;> rfl
theorem nf_X3 : ∀ j, j < 5 → defaultValue (tyX3 j) = vp_V [.null, .null, .null, .null, .null] j := by
  intro j hj
  rcases (show j = 0 ∨ j = 1 ∨ j = 2 ∨ j = 3 ∨ j = 4 by omega) with rfl | rfl | rfl | rfl | rfl <;> rfl
theorem nf_X4 : ∀ j, j < 1 → defaultValue (tyX4 j) = vp_V [.null] j := by
  intro j hj
  rcases (show j = 0 by omega) with rfl <;> rfl
theorem nf_X5 : ∀ j, j < 3 → defaultValue (tyX5 j) = vp_V [.int 0, .int 0, .int 0] j := by
  intro j hj
  rcases (show j = 0 ∨ j = 1 ∨ j = 2 by omega) with rfl | rfl | rfl <;> rfl
theorem nf_X7 : ∀ j, j < 12 → defaultValue (tyX7 j) = vp_V [.int 0, .null, .int 0, .int 0, .int 0, .int 0, .int 0, .int 0, .int 0, .int 0, .null, .null] j := by
  intro j hj
  rcases (show j = 0 ∨ j = 1 ∨ j = 2 ∨ j = 3 ∨ j = 4 ∨ j = 5 ∨ j = 6 ∨ j = 7 ∨ j = 8 ∨ j = 9 ∨ j = 10 ∨ j = 11 by omega) with rfl | rfl | rfl | rfl | rfl | rfl | rfl | rfl | rfl | rfl | rfl | rfl <;> rfl
theorem nf_X8 : ∀ j, j < 8 → defaultValue (tyX8 j) = vp_V [.null, .null, .null, .null, .null, .int 0, .int 0, .int 0] j := by
  intro j hj
  rcases (show j = 0 ∨ j = 1 ∨ j = 2 ∨ j = 3 ∨ j = 4 ∨ j = 5 ∨ j = 6 ∨ j = 7 by omega) with rfl | rfl | rfl | rfl | rfl | rfl | rfl | rfl <;> rfl
theorem nf_X10 : ∀ j, j < 4 → defaultValue (tyX10 j) = vp_V [.null, .int 0, .null, .int 0] j := by
  intro j hj
  rcases (show j = 0 ∨ j = 1 ∨ j = 2 ∨ j = 3 by omega) with rfl | rfl | rfl | rfl <;> rfl
theorem nf_X11 : ∀ j, j < 1 → defaultValue (tyX11 j) = vp_V [.int 0] j := by
  intro j hj
  rcases (show j = 0 by omega) with rfl <;> rfl
theorem nf_X12 : ∀ j, j < 1 → defaultValue (tyX12 j) = vp_V [.int 0] j := by
  intro j hj
  rcases (show j = 0 by omega) with rfl <;> rfl
theorem nf_X13 : ∀ j, j < 3 → defaultValue (tyX13 j) = vp_V [.int 0, .null, .null] j := by
  intro j hj
  rcases (show j = 0 ∨ j = 1 ∨ j = 2 by omega) with rfl | rfl | rfl <;> rfl
theorem nf_X14 : ∀ j, j < 2 → defaultValue (tyX14 j) = vp_V [.null, .null] j := by
  intro j hj
  rcases (show j = 0 ∨ j = 1 by omega) with rfl | rfl <;> rfl
theorem nf_X16 : ∀ j, j < 3 → defaultValue (tyX16 j) = vp_V [.int 0, .null, .null] j := by
  intro j hj
  rcases (show j = 0 ∨ j = 1 ∨ j = 2 by omega) with rfl | rfl | rfl <;> rfl
theorem nf_X17 : ∀ j, j < 1 → defaultValue (tyX17 j) = vp_V [.null] j := by
  intro j hj
  rcases (show j = 0 by omega) with rfl <;> rfl
theorem nf_X18 : ∀ j, j < 2 → defaultValue (tyX18 j) = vp_V [.int 0, .null] j := by
  intro j hj
  rcases (show j = 0 ∨ j = 1 by omega) with rfl | rfl <;> rfl
theorem nf_X19 : ∀ j, j < 7 → defaultValue (tyX19 j) = vp_V [.null, .int 0, .null, .int 0, .int 0, .int 0, .int 0] j := by
  intro j hj
  rcases (show j = 0 ∨ j = 1 ∨ j = 2 ∨ j = 3 ∨ j = 4 ∨ j = 5 ∨ j = 6 by omega) with rfl | rfl | rfl | rfl | rfl | rfl | rfl <;> rfl
theorem nf_X21 : ∀ j, j < 3 → defaultValue (tyX21 j) = vp_V [.int 0, .int 0, .int 0] j := by
  intro j hj
  rcases (show j = 0 ∨ j = 1 ∨ j = 2 by omega) with rfl | rfl | rfl <;> rfl
theorem nf_X22 : ∀ j, j < 3 → defaultValue (tyX22 j) = vp_V [.int 0, .int 0, .int 0] j := by
  intro j hj
  rcases (show j = 0 ∨ j = 1 ∨ j = 2 by omega) with rfl | rfl | rfl <;> rfl
theorem nf_X23 : ∀ j, j < 3 → defaultValue (tyX23 j) = vp_V [.int 0, .int 0, .int 0] j := by
  intro j hj
  rcases (show j = 0 ∨ j = 1 ∨ j = 2 by omega) with rfl | rfl | rfl <;> rfl
theorem nf_X24 : ∀ j, j < 3 → defaultValue (tyX24 j) = vp_V [.int 0, .int 0, .int 0] j := by
  intro j hj
  rcases (show j = 0 ∨ j = 1 ∨ j = 2 by omega) with rfl | rfl | rfl <;> rfl
theorem nf_X25 : ∀ j, j < 3 → defaultValue (tyX25 j) = vp_V [.int 0, .int 0, .int 0] j := by
  intro j hj
  rcases (show j = 0 ∨ j = 1 ∨ j = 2 by omega) with rfl | rfl | rfl <;> rfl
theorem nf_X26 : ∀ j, j < 9 → defaultValue (tyX26 j) = vp_V [.null, .int 0, .int 0, .int 0, .int 0, .int 0, .int 0, .int 0, .int 0] j := by
  intro j hj
  rcases (show j = 0 ∨ j = 1 ∨ j = 2 ∨ j = 3 ∨ j = 4 ∨ j = 5 ∨ j = 6 ∨ j = 7 ∨ j = 8 by omega) with rfl | rfl | rfl | rfl | rfl | rfl | rfl | rfl | rfl <;> rfl
theorem nf_J2 : ∀ j, j < 3 → defaultValue (tyJ2 j) = vp_V [.int 0, .null, .int 0] j := by
  intro j hj
  rcases (show j = 0 ∨ j = 1 ∨ j = 2 by omega) with rfl | rfl | rfl <;> rfl
theorem nf_J5 : ∀ j, j < 4 → defaultValue (tyJ5 j) = vp_V [.null, .int 0, .int 0, .int 0] j := by
  intro j hj
  rcases (show j = 0 ∨ j = 1 ∨ j = 2 ∨ j = 3 by omega) with rfl | rfl | rfl | rfl <;> rfl
theorem nf_J14 : ∀ j, j < 4 → defaultValue (tyJ14 j) = vp_V [.null, .int 0, .int 0, .int 0] j := by
  intro j hj
  rcases (show j = 0 ∨ j = 1 ∨ j = 2 ∨ j = 3 by omega) with rfl | rfl | rfl | rfl <;> rfl
