set_option maxRecDepth 100000
/-! more rows: constants' arrays, long string constants, copies, casts and class objects -/
/-- a cell from the start, where nothing was made -/
def kO (w : AH) (a : Nat) : Option cE := match w.1 a with
  | .inr q => if q.1 = 9999 then some (w.2.2.2.2.1 a) else none
  | .inl _ => none
def alS (w : AH) (a : Nat) (i : Int32) : Option Nat := (kO w a).bind fun e => match e with
  | .inl (t', n, .inr (.inr (.inr (.inr f)))) => if t' = 8 ∧ ¬ (i < 0 ∨ n ≤ i.toNatClampNeg) then f i.toNatClampNeg else none
  | _ => none
def lnS (w : AH) (a : Nat) : Option Int32 := (kO w a).bind fun e => match e with
  | .inl (t', n, .inr (.inr (.inr (.inr _)))) => if t' = 8 then some (Int32.ofNat n) else none
  | _ => none
theorem kO_eq {w : AH} {a : Nat} {e : cE} (h : kO w a = some e) : w.2.2.2.2.1 a = e := by
  unfold kO at h
  split at h
  · split at h
    · cases h; rfl
    · cases h
  · cases h
theorem alS_eq {w : AH} {a : Nat} {i : Int32} {x : Nat} (h : alS w a i = some x) : ∃ n f, w.2.2.2.2.1 a = .inl (8, n, .inr (.inr (.inr (.inr f)))) ∧ vp_in i n ∧ f i.toNatClampNeg = some x := by
  obtain ⟨e, h1, h2⟩ := ob h
  have h3 := kO_eq h1
  split at h2
  · rename_i t' n f
    split at h2
    · rename_i h4; rw [h4.1] at h3; exact ⟨n, f, h3, h4.2, h2⟩
    · cases h2
  · cases h2
theorem lnS_eq {w : AH} {a : Nat} {x : Int32} (h : lnS w a = some x) : ∃ n f, w.2.2.2.2.1 a = .inl (8, n, .inr (.inr (.inr (.inr f)))) ∧ Int32.ofNat n = x := by
  obtain ⟨e, h1, h2⟩ := ob h
  have h3 := kO_eq h1
  split at h2
  · rename_i t' n f
    split at h2
    · rename_i h4; rw [h4] at h3; cases h2; exact ⟨n, f, h3, rfl⟩
    · cases h2
  · cases h2
/-- the classes whose objects go into an Object[] -/
def objs_ : List Nat := [9, 10, 11, 12, 13, 14, 15, 16, 17, 18, 24]
def okE (w : AH) (r : Option Nat) : Bool := match r with
  | none => true
  | some y => match w.1 y with
    | .inr q => decide (q.1 ∈ objs_)
    | .inl _ => false
def cpR (w : AH) (a0 a : Nat) (sp dp n : Int32) : Option AH := match lk w a0, w.1 a with
  | .inl (t0, n0, .inr (.inr (.inr (.inr f)))), .inl (t1, n1, .inr (.inr (.inr (.inr g)))) => if t0 = 7 ∧ t1 = 7 ∧ ¬ sp < 0 ∧ ¬ dp < 0 ∧ ¬ n < 0 ∧ sp.toNatClampNeg + n.toNatClampNeg ≤ n0 ∧ dp.toNatClampNeg + n.toNatClampNeg ≤ n1 ∧ (∀ i < n.toNatClampNeg, okE w (f (sp.toNatClampNeg + i)) = true) then some (aup w a (.inl (7, n1, .inr (.inr (.inr (.inr (va_cpy f g sp.toNatClampNeg dp.toNatClampNeg n.toNatClampNeg))))))) else none
  | _, _ => none
def cpB (w : AH) (a0 a : Nat) (sp dp n : Int32) : Option AH := match w.1 a0, w.1 a with
  | .inl (t0, n0, .inl f), .inl (t1, n1, .inl g) => if t0 = 2 ∧ t1 = 2 ∧ ¬ sp < 0 ∧ ¬ dp < 0 ∧ ¬ n < 0 ∧ sp.toNatClampNeg + n.toNatClampNeg ≤ n0 ∧ dp.toNatClampNeg + n.toNatClampNeg ≤ n1 ∧ (∀ i < n.toNatClampNeg, (f (sp.toNatClampNeg + i)).toInt8.toInt32 = f (sp.toNatClampNeg + i)) then some (aup w a (.inl (2, n1, .inl (va_cpy f g sp.toNatClampNeg dp.toNatClampNeg n.toNatClampNeg)))) else none
  | _, _ => none
theorem i32n {z : Int32} (hz : ¬ z < 0) : z.toInt = (z.toNatClampNeg : Int) := by
  have hz0 : (0 : Int) ≤ z.toInt := by
    have := Int32.not_lt.mp hz
    simpa using Int32.le_iff_toInt_le.mp this
  show z.toInt = ((z.toInt.toNat : Nat) : Int)
  omega
section RowsL
variable {p : Program} {l : Launch} {e : Env} {R : Room} {s : State} {m : MethodId} {args : Array Value} {below : List Frame} {meth : Method} {c : Code} {H : Heap} {locs : List Loc} {cells slots : Nat} {Q : State → Prop}
variable {cc : ByteArray} {pc : Nat} {ls : Array Slot} {rest st0 : List Value} {D : vG} {z : Nat} {E : State → Prop} {w0 w w1 : AH} {a nL : Nat} {own : String}
theorem x_alS {i : Int32} {x : Nat} (hES : ES D z s) (hg : alS w a i = some x) (hx : p.tables.exec = Jvm.exec) (hb : c.code = cc) (hR : Rx D z w0 w s H locs) (hdg : decode cc pc = .ok (.aaload, 1)) (kk : W p l e R s m args below meth c H locs cells slots Q (F0 m (pc + 1) ls (.ref x :: rest))) : W p l e R s m args below meth c H locs cells slots Q (F0 m pc ls (.int i :: .ref a :: rest)) := by
  obtain ⟨n, f, h1, h2, h4⟩ := alS_eq hg
  have hK := hR.1.1.2.1.2
  exact vb_tq hx hb (hES.2.2.2.2.2.2.2.2.1.2.2.1 a n f (by rw [← hK]; exact h1)) hR.1.2 h2 (v := .ref x) (by rw [h4]; rfl) hdg kk
theorem x_lnS {x : Int32} (hES : ES D z s) (hg : lnS w a = some x) (hx : p.tables.exec = Jvm.exec) (hb : c.code = cc) (hR : Rx D z w0 w s H locs) (hdg : decode cc pc = .ok (.arraylength, 1)) (kk : W p l e R s m args below meth c H locs cells slots Q (F0 m (pc + 1) ls (.int x :: rest))) : W p l e R s m args below meth c H locs cells slots Q (F0 m pc ls (.ref a :: rest)) := by
  obtain ⟨n, f, h1, h2⟩ := lnS_eq hg
  have hK := hR.1.1.2.1.2
  exact va_tlen hx hb (hES.2.2.2.2.2.2.2.2.1.2.2.1 a n f (by rw [← hK]; exact h1)) hR.1.2 h2 hdg kk
theorem x_ln7 {x : Int32} (hES : ES D z s) (hg : lnK w a 7 = some x) (hx : p.tables.exec = Jvm.exec) (hb : c.code = cc) (hC : Cx D z E s m args own) (hR : Rx D z w0 w s H locs) (hdg : decode cc pc = .ok (.arraylength, 1)) (kk : W p l e R s m args below meth c H locs cells slots Q (F0 m (pc + 1) ls (.int x :: rest))) : W p l e R s m args below meth c H locs cells slots Q (F0 m pc ls (.ref a :: rest)) :=
  x_klen 7 rfl (fun n f h => hES.2.2.2.2.2.2.2.2.1.2.2.2 a n f h) hg hx hb hC hR hdg kk
theorem x_ldcSw {index k : Nat} {tx : String} (hES : ES D z s) (hq : (own, index, tx, k) ∈ strs_) (hx : p.tables.exec = Jvm.exec) (hb : c.code = cc) (hC : Cx D z E s m args own) (hR : Rx D z w0 w s H locs) (hdg : decode cc pc = .ok (.ldc_w index, 3)) (kk : W p l e R s m args below meth c H locs cells slots Q (F0 m (pc + 3) ls (.ref (w.2.2.2.2.2 k) :: rest))) : W p l e R s m args below meth c H locs cells slots Q (F0 m pc ls rest) := by
  rw [x_Kd hR k] at kk
  obtain ⟨hz1, hz2⟩ := hES.2.2.2.2.2.2.2.1 _ hq
  intro T hT X
  obtain ⟨t, a1, b1⟩ := kk T hT X
  refine ⟨t, ?_, b1⟩
  obtain ⟨kc, cf, i, a', hk, hcf, hcp, -, hr, hev'⟩ := Cond.stringRef_spec hC.2.1 hz1
  cases hz2.symm.trans hev'
  obtain ⟨k', hk', he⟩ := X.warmed.alike.2.2 _ _ hk
  have hr' : k'.resolved[index]? = some (some (.string (D.2.2.2 k))) := by
    rcases X.warmed.entry hk hk' index with h | ⟨h, -⟩
    · rw [h]; exact hr
    · rw [hr] at h; cases h
  have hdg' : decode c.code pc = .ok (.ldc_w index, 3) := by rw [hb]; exact hdg
  jvm_step X.here [hx, hdg', ldc_w.wp_string (e := e) (s := T) (f := F0 m pc ls rest) X.here.top hk' (by rw [he]; exact hcf) hcp hr']
  exact a1
/-- a String: one that was made, or one from the start -/
def isS (w : AH) (a : Nat) : Option Unit := match lk w a with
  | .inr q => if q.1 = 26 then some () else none
  | .inl _ => none
theorem isS_eq {u : Unit} (h : isS w a = some u) : ∃ fs, lk w a = .inr (26, fs) := by
  unfold isS at h
  split at h
  · rename_i q hq
    split at h
    · rename_i h1; obtain ⟨c, fs⟩ := q; cases h1; exact ⟨fs, hq⟩
    · cases h
  · cases h
theorem x_Srecv {u : Unit} (hES : ES D z s) (hg : isS w a = some u) (hC : Cx D z E s m args own) (hR : Rx D z w0 w s H locs) : ∃ cell : Cell, H[a]? = some cell ∧ cell.vm.isStatics = false ∧ s.vm.findClass "java/lang/String" = some cell.cls := by
  obtain ⟨fs, h1⟩ := isS_eq hg
  rcases lk_eq w a with ⟨h3, -⟩ | h3
  · exact w_recv hC hR.1 (h3.symm.trans h1) (ci := 26) (q := (RJ5, TJ5, 4)) rfl
  · have hK := hR.1.1.2.1.2
    obtain ⟨hO, -⟩ := hES.2.2.2.2.2.2.2.2.1.1 a fs (by rw [← hK, ← h3]; exact h1)
    obtain ⟨cell, g1, g2, g3, g4⟩ := hO.kept hR.1.2.2.1
    exact ⟨cell, g1, g2, g3⟩
theorem x_instS {index : Nat} {u : Unit} (hl : Cond.classLink own index "java/lang/String" ∈ lw_all) (hES : ES D z s) (hg : isS w a = some u) (hx : p.tables.exec = Jvm.exec) (hb : c.code = cc) (hC : Cx D z E s m args own) (hR : Rx D z w0 w s H locs) (hdg : decode cc pc = .ok (.instanceof index, 3)) (kk : W p l e R s m args below meth c H locs cells slots Q (F0 m (pc + 3) ls (.int 1 :: rest))) : W p l e R s m args below meth c H locs cells slots Q (F0 m pc ls (.ref a :: rest)) :=
  va_instE hx hb hC.2.1 (hC.1 _ hl) (x_Srecv hES hg hC hR) hdg kk
theorem x_castS {index : Nat} {u : Unit} (hl : Cond.classLink own index "java/lang/String" ∈ lw_all) (hES : ES D z s) (hg : isS w a = some u) (hx : p.tables.exec = Jvm.exec) (hb : c.code = cc) (hC : Cx D z E s m args own) (hR : Rx D z w0 w s H locs) (hdg : decode cc pc = .ok (.checkcast index, 3)) (kk : W p l e R s m args below meth c H locs cells slots Q (F0 m (pc + 3) ls (.ref a :: rest))) : W p l e R s m args below meth c H locs cells slots Q (F0 m pc ls (.ref a :: rest)) :=
  va_castE hx hb hC.2.1 (hC.1 _ hl) (x_Srecv hES hg hC hR) hdg kk
variable {y : MethodName} {bytes : ByteArray} {maxL index n F L : Nat} {As : List Value} {ret : Option FieldType} {r : Option Value}
/-- a virtual call on a String -/
theorem x_cVS {u : Unit} (hES : ES D z s) (hg : isS w a = some u) (hx : p.tables.exec = Jvm.exec) (hb : c.code = cc) (hml : c.maxLocals = nL) (hC : Cx D z E s m args own) (hR : Rx D z w0 w s H locs) (hls : ls.size = nL) (hRc : w0.2.2.1 ≤ R.cells ∧ w0.2.2.2.1 ≤ R.slots)
    (hM : Met l y (ws_ y bytes maxL ret) (rmA F L w) (Pa D z E (.ref a :: As) w) (Qa D z r w w1) (uc w w1) (us w w1) (zA z)) (cw : CallW R s args own "java/lang/String" index y bytes maxL ret (ws_ y bytes maxL ret) (rmA F L w) (rmA F L w).cells (rmA F L w).slots n) (hn : As.length = n) (hst : st0 = As.reverse ++ .ref a :: rest) (hroom : (rest.map fun v => v.category).sum ≤ 8) (hdg : decode cc pc = .ok (.invokevirtual index, 3))
    (kk : ∀ (H1 : Heap) (locs1 : List Loc), Rx D z w0 w1 s H1 locs1 → W p l e R s m args below meth c H1 locs1 (uc w0 w1) (us w0 w1) Q (F0 m (pc + 3) ls (r.toList ++ rest))) : W p l e R s m args below meth c H locs (uc w0 w) (us w0 w) Q (F0 m pc ls st0) :=
  x_ran hR (x_runV (Ts := lw_all) ⟨hx, hb, hml, hC.2.1, hC.1⟩ hM cw ⟨Pa_blind hC.2.2.2.2.1, x_Srecv hES hg hC hR, Pa_at hC hR.1⟩ rfl hn hls hst (lv_room hroom) hdg (x_room hRc hR F L)) kk
theorem x_cpB {index a0 : Nat} {sp dp n : Int32} (hl : Cond.methodLink own index arraycopyName ∈ lw_all) (hnat : Cond.native arraycopyName ∈ lw_all) (hstat : Cond.static arraycopyName ∈ lw_all) (hini : Cond.initialized "java/lang/System" ∈ lw_all) (hg : cpB w a0 a sp dp n = some w1) (hx : p.tables.exec = Jvm.exec) (hb : c.code = cc) (hml : c.maxLocals = nL) (hls : ls.size = nL) (hC : Cx D z E s m args own) (hR : Rx D z w0 w s H locs) (hframes : 1 ≤ R.frames) (hlocals : (rest.map fun v => v.category).sum + (nativeFrameWords "java/lang/System" "arraycopy" 5 + 11) ≤ R.locals) (hdg : decode cc pc = .ok (.invokestatic index, 3)) (kk : ∀ (H1 : Heap) (locs1 : List Loc), Rx D z w0 w1 s H1 locs1 → W p l e R s m args below meth c H1 locs1 (uc w0 w1) (us w0 w1) Q (F0 m (pc + 3) ls rest)) : W p l e R s m args below meth c H locs (uc w0 w) (us w0 w) Q (F0 m pc ls (.int n :: .int dp :: .ref a :: .int sp :: .ref a0 :: rest)) := by
  unfold cpB at hg
  split at hg
  · rename_i t0 n0 f t1 n1 g e0 e1
    split at hg
    · rename_i hc
      obtain ⟨rfl, rfl, h1, h2, h3, h4, h5, h6⟩ := hc
      cases hg
      intro T hT X
      have hc0 : H[a0]? = some (vp_cell (D.2.1 2) (n0, .inl f)) := (hR.1.1.one e0 jk_ne_arr).2
      have hc1 : H[a]? = some (vp_cell (D.2.1 2) (n1, .inl g)) := (hR.1.1.one e1 jk_ne_arr).2
      obtain ⟨-, k0, hk0, cm0, hkk0⟩ := (hC.2.2.1.2 2 _ rfl).1 n0 (fun j => .int (f j))
      obtain ⟨-, k1, hk1, cm1, hkk1⟩ := (hC.2.2.1.2 2 _ rfl).1 n1 (fun j => .int (g j))
      obtain ⟨vm', X', step⟩ := X.arraycopy hx hC.2.1 (hC.1 _ hl) (hC.1 _ hnat) (hC.1 _ hstat) (hC.1 _ hini) (src := a0) (dst := a) (cs := vp_cell (D.2.1 2) (n0, .inl f)) (cd := vp_cell (D.2.1 2) (n1, .inl g)) (srcPos := sp) (destPos := dp) (n := n) (by rw [hT]; exact hc0) (by rw [hT]; exact hc1)
        (fun _ h => by cases h) (fun _ h => by cases h) (fun h => by cases h) (fun h => by cases h) hk0 hk1 hkk0 hkk1 (by simp [refKind]) h1 h2 h3
        (by rw [i32n h1, i32n h3]; show ¬ _ > ((arrV (D.2.1 2) n0 (fun j => .int (f j))).slots.size : Int); rw [arrV_size]; omega)
        (by rw [i32n h2, i32n h3]; show ¬ _ > ((arrV (D.2.1 2) n1 (fun j => .int (g j))).slots.size : Int); rw [arrV_size]; omega)
        (fun vm₁ _ i hi => by
          have e : (vp_cell (D.2.1 2) (n0, .inl f)).slots.getD (sp.toNatClampNeg + i) .null = .int (f (sp.toNatClampNeg + i)) := by
            show (arrV (D.2.1 2) n0 (fun j => .int (f j))).slots.getD _ _ = _
            rw [Array.getD_eq_getD_getElem?, arrV_read _ _ (by omega)]
            rfl
          refine ⟨?_, ?_⟩
          · rw [e, ← h6 i hi]; exact pk_fb _
          · rw [e]; exact trivial)
        (g := F0 m pc ls (.int n :: .int dp :: .ref a :: .int sp :: .ref a0 :: rest)) rfl (by rw [hml]; exact hls) (rest := rest) rfl (by rw [hb]; exact hdg) hframes (by show 2 * 0 + _ + _ ≤ _; omega)
      have e2 : copied (vp_cell (D.2.1 2) (n0, .inl f)) (vp_cell (D.2.1 2) (n1, .inl g)) sp dp n = vp_cell (D.2.1 2) (n1, .inl (va_cpy f g sp.toNatClampNeg dp.toNatClampNeg n.toNatClampNeg)) := by
        rw [vp_cell_i, vp_cell_i, vp_cell_i]
        exact va_copied (fun z => .int z) (D.2.1 2) (D.2.1 2) f g h4
      rw [e2] at X' step
      have hlt : a < H.size := (Array.getElem?_eq_some_iff.mp hc1).1
      have hheap : ((T.setVm vm').setCell a (vp_cell (D.2.1 2) (n1, .inl (va_cpy f g sp.toNatClampNeg dp.toNatClampNeg n.toNatClampNeg)))).heap = H.setIfInBounds a (vp_cell (D.2.1 2) (n1, .inl (va_cpy f g sp.toNatClampNeg dp.toNatClampNeg n.toNatClampNeg))) := by rw [← hT]; rfl
      have oq : ∀ q : Nat, q ≠ a → (H.setIfInBounds a (vp_cell (D.2.1 2) (n1, .inl (va_cpy f g sp.toNatClampNeg dp.toNatClampNeg n.toNatClampNeg))))[q]? = H[q]? := fun q hq => by simp [Array.getElem?_setIfInBounds, Ne.symm hq]
      have ha : z ≤ a := (hR.1.1.one e1 jk_ne_arr).1
      have hS := hR.1.2
      obtain ⟨t, a1, b1⟩ := kk _ _ ⟨⟨hR.1.1.up e1 jk_ne_arr (show (H.setIfInBounds a _)[a]? = some _ by simp [Array.getElem?_setIfInBounds, hlt]) (by simp) oq, ⟨by simp; exact hS.1, fun q g1 g2 => by
          rw [oq q (fun e => g2 (by rw [e]; exact ha))]
          exact hS.2.1 q g1 g2, fun q hq => by
          rcases List.mem_append.mp hq with h | h
          · exact hS.2.2 q h
          · obtain ⟨z', -, hz⟩ := List.mem_map.mp h
            rw [← hz]
            exact ha⟩⟩, hR.2⟩ _ hheap X'
      exact ⟨t, step t a1, b1⟩
    · cases hg
  · cases hg
theorem x_ldcM {index : Nat} (hl : Cond.classLink own index "[Ljava/lang/Object;" ∈ lw_all) (hES : ES D z s) (hx : p.tables.exec = Jvm.exec) (hb : c.code = cc) (hC : Cx D z E s m args own) (hR : Rx D z w0 w s H locs) (hdg : decode cc pc = .ok (.ldc index, 2)) (kk : W p l e R s m args below meth c H locs cells slots Q (F0 m (pc + 2) ls (.ref (w.2.2.2.2.2 3) :: rest))) : W p l e R s m args below meth c H locs cells slots Q (F0 m pc ls rest) := by
  rw [x_Kd hR 3] at kk
  exact va_ldcM hx hb hC.2.1 (hC.1 _ hl) hES.2.2.2.2.2.2.2.2.2.1 hdg kk
end RowsL
