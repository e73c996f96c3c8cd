set_option maxRecDepth 100000
/-! rows: objects into an Object[], copies of one, class objects, statics -/
theorem objs_ok : ∀ ci ∈ objs_, ∃ (C : String) (T : u_T) (N : Nat), cls_[ci]? = some (C, T, N) ∧ Cond.castable C "java/lang/Object" ∈ lw_tbl := by
  intro ci h
  simp only [objs_, List.mem_cons, List.not_mem_nil, or_false] at h
  rcases h with rfl | rfl | rfl | rfl | rfl | rfl | rfl | rfl | rfl | rfl | rfl
  · exact ⟨RX10, TX10, 4, rfl, q2682⟩
  · exact ⟨RX11, TX11, 1, rfl, q2683⟩
  · exact ⟨RX12, TX12, 1, rfl, q2684⟩
  · exact ⟨RX13, TX13, 3, rfl, q2685⟩
  · exact ⟨RX14, TX14, 2, rfl, q2686⟩
  · exact ⟨RX15, TX15, 0, rfl, q2688⟩
  · exact ⟨RX16, TX16, 3, rfl, q2689⟩
  · exact ⟨RX17, TX17, 1, rfl, q2690⟩
  · exact ⟨RX18, TX18, 2, rfl, q2691⟩
  · exact ⟨RX19, TX19, 7, rfl, q2692⟩
  · exact ⟨RX26, TX26, 9, rfl, q2698⟩
def cpO (w : AH) (a0 a : Nat) (sp dp n : Int32) : Option AH := match w.1 a0, w.1 a with
  | .inl (t0, n0, .inr (.inr (.inr (.inr f)))), .inl (t1, n1, .inr (.inr (.inr (.inr g)))) => if t0 = 7 ∧ t1 = 7 ∧ ¬ sp < 0 ∧ ¬ dp < 0 ∧ ¬ n < 0 ∧ sp.toNatClampNeg + n.toNatClampNeg ≤ n0 ∧ dp.toNatClampNeg + n.toNatClampNeg ≤ n1 ∧ (∀ i < n.toNatClampNeg, okE w (f (sp.toNatClampNeg + i)) = true) then some (aup w a (.inl (7, n1, .inr (.inr (.inr (.inr (va_cpy f g sp.toNatClampNeg dp.toNatClampNeg n.toNatClampNeg))))))) else none
  | _, _ => none
/-- an object into an Object[] -/
def asO (w : AH) (a : Nat) (i : Int32) (x : Nat) : Option AH := if okE w (some x) = true then asR w a 7 i x else none
section RowsO
variable {p : Program} {l : Launch} {e : Env} {R : Room} {s : State} {m : MethodId} {args : Array Value} {below : List Frame} {meth : Method} {c : Code} {H : Heap} {locs : List Loc} {cells slots : Nat} {Q : State → Prop}
variable {cc : ByteArray} {pc : Nat} {ls : Array Slot} {rest st0 : List Value} {D : vG} {z : Nat} {E : State → Prop} {w0 w w1 : AH} {a nL : Nat} {own : String}
theorem okE_eq {y : Nat} (h : okE w (some y) = true) : ∃ ci fs, ci ∈ objs_ ∧ w.1 y = .inr (ci, fs) := by
  unfold okE at h
  simp only at h
  split at h
  · rename_i q hq; exact ⟨q.1, q.2, of_decide_eq_true h, hq⟩
  · cases h
theorem x_aastO (hEW : EW s) {i : Int32} {x : Nat} (hg : asO w a i x = some w1) (hx : p.tables.exec = Jvm.exec) (hb : c.code = cc) (hC : Cx D z E s m args own) (hR : Rx D z w0 w s H locs) (hdg : decode cc pc = .ok (.aastore, 1)) (kk : ∀ (H1 : Heap) (locs1 : List Loc), Rx D z w0 w1 s H1 locs1 → W p l e R s m args below meth c H1 locs1 (uc w0 w1) (us w0 w1) Q (F0 m (pc + 1) ls rest)) : W p l e R s m args below meth c H locs (uc w0 w) (us w0 w) Q (F0 m pc ls (.ref x :: .int i :: .ref a :: rest)) := by
  unfold asO at hg
  split at hg
  · rename_i h1
    obtain ⟨ci, fs, h2, h3⟩ := okE_eq h1
    obtain ⟨C, T, N, hc, hca⟩ := objs_ok ci h2
    exact x_aast 7 rfl h3 hc (Or.inr hca) hEW hg hx hb hC hR hdg kk
  · cases hg
/-- a Song or an Ear into its own array -/
theorem x_aastC (t ci : Nat) {C : String} {T : u_T} {N : Nat} (ht : (tys_ D.2.1)[t]? = some (D.2.1 t, .object C)) (hc : cls_[ci]? = some (C, T, N)) (hEW : EW s) {i : Int32} {x k : Nat} (hk : ckO w x [ci] = some k) (hg : asR w a t i x = some w1) (hx : p.tables.exec = Jvm.exec) (hb : c.code = cc) (hC : Cx D z E s m args own) (hR : Rx D z w0 w s H locs) (hdg : decode cc pc = .ok (.aastore, 1)) (kk : ∀ (H1 : Heap) (locs1 : List Loc), Rx D z w0 w1 s H1 locs1 → W p l e R s m args below meth c H1 locs1 (uc w0 w1) (us w0 w1) Q (F0 m (pc + 1) ls rest)) : W p l e R s m args below meth c H locs (uc w0 w) (us w0 w) Q (F0 m pc ls (.ref x :: .int i :: .ref a :: rest)) := by
  obtain ⟨-, ci', fs, h1, h2⟩ := ckO_eq hk
  rw [List.mem_singleton.mp h1] at h2
  exact x_aast t ht h2 hc (Or.inl rfl) hEW hg hx hb hC hR hdg kk
theorem x_cpO {index a0 : Nat} {sp dp n : Int32} (hl : Cond.methodLink own index arraycopyName ∈ lw_all) (hnat : Cond.native arraycopyName ∈ lw_all) (hstat : Cond.static arraycopyName ∈ lw_all) (hini : Cond.initialized "java/lang/System" ∈ lw_all) (hEW : EW s) (hg : cpO w a0 a sp dp n = some w1) (hx : p.tables.exec = Jvm.exec) (hb : c.code = cc) (hml : c.maxLocals = nL) (hls : ls.size = nL) (hC : Cx D z E s m args own) (hR : Rx D z w0 w s H locs) (hframes : 1 ≤ R.frames) (hlocals : (rest.map fun v => v.category).sum + (nativeFrameWords "java/lang/System" "arraycopy" 5 + 11) ≤ R.locals) (hdg : decode cc pc = .ok (.invokestatic index, 3)) (kk : ∀ (H1 : Heap) (locs1 : List Loc), Rx D z w0 w1 s H1 locs1 → W p l e R s m args below meth c H1 locs1 (uc w0 w1) (us w0 w1) Q (F0 m (pc + 3) ls rest)) : W p l e R s m args below meth c H locs (uc w0 w) (us w0 w) Q (F0 m pc ls (.int n :: .int dp :: .ref a :: .int sp :: .ref a0 :: rest)) := by
  unfold cpO at hg
  split at hg
  · rename_i t0 n0 f t1 n1 g e0 e1
    split at hg
    · rename_i hc
      obtain ⟨rfl, rfl, h1, h2, h3, h4, h5, h6⟩ := hc
      cases hg
      intro T hT X
      have hc0 : H[a0]? = some (vp_cell (D.2.1 7) (n0, .inr (.inr (.inr (.inr f))))) := (hR.1.1.one e0 jk_ne_arr).2
      have hc1 : H[a]? = some (vp_cell (D.2.1 7) (n1, .inr (.inr (.inr (.inr g))))) := (hR.1.1.one e1 jk_ne_arr).2
      obtain ⟨-, k0, hk0, cm0, hkk0⟩ := (hC.2.2.1.2 7 _ rfl).1 n0 (fun j => va_rf (f j))
      obtain ⟨-, k1, hk1, cm1, hkk1⟩ := (hC.2.2.1.2 7 _ rfl).1 n1 (fun j => va_rf (g j))
      obtain ⟨vm', X', step⟩ := X.arraycopy hx hC.2.1 (hC.1 _ hl) (hC.1 _ hnat) (hC.1 _ hstat) (hC.1 _ hini) (src := a0) (dst := a) (cs := vp_cell (D.2.1 7) (n0, .inr (.inr (.inr (.inr f))))) (cd := vp_cell (D.2.1 7) (n1, .inr (.inr (.inr (.inr g))))) (srcPos := sp) (destPos := dp) (n := n) (by rw [hT]; exact hc0) (by rw [hT]; exact hc1)
        (fun _ h => by cases h) (fun _ h => by cases h) (fun h => by cases h) (fun h => by cases h) hk0 hk1 hkk0 hkk1 rfl h1 h2 h3
        (by rw [i32n h1, i32n h3]; show ¬ _ > ((arrV (D.2.1 7) n0 (fun j => va_rf (f j))).slots.size : Int); rw [arrV_size]; omega)
        (by rw [i32n h2, i32n h3]; show ¬ _ > ((arrV (D.2.1 7) n1 (fun j => va_rf (g j))).slots.size : Int); rw [arrV_size]; omega)
        (fun vm₁ hal i hi => by
          have e : (vp_cell (D.2.1 7) (n0, .inr (.inr (.inr (.inr f))))).slots.getD (sp.toNatClampNeg + i) .null = va_rf (f (sp.toNatClampNeg + i)) := by
            show (arrV (D.2.1 7) n0 (fun j => va_rf (f j))).slots.getD _ _ = _
            rw [Array.getD_eq_getD_getElem?, arrV_read _ _ (by omega)]
            rfl
          rw [e]
          have h7 := h6 i hi
          cases hy : f (sp.toNatClampNeg + i) with
          | none => exact ⟨rfl, trivial⟩
          | some y =>
            rw [hy] at h7
            obtain ⟨ci, fs, q1, q2⟩ := okE_eq h7
            obtain ⟨C, T', N, hc, hca⟩ := objs_ok ci q1
            obtain ⟨cellV, g1, g2, g3⟩ := w_recv hC hR.1 q2 hc
            obtain ⟨kA, comp, r1, r2, r3, -⟩ := (hC.2.2.1.2 7 _ rfl).2
            cases hk1.symm.trans r1
            cases hkk1.symm.trans r2
            obtain ⟨kC, hkC, -⟩ := Vm.findClass_spec g3
            obtain ⟨kE, hkE, -⟩ := Vm.findClass_spec r3
            obtain ⟨kC', hkC', -⟩ := hal.2.2 _ _ hkC
            obtain ⟨kE', hkE', -⟩ := hal.2.2 _ _ hkE
            obtain ⟨c0, t0, f1, f2, f3⟩ := Cond.castable_spec (va_Nw.use (A := args) rfl (hEW.2.2.1 C _ hca))
            cases Option.some.inj (g3.symm.trans f1)
            cases Option.some.inj (r3.symm.trans f2)
            refine ⟨rfl, cellV, (show T.heap[y]? = some cellV by rw [hT]; exact g1), (fun q h => by rw [h] at g2; cases g2), ⟨kC', hkC'⟩, ?_, ?_⟩
            · exact ⟨kE', hkE'⟩
            · show vm₁.assignable _ _ = true
              rw [hal.assignable]
              exact f3)
        (g := F0 m pc ls (.int n :: .int dp :: .ref a :: .int sp :: .ref a0 :: rest)) rfl (by rw [hml]; exact hls) (rest := rest) rfl (by rw [hb]; exact hdg) hframes (by show 2 * 0 + _ + _ ≤ _; omega)
      have e2 : copied (vp_cell (D.2.1 7) (n0, .inr (.inr (.inr (.inr f))))) (vp_cell (D.2.1 7) (n1, .inr (.inr (.inr (.inr g))))) sp dp n = vp_cell (D.2.1 7) (n1, .inr (.inr (.inr (.inr (va_cpy f g sp.toNatClampNeg dp.toNatClampNeg n.toNatClampNeg))))) := by
        rw [vp_cell_q, vp_cell_q, vp_cell_q]
        exact va_copied (fun z => va_rf z) (D.2.1 7) (D.2.1 7) f g h4
      rw [e2] at X' step
      have hlt : a < H.size := (Array.getElem?_eq_some_iff.mp hc1).1
      generalize hcell : vp_cell (D.2.1 7) (n1, .inr (.inr (.inr (.inr (va_cpy f g sp.toNatClampNeg dp.toNatClampNeg n.toNatClampNeg))))) = cl at X' step
      have hheap : ((T.setVm vm').setCell a cl).heap = H.setIfInBounds a cl := by rw [← hT]; rfl
      have oq : ∀ q : Nat, q ≠ a → (H.setIfInBounds a cl)[q]? = H[q]? := fun q hq => by simp [Array.getElem?_setIfInBounds, Ne.symm hq]
      have ha : z ≤ a := (hR.1.1.one e1 jk_ne_arr).1
      have hS := hR.1.2
      obtain ⟨t, a1, b1⟩ := kk _ _ ⟨⟨hR.1.1.up e1 jk_ne_arr (show (H.setIfInBounds a cl)[a]? = some _ by simp [Array.getElem?_setIfInBounds, hlt]; exact hcell.symm) (by simp) oq, ⟨by simp; exact hS.1, fun q g1 g2 => by
          rw [oq q (fun e => g2 (by rw [e]; exact ha))]
          exact hS.2.1 q g1 g2, fun q hq => by
          rcases List.mem_append.mp hq with h | h
          · exact hS.2.2 q h
          · obtain ⟨z', -, hz⟩ := List.mem_map.mp h
            rw [← hz]
            exact ha⟩⟩, hR.2⟩ _ hheap X'
      exact ⟨t, step t a1, b1⟩
    · cases hg
  · cases hg
/-- getClass() of an Object[] that was made -/
def gcO (w : AH) (a : Nat) : Option Nat := match w.1 a with
  | .inl (t, _, .inr (.inr (.inr (.inr _)))) => if t = 7 then some (w.2.2.2.2.2 3) else none
  | _ => none
theorem x_gcO {index x : Nat} (hl : Cond.methodLink own index ⟨"java/lang/Object", "getClass", "()Ljava/lang/Class;"⟩ ∈ lw_all) (hsel : Cond.selects "[Ljava/lang/Object;" ⟨"java/lang/Object", "getClass", "()Ljava/lang/Class;"⟩ ⟨"java/lang/Object", "getClass", "()Ljava/lang/Class;"⟩ ∈ lw_all) (hinst : Cond.instanceMethod ⟨"java/lang/Object", "getClass", "()Ljava/lang/Class;"⟩ ∈ lw_all) (hnat : Cond.native ⟨"java/lang/Object", "getClass", "()Ljava/lang/Class;"⟩ ∈ lw_all) (hES : ES D z s) (hg : gcO w a = some x) (hx : p.tables.exec = Jvm.exec) (hb : c.code = cc) (hml : c.maxLocals = nL) (hls : ls.size = nL) (hC : Cx D z E s m args own) (hR : Rx D z w0 w s H locs) (hframes : 1 ≤ R.frames) (hlocals : (rest.map fun v => v.category).sum + 14 ≤ R.locals) (hdg : decode cc pc = .ok (.invokevirtual index, 3)) (kk : W p l e R s m args below meth c H locs cells slots Q (F0 m (pc + 3) ls (.ref x :: rest))) : W p l e R s m args below meth c H locs cells slots Q (F0 m pc ls (.ref a :: rest)) := by
  unfold gcO at hg
  split at hg
  · rename_i t n f he
    split at hg
    · rename_i ht
      subst ht
      cases hg
      rw [x_Kd hR 3] at kk
      have hat : H[a]? = some (vp_cell (D.2.1 7) (n, .inr (.inr (.inr (.inr f))))) := (hR.1.1.one he jk_ne_arr).2
      obtain ⟨kA, comp, r1, r2, r3, r4⟩ := (hC.2.2.1.2 7 _ rfl).2
      exact va_getC hx hb (by rw [hml]; exact hls.symm) hC.2.1 (hC.1 _ hl) (va_Dc.use hES.2.2.2.2.2.2.2.2.2.2) (hC.1 _ hsel) (hC.1 _ hinst) (hC.1 _ hnat) hES.2.2.2.2.2.2.2.2.2.1 ⟨_, hat, rfl, r4⟩ hframes hlocals hdg kk
    · cases hg
  · cases hg
theorem x_gsR {C n d : String} {index : Nat} (k : Nat) (hZ : va_Z C n d (.ref (D.2.2.2 k)) (zA z) s s.heap) (hl : Cond.fieldLink own index C n d ∈ lw_all) (hx : p.tables.exec = Jvm.exec) (hb : c.code = cc) (hC : Cx D z E s m args own) (hR : Rx D z w0 w s H locs) (hdg : decode cc pc = .ok (.getstatic index, 3)) (kk : W p l e R s m args below meth c H locs cells slots Q (F0 m (pc + 3) ls (.ref (w.2.2.2.2.2 k) :: rest))) : W p l e R s m args below meth c H locs cells slots Q (F0 m pc ls rest) := by
  rw [x_Kd hR k] at kk
  exact x_gets (ref := C) hZ hl hx hb hC hR hdg kk
theorem x_gsRN {C n d host : String} {index : Nat} (k : Nat) (hZ : va_Z C n d (.ref (D.2.2.2 k)) (zA z) s s.heap) (hEW : EW s) (hl : Cond.fieldLinkNest own index C n d host ∈ lw_tbl) (hx : p.tables.exec = Jvm.exec) (hb : c.code = cc) (hC : Cx D z E s m args own) (hR : Rx D z w0 w s H locs) (hdg : decode cc pc = .ok (.getstatic index, 3)) (kk : W p l e R s m args below meth c H locs cells slots Q (F0 m (pc + 3) ls (.ref (w.2.2.2.2.2 k) :: rest))) : W p l e R s m args below meth c H locs cells slots Q (F0 m pc ls rest) := by
  rw [x_Kd hR k] at kk
  exact x_getsN hZ hEW hl hx hb hC hR hdg kk
theorem x_gsN {C n d : String} {index : Nat} (k : Nat) (hZ : va_Z C n d (va_rf (nz (D.2.2.2 k))) (zA z) s s.heap) (hl : Cond.fieldLink own index C n d ∈ lw_all) (hx : p.tables.exec = Jvm.exec) (hb : c.code = cc) (hC : Cx D z E s m args own) (hR : Rx D z w0 w s H locs) (hdg : decode cc pc = .ok (.getstatic index, 3)) (kk : W p l e R s m args below meth c H locs cells slots Q (F0 m (pc + 3) ls (va_rf (nz (w.2.2.2.2.2 k)) :: rest))) : W p l e R s m args below meth c H locs cells slots Q (F0 m pc ls rest) := by
  rw [x_Kd hR k] at kk
  exact x_gets (ref := C) hZ hl hx hb hC hR hdg kk
theorem x_acmp_eq {x y : Nat} {off : Int} {tgt : Nat} (hx : p.tables.exec = Jvm.exec) (hb : c.code = cc) (hdg : decode cc pc = .ok (.if_acmp .eq off, 3)) (ht : (pc : Int) + off = (tgt : Int)) (kt : x = y → W p l e R s m args below meth c H locs cells slots Q (F0 m tgt ls rest)) (kf : ¬ x = y → W p l e R s m args below meth c H locs cells slots Q (F0 m (pc + 3) ls rest)) : W p l e R s m args below meth c H locs cells slots Q (F0 m pc ls (.ref y :: .ref x :: rest)) :=
  lv_acmp_eq (rx := some x) (ry := some y) hx hb hdg ht (fun h => kt (Option.some.inj h)) (fun h => kf (fun q => h (by rw [q])))
theorem x_acmp_ne {x y : Nat} {off : Int} {tgt : Nat} (hx : p.tables.exec = Jvm.exec) (hb : c.code = cc) (hdg : decode cc pc = .ok (.if_acmp .ne off, 3)) (ht : (pc : Int) + off = (tgt : Int)) (kt : ¬ x = y → W p l e R s m args below meth c H locs cells slots Q (F0 m tgt ls rest)) (kf : x = y → W p l e R s m args below meth c H locs cells slots Q (F0 m (pc + 3) ls rest)) : W p l e R s m args below meth c H locs cells slots Q (F0 m pc ls (.ref y :: .ref x :: rest)) :=
  lv_acmp_ne (rx := some x) (ry := some y) hx hb hdg ht (fun h => kt (fun q => h (by rw [q]))) (fun h => kf (Option.some.inj h))
end RowsO
