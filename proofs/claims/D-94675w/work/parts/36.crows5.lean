set_option maxRecDepth 100000
/-! what lies there from the start: statics, string constants; reads of them -/
def nz (n : Nat) : Option Nat := if n = 0 then none else some (n - 1)
def strs_ : List (String × Nat × String × Nat) := [("TuneDoor", 470, "notes", 27), ("TuneDoor", 471, "long", 21), ("TuneDoor", 473, "tune", 36), ("TuneDoor", 474, "keep", 17), ("TuneDoor", 476, "place", 32), ("TuneDoor", 477, "note", 26), ("TuneDoor", 479, "kept", 18), ("TuneDoor", 480, "door", 13), ("TuneDoor", 481, "strict", 34), ("TuneDoor", 483, "window", 38), ("TuneDoor", 485, "pair", 30), ("TuneDoor", 487, "lip", 20), ("TuneDoor", 489, "reset", 33), ("TuneDoor", 491, "person", 31), ("TuneDoor", 493, "loses", 22), ("TuneDoor", 494, "errs", 14), ("TuneDoor", 495, "worth", 39), ("TuneDoor", 497, "when", 37), ("TuneDoor", 499, "or", 29), ("TuneDoor", 501, "and", 12), ("TuneDoor", 503, "not", 25), ("TuneDoor", 505, "all", 11), ("TuneDoor", 506, "sum", 35), ("TuneDoor", 507, "first", 15), ("TuneDoor", 508, "last", 19), ("TuneDoor", 510, "old", 28), ("TuneDoor", 512, "here", 16), ("TuneDoor", 514, "min", 24), ("TuneDoor", 515, "max", 23), ("TuneDoor$Asked", 21, "sum", 35), ("TuneDoor$Asked", 23, "first", 15), ("TuneDoor$Asked", 25, "last", 19), ("TuneDoor$Asked", 27, "old", 28), ("TuneDoor$Asked", 29, "here", 16), ("TuneDoor$Asked", 31, "kept", 18), ("TuneDoor$Reader", 138, "or", 29), ("TuneDoor$Reader", 157, "and", 12), ("TuneDoor$Reader", 159, "not", 25), ("TuneDoor$Reader", 180, "all", 11), ("TuneDoor$Reader", 232, "min", 24), ("TuneDoor$Reader", 234, "max", 23), ("TuneDoor$Reader", 271, "keep", 17), ("TuneDoor$Reader", 278, "when", 37), ("TuneDoor$Reader", 283, "strict", 34), ("TuneDoor$Reader", 288, "pair", 30), ("TuneDoor$Reader", 293, "window", 38), ("TuneDoor$Reader", 295, "lip", 20), ("TuneDoor$Reader", 297, "reset", 33), ("TuneDoor$Reader", 328, "door", 13), ("TuneDoor$Reader", 335, "tune", 36), ("TuneDoor$Reader", 339, "loses", 22), ("TuneDoor$Reader", 343, "errs", 14), ("TuneDoor$Reader", 355, "place", 32), ("TuneDoor$Reader", 364, "note", 26), ("TuneDoor$Reader", 369, "kept", 18), ("TuneDoor$Reader", 376, "person", 31), ("TuneDoor$Reader", 380, "worth", 39), ("TuneDoor$Reader", 388, "notes", 27), ("TuneDoor$Reader", 389, "long", 21), ("java/lang/String", 7, "", 10)]
def KF (D : vG) (z : Nat) (U : State) : Prop :=
  (∀ a fs, D.2.2.1 a = .inr (26, fs) → va_O "java/lang/String" a (zA z) U U.heap ∧ (∀ v, fs[0]? = some v → va_OF "java/lang/String" "value" "[B" v a (zA z) U U.heap) ∧ (∀ v, fs[1]? = some v → va_OF "java/lang/String" "coder" "B" v a (zA z) U U.heap) ∧ fs.length ≤ 2) ∧
  (∀ a n f, D.2.2.1 a = .inl (2, n, .inl f) → va_T .byte a n (fun i => .int (f i)) (zA z) U U.heap) ∧
  (∀ a n f, D.2.2.1 a = .inl (8, n, .inr (.inr (.inr (.inr f)))) → va_T (.object "java/lang/String") a n (fun i => va_rf (f i)) (zA z) U U.heap) ∧
  (∀ a n f, D.2.2.1 a = .inl (7, n, .inr (.inr (.inr (.inr f)))) → va_T (.object "java/lang/Object") a n (fun i => va_rf (f i)) (zA z) U U.heap)
def ES (D : vG) (z : Nat) (U : State) : Prop :=
  va_Z "TuneDoor" "OWN" "[Ljava/lang/String;" (.ref (D.2.2.2 0)) (zA z) U U.heap ∧ va_Z "TuneDoor$Asked" "WORDS" "[Ljava/lang/String;" (.ref (D.2.2.2 1)) (zA z) U U.heap ∧ va_Z "java/util/ArrayList" "DEFAULTCAPACITY_EMPTY_ELEMENTDATA" "[Ljava/lang/Object;" (.ref (D.2.2.2 2)) (zA z) U U.heap ∧ va_Z "java/lang/String" "COMPACT_STRINGS" "Z" (.int 1) (zA z) U U.heap ∧
  va_Z "jdk/internal/util/Preconditions" "SIOOBE_FORMATTER" "Ljava/util/function/BiFunction;" (va_rf (nz (D.2.2.2 4))) (zA z) U U.heap ∧ va_Z "java/lang/Throwable" "UNASSIGNED_STACK" "[Ljava/lang/StackTraceElement;" (va_rf (nz (D.2.2.2 5))) (zA z) U U.heap ∧ va_Z "java/lang/Throwable" "SUPPRESSED_SENTINEL" "Ljava/util/List;" (va_rf (nz (D.2.2.2 6))) (zA z) U U.heap ∧
  (∀ q ∈ strs_, vk_R q.1 q.2.1 q.2.2.1 (D.2.2.2 q.2.2.2) U) ∧ KF D z U ∧ va_Mi "[Ljava/lang/Object;" (D.2.2.2 3) U ∧ va_Dc U
/-- a cell that was made, or one from the start -/
def lk (w : AH) (a : Nat) : cE := match w.1 a with
  | .inr q => if q.1 = 9999 then w.2.2.2.2.1 a else .inr q
  | .inl q => .inl q
def gKR (w : AH) (a k : Nat) : Option Nat := match lk w a with
  | .inr q => if q.1 = 26 ∧ k < 2 then vR q.2[k]? else none
  | .inl _ => none
def gKI (w : AH) (a k : Nat) : Option Int32 := match lk w a with
  | .inr q => if q.1 = 26 ∧ k < 2 then vI q.2[k]? else none
  | .inl _ => none
def alB (w : AH) (a : Nat) (i : Int32) : Option Int32 := match lk w a with
  | .inl (t', n, .inl f) => if t' = 2 ∧ ¬ (i < 0 ∨ n ≤ i.toNatClampNeg) then some (f i.toNatClampNeg) else none
  | _ => none
def alK (w : AH) (a t : Nat) (i : Int32) : Option Nat := match lk w a with
  | .inl (t', n, .inr (.inr (.inr (.inr f)))) => if t' = t ∧ ¬ (i < 0 ∨ n ≤ i.toNatClampNeg) then f i.toNatClampNeg else none
  | _ => none
def lnB (w : AH) (a : Nat) : Option Int32 := match lk w a with
  | .inl (t', n, .inl _) => if t' = 2 then some (Int32.ofNat n) else none
  | _ => none
def lnK (w : AH) (a t : Nat) : Option Int32 := match lk w a with
  | .inl (t', n, .inr (.inr (.inr (.inr _)))) => if t' = t then some (Int32.ofNat n) else none
  | _ => none
theorem lk_eq (w : AH) (a : Nat) : (lk w a = w.1 a ∧ True) ∨ lk w a = w.2.2.2.2.1 a := by
  unfold lk
  split
  · rename_i q hq
    split
    · right; rfl
    · left; exact ⟨hq.symm, trivial⟩
  · rename_i q hq; left; exact ⟨hq.symm, trivial⟩
theorem gKR_eq {w : AH} {a k x : Nat} (h : gKR w a k = some x) : ∃ fs, lk w a = .inr (26, fs) ∧ k < 2 ∧ fs[k]? = some (.ref x) := by
  unfold gKR at h
  split at h
  · rename_i q hq
    split at h
    · rename_i h1; obtain ⟨c, fs⟩ := q; cases h1.1; exact ⟨fs, hq, h1.2, vR_eq h⟩
    · cases h
  · cases h
theorem gKI_eq {w : AH} {a k : Nat} {x : Int32} (h : gKI w a k = some x) : ∃ fs, lk w a = .inr (26, fs) ∧ k < 2 ∧ fs[k]? = some (.int x) := by
  unfold gKI at h
  split at h
  · rename_i q hq
    split at h
    · rename_i h1; obtain ⟨c, fs⟩ := q; cases h1.1; exact ⟨fs, hq, h1.2, vI_eq h⟩
    · cases h
  · cases h
theorem alB_eq {w : AH} {a : Nat} {i x : Int32} (h : alB w a i = some x) : ∃ n f, lk w a = .inl (2, n, .inl f) ∧ vp_in i n ∧ f i.toNatClampNeg = x := by
  unfold alB at h
  split at h
  · rename_i t' n f hq
    split at h
    · rename_i h1; cases h; rw [h1.1] at hq; exact ⟨n, f, hq, h1.2, rfl⟩
    · cases h
  · cases h
theorem alK_eq {w : AH} {a t : Nat} {i : Int32} {x : Nat} (h : alK w a t i = some x) : ∃ n f, lk w a = .inl (t, n, .inr (.inr (.inr (.inr f)))) ∧ vp_in i n ∧ f i.toNatClampNeg = some x := by
  unfold alK at h
  split at h
  · rename_i t' n f hq
    split at h
    · rename_i h1; rw [h1.1] at hq; exact ⟨n, f, hq, h1.2, h⟩
    · cases h
  · cases h
theorem lnB_eq {w : AH} {a : Nat} {x : Int32} (h : lnB w a = some x) : ∃ n f, lk w a = .inl (2, n, .inl f) ∧ Int32.ofNat n = x := by
  unfold lnB at h
  split at h
  · rename_i t' n f hq
    split at h
    · rename_i h1; cases h; rw [h1] at hq; exact ⟨n, f, hq, rfl⟩
    · cases h
  · cases h
theorem lnK_eq {w : AH} {a t : Nat} {x : Int32} (h : lnK w a t = some x) : ∃ n f, lk w a = .inl (t, n, .inr (.inr (.inr (.inr f)))) ∧ Int32.ofNat n = x := by
  unfold lnK at h
  split at h
  · rename_i t' n f hq
    split at h
    · rename_i h1; cases h; rw [h1] at hq; exact ⟨n, f, hq, rfl⟩
    · cases h
  · cases h
section RowsK
variable {p : Program} {l : Launch} {e : Env} {R : Room} {s : State} {m : MethodId} {args : Array Value} {below : List Frame} {meth : Method} {c : Code} {H : Heap} {locs : List Loc} {cells slots : Nat} {Q : State → Prop}
variable {cc : ByteArray} {pc : Nat} {ls : Array Slot} {rest st0 : List Value} {D : vG} {z : Nat} {E : State → Prop} {w0 w w1 : AH} {a nL : Nat} {own : String}
theorem x_kf {k index : Nat} {fs : List Value} {v : Value} (hf : FLk own index [26] k) (hk2 : k < 2) (hES : ES D z s) (hlk : lk w a = .inr (26, fs)) (hv : fs[k]? = some v) (hx : p.tables.exec = Jvm.exec) (hb : c.code = cc) (hC : Cx D z E s m args own) (hR : Rx D z w0 w s H locs) (hdg : decode cc pc = .ok (.getfield index, 3))
    (kk : W p l e R s m args below meth c H locs cells slots Q (F0 m (pc + 3) ls (v :: rest))) : W p l e R s m args below meth c H locs cells slots Q (F0 m pc ls (.ref a :: rest)) := by
  rcases lk_eq w a with ⟨h1, -⟩ | h1
  · exact x_get hf (List.mem_singleton.mpr rfl) (h1.symm.trans hlk) hv hx hb hC hR hdg kk
  · have hK := hR.1.1.2.1.2
    have h2 : D.2.2.1 a = .inr (26, fs) := by rw [← hK, ← h1]; exact hlk
    obtain ⟨-, q0, q1, q2⟩ := hES.2.2.2.2.2.2.2.2.1.1 a fs h2
    obtain ⟨C, T, N, ref, hc, hin, hkN, hl, hs⟩ := hf 26 (List.mem_singleton.mpr rfl)
    cases hc
    have hk3 : k = 0 ∨ k = 1 := by omega
    rcases hk3 with rfl | rfl
    · exact vk_getf hx hb (q0 v hv) hR.1.2 hC.2.1 (hC.1 _ hl) (FLk.same hC.1 hs) hdg kk
    · exact vk_getf hx hb (q1 v hv) hR.1.2 hC.2.1 (hC.1 _ hl) (FLk.same hC.1 hs) hdg kk
theorem x_gKR {k index x : Nat} (hf : FLk own index [26] k) (hES : ES D z s) (hg : gKR w a k = some x) (hx : p.tables.exec = Jvm.exec) (hb : c.code = cc) (hC : Cx D z E s m args own) (hR : Rx D z w0 w s H locs) (hdg : decode cc pc = .ok (.getfield index, 3))
    (kk : W p l e R s m args below meth c H locs cells slots Q (F0 m (pc + 3) ls (.ref x :: rest))) : W p l e R s m args below meth c H locs cells slots Q (F0 m pc ls (.ref a :: rest)) := by
  obtain ⟨fs, h1, h2, h3⟩ := gKR_eq hg
  exact x_kf hf h2 hES h1 h3 hx hb hC hR hdg kk
theorem x_gKI {k index : Nat} {x : Int32} (hf : FLk own index [26] k) (hES : ES D z s) (hg : gKI w a k = some x) (hx : p.tables.exec = Jvm.exec) (hb : c.code = cc) (hC : Cx D z E s m args own) (hR : Rx D z w0 w s H locs) (hdg : decode cc pc = .ok (.getfield index, 3))
    (kk : W p l e R s m args below meth c H locs cells slots Q (F0 m (pc + 3) ls (.int x :: rest))) : W p l e R s m args below meth c H locs cells slots Q (F0 m pc ls (.ref a :: rest)) := by
  obtain ⟨fs, h1, h2, h3⟩ := gKI_eq hg
  exact x_kf hf h2 hES h1 h3 hx hb hC hR hdg kk
theorem x_bald {i x : Int32} (hES : ES D z s) (hg : alB w a i = some x) (hx : p.tables.exec = Jvm.exec) (hb : c.code = cc) (hC : Cx D z E s m args own) (hR : Rx D z w0 w s H locs) (hdg : decode cc pc = .ok (.baload, 1)) (kk : W p l e R s m args below meth c H locs cells slots Q (F0 m (pc + 1) ls (.int x :: rest))) : W p l e R s m args below meth c H locs cells slots Q (F0 m pc ls (.int i :: .ref a :: rest)) := by
  obtain ⟨n, f, h1, h2, rfl⟩ := alB_eq hg
  rcases lk_eq w a with ⟨h3, -⟩ | h3
  · exact va_bald hx hb hC.2.2.1 (hR.1.1.P (h3.symm.trans h1) jk_ne_arr) 0 2 rfl rfl h2 hdg kk
  · have hK := hR.1.1.2.1.2
    exact va_tb hx hb (hES.2.2.2.2.2.2.2.2.1.2.1 a n f (by rw [← hK, ← h3]; exact h1)) hR.1.2 h2 rfl hdg kk
theorem x_kald (t : Nat) {C : String} (ht : (tys_ D.2.1)[t]? = some (D.2.1 t, .object C)) (hkt : ∀ n f, D.2.2.1 a = .inl (t, n, .inr (.inr (.inr (.inr f)))) → va_T (.object C) a n (fun i => va_rf (f i)) (zA z) s s.heap) {i : Int32} {x : Nat} (hg : alK w a t i = some x) (hx : p.tables.exec = Jvm.exec) (hb : c.code = cc) (hC : Cx D z E s m args own) (hR : Rx D z w0 w s H locs) (hdg : decode cc pc = .ok (.aaload, 1)) (kk : W p l e R s m args below meth c H locs cells slots Q (F0 m (pc + 1) ls (.ref x :: rest))) : W p l e R s m args below meth c H locs cells slots Q (F0 m pc ls (.int i :: .ref a :: rest)) := by
  obtain ⟨n, f, h1, h2, h4⟩ := alK_eq hg
  rcases lk_eq w a with ⟨h3, -⟩ | h3
  · refine va_aldq hx hb hC.2.2.1 (hR.1.1.P (h3.symm.trans h1) jk_ne_arr) 0 t rfl ht h2 hdg ?_
    rw [h4]; exact kk
  · have hK := hR.1.1.2.1.2
    exact vb_tq hx hb (hkt n f (by rw [← hK, ← h3]; exact h1)) hR.1.2 h2 (v := .ref x) (by rw [h4]; rfl) hdg kk
/-- an array of String that lies there from the start -/
theorem x_kald8 {i : Int32} {x : Nat} (hES : ES D z s) (hw : ∀ n f, w.1 a ≠ .inl (8, n, f)) (hg : alK w a 8 i = some x) (hx : p.tables.exec = Jvm.exec) (hb : c.code = cc) (hR : Rx D z w0 w s H locs) (hdg : decode cc pc = .ok (.aaload, 1)) (kk : W p l e R s m args below meth c H locs cells slots Q (F0 m (pc + 1) ls (.ref x :: rest))) : W p l e R s m args below meth c H locs cells slots Q (F0 m pc ls (.int i :: .ref a :: rest)) := by
  obtain ⟨n, f, h1, h2, h4⟩ := alK_eq hg
  rcases lk_eq w a with ⟨h3, -⟩ | h3
  · exact absurd (h3.symm.trans h1) (hw _ _)
  · have hK := hR.1.1.2.1.2
    exact vb_tq hx hb (hES.2.2.2.2.2.2.2.2.1.2.2.1 a n f (by rw [← hK, ← h3]; exact h1)) hR.1.2 h2 (v := .ref x) (by rw [h4]; rfl) hdg kk
theorem x_blen {x : Int32} (hES : ES D z s) (hg : lnB w a = some x) (hx : p.tables.exec = Jvm.exec) (hb : c.code = cc) (hC : Cx D z E s m args own) (hR : Rx D z w0 w s H locs) (hdg : decode cc pc = .ok (.arraylength, 1)) (kk : W p l e R s m args below meth c H locs cells slots Q (F0 m (pc + 1) ls (.int x :: rest))) : W p l e R s m args below meth c H locs cells slots Q (F0 m pc ls (.ref a :: rest)) := by
  obtain ⟨n, f, h1, h2⟩ := lnB_eq hg
  rcases lk_eq w a with ⟨h3, -⟩ | h3
  · exact va_alen hx hb hC.2.2.1 (hR.1.1.P (h3.symm.trans h1) jk_ne_arr) 0 2 rfl rfl h2 hdg kk
  · have hK := hR.1.1.2.1.2
    exact va_tlen hx hb (hES.2.2.2.2.2.2.2.2.1.2.1 a n f (by rw [← hK, ← h3]; exact h1)) hR.1.2 h2 hdg kk
theorem x_klen (t : Nat) {C : String} (ht : (tys_ D.2.1)[t]? = some (D.2.1 t, .object C)) (hkt : ∀ n f, D.2.2.1 a = .inl (t, n, .inr (.inr (.inr (.inr f)))) → va_T (.object C) a n (fun i => va_rf (f i)) (zA z) s s.heap) {x : Int32} (hg : lnK w a t = some x) (hx : p.tables.exec = Jvm.exec) (hb : c.code = cc) (hC : Cx D z E s m args own) (hR : Rx D z w0 w s H locs) (hdg : decode cc pc = .ok (.arraylength, 1)) (kk : W p l e R s m args below meth c H locs cells slots Q (F0 m (pc + 1) ls (.int x :: rest))) : W p l e R s m args below meth c H locs cells slots Q (F0 m pc ls (.ref a :: rest)) := by
  obtain ⟨n, f, h1, h2⟩ := lnK_eq hg
  rcases lk_eq w a with ⟨h3, -⟩ | h3
  · exact va_alen hx hb hC.2.2.1 (hR.1.1.P (h3.symm.trans h1) jk_ne_arr) 0 t rfl ht h2 hdg kk
  · have hK := hR.1.1.2.1.2
    exact va_tlen hx hb (hkt n f (by rw [← hK, ← h3]; exact h1)) hR.1.2 h2 hdg kk
theorem x_klen8 {x : Int32} (hES : ES D z s) (hw : ∀ n f, w.1 a ≠ .inl (8, n, f)) (hg : lnK w a 8 = some x) (hx : p.tables.exec = Jvm.exec) (hb : c.code = cc) (hR : Rx D z w0 w s H locs) (hdg : decode cc pc = .ok (.arraylength, 1)) (kk : W p l e R s m args below meth c H locs cells slots Q (F0 m (pc + 1) ls (.int x :: rest))) : W p l e R s m args below meth c H locs cells slots Q (F0 m pc ls (.ref a :: rest)) := by
  obtain ⟨n, f, h1, h2⟩ := lnK_eq hg
  rcases lk_eq w a with ⟨h3, -⟩ | h3
  · exact absurd (h3.symm.trans h1) (hw _ _)
  · have hK := hR.1.1.2.1.2
    exact va_tlen hx hb (hES.2.2.2.2.2.2.2.2.1.2.2.1 a n f (by rw [← hK, ← h3]; exact h1)) hR.1.2 h2 hdg kk
theorem x_bast {i x : Int32} (hg : asI w a 2 i (vp_nar .byte x) = some w1) (hx : p.tables.exec = Jvm.exec) (hb : c.code = cc) (hC : Cx D z E s m args own) (hR : Rx D z w0 w s H locs) (hdg : decode cc pc = .ok (.bastore, 1)) (kk : ∀ (H1 : Heap) (locs1 : List Loc), Rx D z w0 w1 s H1 locs1 → W p l e R s m args below meth c H1 locs1 (uc w0 w1) (us w0 w1) Q (F0 m (pc + 1) ls rest)) : W p l e R s m args below meth c H locs (uc w0 w) (us w0 w) Q (F0 m pc ls (.int x :: .int i :: .ref a :: rest)) := by
  obtain ⟨n, f, h1, h2, rfl⟩ := asI_eq hg
  have hat := (hR.1.1.one h1 jk_ne_arr).2
  refine W.bast hx hb hat ((hC.2.2.1.2 2 _ rfl).1 n (fun j => .int (f j))) (fun q => by cases q) (by show ¬ (i < 0 ∨ (arrV _ _ _).slots.size ≤ _); rw [arrV_size]; exact h2) rfl rfl hdg fun H1 e z oq => ?_
  refine kk H1 _ ⟨hR.1.put h1 jk_ne_arr ?_ z oq, hR.2⟩
  show H1[a]? = some (vp_cell _ _)
  rw [e, vp_cell_i, vp_cell_i, arrV_store]
  congr 2
  funext q
  by_cases hq : q = i.toNatClampNeg
  · subst hq; simp [updV, va_up, vp_nar]; try rfl
  · simp [updV, va_up, hq]
theorem x_gets {C n d ref : String} {v : Value} {index : Nat} (hZ : va_Z C n d v (zA z) s s.heap) (hl : Cond.fieldLink own index C n d ∈ lw_all) (hx : p.tables.exec = Jvm.exec) (hb : c.code = cc) (hC : Cx D z E s m args own) (hR : Rx D z w0 w s H locs) (hdg : decode cc pc = .ok (.getstatic index, 3)) (kk : W p l e R s m args below meth c H locs cells slots Q (F0 m (pc + 3) ls (v :: rest))) : W p l e R s m args below meth c H locs cells slots Q (F0 m pc ls rest) :=
  va_gets hx hb hZ hR.1.2 hC.2.1 (hC.1 _ hl) (fun _ h => h) hdg kk
theorem x_getsN {C n d host : String} {v : Value} {index : Nat} (hZ : va_Z C n d v (zA z) s s.heap) (hEW : EW s) (hl : Cond.fieldLinkNest own index C n d host ∈ lw_tbl) (hx : p.tables.exec = Jvm.exec) (hb : c.code = cc) (hC : Cx D z E s m args own) (hR : Rx D z w0 w s H locs) (hdg : decode cc pc = .ok (.getstatic index, 3)) (kk : W p l e R s m args below meth c H locs cells slots Q (F0 m (pc + 3) ls (v :: rest))) : W p l e R s m args below meth c H locs cells slots Q (F0 m pc ls rest) :=
  va_getsN hx hb hZ hR.1.2 hC.2.1 (va_Nw.use rfl (hEW.2.1 _ _ _ _ _ _ hl)) (fun _ h => h) hdg kk
theorem x_Kd (hR : Rx D z w0 w s H locs) (k : Nat) : w.2.2.2.2.2 k = D.2.2.2 k := by rw [hR.1.1.2.1.2]
theorem x_ldcS {index k : Nat} {tx : String} (hES : ES D z s) (hq : (own, index, tx, k) ∈ strs_) (hx : p.tables.exec = Jvm.exec) (hb : c.code = cc) (hC : Cx D z E s m args own) (hR : Rx D z w0 w s H locs) (hdg : decode cc pc = .ok (.ldc index, 2)) (kk : W p l e R s m args below meth c H locs cells slots Q (F0 m (pc + 2) ls (.ref (w.2.2.2.2.2 k) :: rest))) : W p l e R s m args below meth c H locs cells slots Q (F0 m pc ls rest) := by
  rw [x_Kd hR k] at kk
  exact va_ldcS hx hb hC.2.1 (hES.2.2.2.2.2.2.2.1 _ hq) hdg kk
end RowsK
