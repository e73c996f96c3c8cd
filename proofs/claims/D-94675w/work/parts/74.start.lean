set_option maxRecDepth 100000
/-! what is told at the start is kept -/
theorem nw_tr {u U : State} {c : Cond} (hc : c.onTables = true) (h : c.before #[] (u.setVm U.vm) = true) : va_Nw c U := by
  have e := Cond.onTables_vm (A := #[]) (A' := #[]) (U := u) (U' := U) U.vm c hc
  have hU : U.setVm U.vm = U := rfl
  rw [hU] at e
  show c.before #[] U = true
  rw [← e]
  exact h
theorem E_keep {D : vG} {z : Nat} : Ek z (fun U => EW U ∧ ES D z U ∧ EX z U) := by
  intro s U hE hv hq
  obtain ⟨⟨a1, a2, a3, a4, a5, a6⟩, ⟨b1, b2, b3, b4, b5, b6, b7, b8, ⟨k1, k2, k3, k4⟩, b10, b11⟩, c1, c2, c3, c4, c5⟩ := hE
  have hal : s.vm.Alike U.vm := by
    rcases hv with h | h
    · exact h.alike
    · rw [h]; exact Vm.Alike.refl _
  have hq' : ∀ a : Nat, a < s.heap.size → ¬ zA z a → U.heap[a]? = s.heap[a]? := fun a _ h => hq a (Nat.lt_of_not_le h)
  refine ⟨⟨?_, ?_, ?_, ?_, ?_, ?_⟩, ⟨(b1.moved hal).kept hq', (b2.moved hal).kept hq', (b3.moved hal).kept hq', (b4.moved hal).kept hq', (b5.moved hal).kept hq', (b6.moved hal).kept hq', (b7.moved hal).kept hq', ?_, ⟨?_, ?_, ?_, ?_⟩, b10.moved hal, b11.moved hal⟩, ?_, (c2.moved hal).kept hq', (c3.moved hal).kept hq', ?_, ?_⟩
  · intro a i x h hm
    rcases hv with hW | hW
    · exact va_Nw.warmM hW (a1 a i x h hm)
    · exact va_Nw.same rfl hW.symm (a1 a i x h hm)
  · intro a i b n d h hm
    rcases hv with hW | hW
    · exact va_Nw.warmF hW (a2 a i b n d h hm)
    · exact va_Nw.same rfl hW.symm (a2 a i b n d h hm)
  · intro C T hm
    exact nw_tr (u := s) rfl (by rw [Cond.castable_setVm hal]; exact a3 C T hm)
  · intro C hm
    exact (a4 C hm).moved hal
  · intro C x y hx h1 h2 h3 h4 h5
    exact (a5 C x y hx h1 h2 h3 h4 h5).moved hx hal
  · intro x hm
    exact nw_tr (u := s) rfl (by rw [Cond.declares_setVm hal]; exact a6 x hm)
  · intro q hm
    rcases hv with hW | hW
    · exact (b8 q hm).warm hW
    · exact (b8 q hm).same hW
  · intro a fs h
    obtain ⟨h1, h2, h3, h4⟩ := k1 a fs h
    exact ⟨(h1.moved hal).kept hq', fun v hv => ((h2 v hv).moved hal).kept hq', fun v hv => ((h3 v hv).moved hal).kept hq', h4⟩
  · intro a n f h
    exact ((k2 a n f h).moved hal).kept hq'
  · intro a n f h
    exact ((k3 a n f h).moved hal).kept hq'
  · intro a n f h
    exact ((k4 a n f h).moved hal).kept hq'
  · intro C hm
    have h1 : (Cond.landsInDefault C yNot_ yNot_).before #[] (s.setVm U.vm) = true := (Cond.landsInDefault_setVm (args := #[]) hal (State.methodFound?_setVm hal _ _ _)).trans (c1 C hm)
    exact h1
  · obtain ⟨r, meth, hn, -⟩ := Cond.declares_spec (a6 _ q1127)
    exact nw_tr (u := s) rfl (by rw [Cond.interfaceMethod_setVm hal (r := r) hn (by decide)]; exact c4)
  · exact nw_tr (u := s) rfl (by rw [Cond.publicMethod_setVm hal]; exact c5)
