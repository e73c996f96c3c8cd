set_option maxRecDepth 100000
/-! the cells that lie there from the start, as the start state has them -/
def isStr (s : State) (z a t : Nat) : Prop := va_O "java/lang/String" a (zA z) s s.heap ∧ va_OF "java/lang/String" "value" "[B" (.ref t) a (zA z) s s.heap ∧ va_OF "java/lang/String" "coder" "B" (.int 0) a (zA z) s s.heap
def isByt (s : State) (z a : Nat) (q : Nat × (Nat → Int32)) : Prop := va_T .byte a q.1 (fun i => .int (q.2 i)) (zA z) s s.heap
def isObj (C : String) (s : State) (z a : Nat) (q : Nat × (Nat → Option Nat)) : Prop := va_T (.object C) a q.1 (fun i => va_rf (q.2 i)) (zA z) s s.heap
noncomputable def Kc (s : State) (z a : Nat) : cE :=
  @dite cE (∃ t, isStr s z a t) (Classical.propDecidable _) (fun h => .inr (26, [.ref (Classical.choose h), .int 0])) fun _ =>
  @dite cE (∃ q, isByt s z a q) (Classical.propDecidable _) (fun h => .inl (2, (Classical.choose h).1, .inl (Classical.choose h).2)) fun _ =>
  @dite cE (∃ q, isObj "java/lang/String" s z a q) (Classical.propDecidable _) (fun h => .inl (8, (Classical.choose h).1, .inr (.inr (.inr (.inr (Classical.choose h).2))))) fun _ =>
  @dite cE (∃ q, isObj "java/lang/Object" s z a q) (Classical.propDecidable _) (fun h => .inl (7, (Classical.choose h).1, .inr (.inr (.inr (.inr (Classical.choose h).2))))) fun _ => jk
theorem Kc_cases (s : State) (z a : Nat) : (∃ t, isStr s z a t ∧ Kc s z a = .inr (26, [.ref t, .int 0])) ∨ ((¬ ∃ t, isStr s z a t) ∧ ∃ q, isByt s z a q ∧ Kc s z a = .inl (2, q.1, .inl q.2)) ∨
    ((¬ ∃ t, isStr s z a t) ∧ (¬ ∃ q, isByt s z a q) ∧ ∃ q, isObj "java/lang/String" s z a q ∧ Kc s z a = .inl (8, q.1, .inr (.inr (.inr (.inr q.2))))) ∨
    ((¬ ∃ t, isStr s z a t) ∧ (¬ ∃ q, isByt s z a q) ∧ (¬ ∃ q, isObj "java/lang/String" s z a q) ∧ ∃ q, isObj "java/lang/Object" s z a q ∧ Kc s z a = .inl (7, q.1, .inr (.inr (.inr (.inr q.2))))) ∨ Kc s z a = jk := by
  unfold Kc
  split
  · rename_i h
    exact Or.inl ⟨_, Classical.choose_spec h, rfl⟩
  · rename_i h1
    split
    · rename_i h
      exact Or.inr (Or.inl ⟨h1, _, Classical.choose_spec h, rfl⟩)
    · rename_i h2
      split
      · rename_i h
        exact Or.inr (Or.inr (Or.inl ⟨h1, h2, _, Classical.choose_spec h, rfl⟩))
      · rename_i h3
        split
        · rename_i h
          exact Or.inr (Or.inr (Or.inr (Or.inl ⟨h1, h2, h3, _, Classical.choose_spec h, rfl⟩)))
        · exact Or.inr (Or.inr (Or.inr (Or.inr rfl)))
theorem KF_of {D : vG} {z : Nat} {s : State} (hD : D.2.2.1 = Kc s z) : KF D z s := by
  refine ⟨fun a fs h => ?_, fun a n f h => ?_, fun a n f h => ?_, fun a n f h => ?_⟩
  · rw [hD] at h
    rcases Kc_cases s z a with ⟨t, h1, h2⟩ | ⟨-, q, h1, h2⟩ | ⟨-, -, q, h1, h2⟩ | ⟨-, -, -, q, h1, h2⟩ | h2
    · rw [h2] at h; cases h
      exact ⟨h1.1, fun v hv => by cases hv; exact h1.2.1, fun v hv => by cases hv; exact h1.2.2, Nat.le_refl _⟩
    · rw [h2] at h; cases h
    · rw [h2] at h; cases h
    · rw [h2] at h; cases h
    · rw [h2] at h; cases h
  · rw [hD] at h
    rcases Kc_cases s z a with ⟨t, h1, h2⟩ | ⟨-, q, h1, h2⟩ | ⟨-, -, q, h1, h2⟩ | ⟨-, -, -, q, h1, h2⟩ | h2
    · rw [h2] at h; cases h
    · rw [h2] at h; cases h; exact h1
    · rw [h2] at h; cases h
    · rw [h2] at h; cases h
    · rw [h2] at h; cases h
  · rw [hD] at h
    rcases Kc_cases s z a with ⟨t, h1, h2⟩ | ⟨-, q, h1, h2⟩ | ⟨-, -, q, h1, h2⟩ | ⟨-, -, -, q, h1, h2⟩ | h2
    · rw [h2] at h; cases h
    · rw [h2] at h; cases h
    · rw [h2] at h; cases h; exact h1
    · rw [h2] at h; cases h
    · rw [h2] at h; cases h
  · rw [hD] at h
    rcases Kc_cases s z a with ⟨t, h1, h2⟩ | ⟨-, q, h1, h2⟩ | ⟨-, -, q, h1, h2⟩ | ⟨-, -, -, q, h1, h2⟩ | h2
    · rw [h2] at h; cases h
    · rw [h2] at h; cases h
    · rw [h2] at h; cases h
    · rw [h2] at h; cases h; exact h1
    · rw [h2] at h; cases h
