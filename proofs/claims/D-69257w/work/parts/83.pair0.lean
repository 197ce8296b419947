/-! ===== LEVEL 4: small laws for the pairs ===== -/
theorem i_lt {a b : Int32} : (a < b) = (a.toInt < b.toInt) := propext Int32.lt_iff_toInt_lt
theorem i_le {a b : Int32} : (a ≤ b) = (a.toInt ≤ b.toInt) := propext Int32.le_iff_toInt_le
theorem i_eq {a b : Int32} : (a = b) = (a.toInt = b.toInt) := propext Int32.toInt_inj.symm
theorem up1 {k b : Int32} (h : k < b) : (k + 1).toInt = k.toInt + 1 := by
  have h1 := Int32.lt_iff_toInt_lt.mp h
  have h2 := Int32.toInt_lt b
  have h3 := Int32.le_toInt k
  rw [Int32.toInt_add]
  exact Int.bmod_eq_of_le (by simp at h3 ⊢; omega) (by simp at h2 ⊢; omega)
theorem lp_0 {α β : Type} {f : α → Option (α ⊕ β)} {n : Nat} {a : α} {b : β} (h : f a = some (.inr b)) : lp f (n + 1) a = some b := by simp [lp, h]
theorem lp_s {α β : Type} {f : α → Option (α ⊕ β)} {n : Nat} {a a' : α} (h : f a = some (.inl a')) : lp f (n + 1) a = lp f n a' := by simp [lp, h]
/-- two loops side by side: at most n rounds are left -/
theorem lp_pair {α α' β β' : Type} {f : α → Option (α ⊕ β)} {g : α' → Option (α' ⊕ β')} (I : Nat → α → α' → Prop) (Q : β → β' → Prop)
    (step : ∀ n a a', I n a a' → (∃ b b', f a = some (.inr b) ∧ g a' = some (.inr b') ∧ Q b b') ∨ (∃ c c' m, m < n ∧ f a = some (.inl c) ∧ g a' = some (.inl c') ∧ I m c c')) :
    ∀ n k k' a a', I n a a' → n < k → n < k' → ∃ b b', lp f k a = some b ∧ lp g k' a' = some b' ∧ Q b b' := by
  intro n
  induction n using Nat.strongRecOn with
  | _ n ih =>
    intro k k' a a' hI hk hk'
    obtain ⟨k, rfl⟩ : ∃ j, k = j + 1 := ⟨k - 1, by omega⟩
    obtain ⟨k', rfl⟩ : ∃ j, k' = j + 1 := ⟨k' - 1, by omega⟩
    rcases step n a a' hI with ⟨b, b', h1, h2, h3⟩ | ⟨c, c', m, hm, h1, h2, h3⟩
    · exact ⟨b, b', lp_0 h1, lp_0 h2, h3⟩
    · rw [lp_s h1, lp_s h2]
      exact ih m hm k k' c c' h3 (by omega) (by omega)
/-- one loop -/
theorem lp_one {α β : Type} {f : α → Option (α ⊕ β)} (I : Nat → α → Prop) (Q : β → Prop)
    (step : ∀ n a, I n a → (∃ b, f a = some (.inr b) ∧ Q b) ∨ (∃ c m, m < n ∧ f a = some (.inl c) ∧ I m c)) :
    ∀ n k a, I n a → n < k → ∃ b, lp f k a = some b ∧ Q b := by
  intro n
  induction n using Nat.strongRecOn with
  | _ n ih =>
    intro k a hI hk
    obtain ⟨k, rfl⟩ : ∃ j, k = j + 1 := ⟨k - 1, by omega⟩
    rcases step n a hI with ⟨b, h1, h3⟩ | ⟨c, m, hm, h1, h3⟩
    · exact ⟨b, lp_0 h1, h3⟩
    · rw [lp_s h1]
      exact ih m hm k c h3 (by omega)
