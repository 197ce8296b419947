/-! ===== numbers: ints and longs as Int32.ofInt z, Int64.ofInt z ===== -/
def i32 (z : Int) : Prop := -2147483648 ≤ z ∧ z ≤ 2147483647
def i64 (z : Int) : Prop := -9223372036854775808 ≤ z ∧ z ≤ 9223372036854775807
theorem nu_i {z : Int} (h1 : -2147483648 ≤ z) (h2 : z ≤ 2147483647) : (Int32.ofInt z).toInt = z := Int32.toInt_ofInt_of_le (by simpa using h1) (by simp; omega)
theorem nu_l {z : Int} (h1 : -9223372036854775808 ≤ z) (h2 : z ≤ 9223372036854775807) : (Int64.ofInt z).toInt = z := Int64.toInt_ofInt_of_le (by simpa using h1) (by simp; omega)
theorem nu_of (x : Int32) : ∃ z : Int, -2147483648 ≤ z ∧ z ≤ 2147483647 ∧ x = Int32.ofInt z := ⟨x.toInt, by have := x.le_toInt; simpa using this, by have := x.toInt_lt; simp at this; omega, by simp⟩
theorem nu_ofl (x : Int64) : ∃ z : Int, -9223372036854775808 ≤ z ∧ z ≤ 9223372036854775807 ∧ x = Int64.ofInt z := ⟨x.toInt, by have := x.le_toInt; simpa using this, by have := x.toInt_lt; simp at this; omega, by simp⟩
theorem nu_add (a b : Int) : Int32.ofInt a + Int32.ofInt b = Int32.ofInt (a + b) := (Int32.ofInt_add a b).symm
theorem nu_sub (a b : Int) : Int32.ofInt a - Int32.ofInt b = Int32.ofInt (a - b) := (Int32.ofInt_sub a b).symm
theorem nu_mul (a b : Int) : Int32.ofInt a * Int32.ofInt b = Int32.ofInt (a * b) := (Int32.ofInt_mul a b).symm
theorem nu_neg (a : Int) : -Int32.ofInt a = Int32.ofInt (-a) := (Int32.ofInt_neg a).symm
theorem nu_addl (a b : Int) : Int64.ofInt a + Int64.ofInt b = Int64.ofInt (a + b) := (Int64.ofInt_add a b).symm
theorem nu_subl (a b : Int) : Int64.ofInt a - Int64.ofInt b = Int64.ofInt (a - b) := (Int64.ofInt_sub a b).symm
theorem nu_mull (a b : Int) : Int64.ofInt a * Int64.ofInt b = Int64.ofInt (a * b) := (Int64.ofInt_mul a b).symm
theorem nu_negl (a : Int) : -Int64.ofInt a = Int64.ofInt (-a) := (Int64.ofInt_neg a).symm
theorem nu_lt {a b : Int} (h1 : -2147483648 ≤ a ∧ a ≤ 2147483647) (h2 : -2147483648 ≤ b ∧ b ≤ 2147483647) : (Int32.ofInt a < Int32.ofInt b) = (a < b) := by
  rw [Int32.lt_iff_toInt_lt, nu_i h1.1 h1.2, nu_i h2.1 h2.2]
theorem nu_le {a b : Int} (h1 : -2147483648 ≤ a ∧ a ≤ 2147483647) (h2 : -2147483648 ≤ b ∧ b ≤ 2147483647) : (Int32.ofInt a ≤ Int32.ofInt b) = (a ≤ b) := by
  rw [Int32.le_iff_toInt_le, nu_i h1.1 h1.2, nu_i h2.1 h2.2]
theorem nu_eq {a b : Int} (h1 : -2147483648 ≤ a ∧ a ≤ 2147483647) (h2 : -2147483648 ≤ b ∧ b ≤ 2147483647) : (Int32.ofInt a = Int32.ofInt b) = (a = b) := by
  rw [← Int32.toInt_inj, nu_i h1.1 h1.2, nu_i h2.1 h2.2]
theorem nu_0 : (0 : Int32) = Int32.ofInt 0 := by decide +kernel
theorem nu_lt0 {a : Int} (h1 : -2147483648 ≤ a ∧ a ≤ 2147483647) : (Int32.ofInt a < 0) = (a < 0) := by rw [nu_0]; exact nu_lt h1 (by omega)
theorem nu_le0 {a : Int} (h1 : -2147483648 ≤ a ∧ a ≤ 2147483647) : (Int32.ofInt a ≤ 0) = (a ≤ 0) := by rw [nu_0]; exact nu_le h1 (by omega)
theorem nu_eq0 {a : Int} (h1 : -2147483648 ≤ a ∧ a ≤ 2147483647) : (Int32.ofInt a = 0) = (a = 0) := by rw [nu_0]; exact nu_eq h1 (by omega)
theorem nu_ltl {a b : Int} (h1 : -9223372036854775808 ≤ a ∧ a ≤ 9223372036854775807) (h2 : -9223372036854775808 ≤ b ∧ b ≤ 9223372036854775807) : (Int64.ofInt a < Int64.ofInt b) = (a < b) := by
  rw [Int64.lt_iff_toInt_lt, nu_l h1.1 h1.2, nu_l h2.1 h2.2]
theorem nu_eql {a b : Int} (h1 : -9223372036854775808 ≤ a ∧ a ≤ 9223372036854775807) (h2 : -9223372036854775808 ≤ b ∧ b ≤ 9223372036854775807) : (Int64.ofInt a = Int64.ofInt b) = (a = b) := by
  rw [← Int64.toInt_inj, nu_l h1.1 h1.2, nu_l h2.1 h2.2]
theorem nu_i2l {a : Int} (h1 : -2147483648 ≤ a ∧ a ≤ 2147483647) : (Int32.ofInt a).toInt64 = Int64.ofInt a := by
  rw [← Int64.toInt_inj, Int32.toInt_toInt64, nu_i h1.1 h1.2, nu_l (by omega) (by omega)]
theorem nu_l2i (a : Int) : (Int64.ofInt a).toInt32 = Int32.ofInt a := by simp
theorem nu_nat (n : Nat) : Int32.ofNat n = Int32.ofInt (n : Int) := by
  rw [← Int32.ofInt_eq_ofNat]
theorem nu_ok2 {a : Int} (h : a = 0 ∨ a = 1) : pm_ok 2 (.int (Int32.ofInt a)) = true := by
  rcases h with rfl | rfl <;> decide +kernel
