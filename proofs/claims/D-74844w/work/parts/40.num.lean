/-! NUMBERS: ints as zi, longs as zl, truth as bz -/
theorem zi_toInt {n : Int} (h1 : -2147483648 ≤ n) (h2 : n < 2147483648) : (zi n).toInt = n := Int32.toInt_ofInt_of_le (by simpa using h1) (by simpa using h2)
theorem zi_self (x : Int32) : zi x.toInt = x := Int32.ofInt_toInt x
theorem zi_rng (x : Int32) : -2147483648 ≤ x.toInt ∧ x.toInt < 2147483648 := ⟨by have := Int32.le_toInt x; omega, by have := Int32.toInt_lt x; omega⟩
theorem zi_lt {a b : Int} (h1 : -2147483648 ≤ a) (h2 : a < 2147483648) (h3 : -2147483648 ≤ b) (h4 : b < 2147483648) : (zi a < zi b) ↔ a < b := by
  rw [Int32.lt_iff_toInt_lt, zi_toInt h1 h2, zi_toInt h3 h4]
theorem zi_eq {a b : Int} (h1 : -2147483648 ≤ a) (h2 : a < 2147483648) (h3 : -2147483648 ≤ b) (h4 : b < 2147483648) : (zi a = zi b) ↔ a = b := by
  rw [← Int32.toInt_inj, zi_toInt h1 h2, zi_toInt h3 h4]
theorem zi_add (a b : Int) : zi a + zi b = zi (a + b) := (Int32.ofInt_add a b).symm
theorem zi_sub (a b : Int) : zi a - zi b = zi (a - b) := (Int32.ofInt_sub a b).symm
theorem zi_mul (a b : Int) : zi a * zi b = zi (a * b) := (Int32.ofInt_mul a b).symm
theorem zi_neg (a : Int) : -zi a = zi (-a) := (Int32.ofInt_neg a).symm
theorem zi_tdiv {a b : Int} (h1 : -2147483648 ≤ a) (h2 : a < 2147483648) (h3 : -2147483648 ≤ b) (h4 : b < 2147483648) : zi a / zi b = zi (a.tdiv b) := by
  unfold zi
  have e1 : Int32.maxValue.toInt = 2147483647 := by decide
  have e2 : Int32.minValue.toInt = -2147483648 := by decide
  exact (Int32.ofInt_tdiv (by omega) (by omega) (by omega) (by omega)).symm
theorem zi_div {a b : Int} (h1 : 0 ≤ a) (h2 : a < 2147483648) (h3 : 0 < b) (h4 : b < 2147483648) : zi a / zi b = zi (a / b) := by
  rw [zi_tdiv (by omega) h2 (by omega) h4, Int.tdiv_eq_ediv_of_nonneg h1]
theorem zi_rem {a b : Int} (h1 : 0 ≤ a) (h2 : a < 2147483648) (h3 : 0 < b) (h4 : b < 2147483648) : zi a - zi a / zi b * zi b = zi (a % b) := by
  rw [zi_div h1 h2 h3 h4, zi_mul, zi_sub, Int.emod_def, Int.mul_comm]
theorem zi_in {a : Int} {n : Nat} (h1 : -2147483648 ≤ a) (h2 : a < 2147483648) : cm_in (zi a) n = true ↔ 0 ≤ a ∧ a < n := by
  unfold cm_in
  rw [zi_toInt h1 h2, decide_eq_true_eq]
theorem zi_ix {a : Int} (h1 : -2147483648 ≤ a) (h2 : a < 2147483648) : cm_ix (zi a) = a.toNat := by
  unfold cm_ix
  rw [zi_toInt h1 h2]
theorem zn_ix {k : Nat} (h : k < 2147483648) : cm_ix (zi (k : Int)) = k := by
  rw [zi_ix (by omega) (by omega)]; rfl
theorem zn_in {k n : Nat} (h : k < n) (hn : n ≤ 2147483648) : cm_in (zi (k : Int)) n = true := (zi_in (by omega) (by omega)).mpr ⟨by omega, by omega⟩
theorem zi_l {n : Int} (h1 : -2147483648 ≤ n) (h2 : n < 2147483648) : (zi n).toInt64 = zl n := by
  apply Int64.toInt_inj.mp
  rw [Int32.toInt_toInt64, zi_toInt h1 h2]
  exact (Int64.toInt_ofInt_of_le (by omega) (by omega)).symm
theorem zl_i (n : Int) : (zl n).toInt32 = zi n := Int64.toInt32_ofInt
theorem zl_toInt {n : Int} (h1 : -9223372036854775808 ≤ n) (h2 : n < 9223372036854775808) : (zl n).toInt = n := Int64.toInt_ofInt_of_le (by simpa using h1) (by simpa using h2)
theorem zl_self (x : Int64) : zl x.toInt = x := Int64.ofInt_toInt x
theorem zl_lt {a b : Int} (h1 : -9223372036854775808 ≤ a) (h2 : a < 9223372036854775808) (h3 : -9223372036854775808 ≤ b) (h4 : b < 9223372036854775808) : (zl a < zl b) ↔ a < b := by
  rw [Int64.lt_iff_toInt_lt, zl_toInt h1 h2, zl_toInt h3 h4]
theorem zl_eq {a b : Int} (h1 : -9223372036854775808 ≤ a) (h2 : a < 9223372036854775808) (h3 : -9223372036854775808 ≤ b) (h4 : b < 9223372036854775808) : (zl a = zl b) ↔ a = b := by
  rw [← Int64.toInt_inj, zl_toInt h1 h2, zl_toInt h3 h4]
theorem zl_add (a b : Int) : zl a + zl b = zl (a + b) := (Int64.ofInt_add a b).symm
theorem zl_sub (a b : Int) : zl a - zl b = zl (a - b) := (Int64.ofInt_sub a b).symm
theorem zl_mul (a b : Int) : zl a * zl b = zl (a * b) := (Int64.ofInt_mul a b).symm
theorem zl_div {a b : Int} (h1 : 0 ≤ a) (h2 : a < 9223372036854775808) (h3 : 0 < b) (h4 : b < 9223372036854775808) : zl a / zl b = zl (a / b) := by
  unfold zl
  rw [← Int.tdiv_eq_ediv_of_nonneg h1]
  have e1 : Int64.maxValue.toInt = 9223372036854775807 := by decide
  have e2 : Int64.minValue.toInt = -9223372036854775808 := by decide
  exact (Int64.ofInt_tdiv (by omega) (by omega) (by omega) (by omega)).symm
theorem zl_rem {a b : Int} (h1 : 0 ≤ a) (h2 : a < 9223372036854775808) (h3 : 0 < b) (h4 : b < 9223372036854775808) : zl a - zl a / zl b * zl b = zl (a % b) := by
  rw [zl_div h1 h2 h3 h4, zl_mul, zl_sub, Int.emod_def, Int.mul_comm]
/-- truth as the machine has it -/
def bz (b : Bool) : Int32 := if b then zi 1 else zi 0
theorem bz_0 (b : Bool) : bz b = zi 0 ↔ b = false := by cases b <;> decide
theorem bz_1 (b : Bool) : bz b = zi 1 ↔ b = true := by cases b <;> decide
theorem bz_t : bz true = zi 1 := rfl
theorem bz_f : bz false = zi 0 := rfl
theorem bz_fit (b : Bool) : cm_fit 3 (bz b) = true := by cases b <;> decide
theorem bz_or (b : Bool) : bz b = 0 ∨ bz b = 1 := by cases b <;> decide
/-! reads of written stores -/
theorem u2_same {α : Type} (f : Nat → Nat → α) (a i : Nat) (v : α) : cm_u2 f a i v a i = v := by simp [cm_u2]
theorem u2_at {α : Type} (f : Nat → Nat → α) (a i : Nat) (v : α) (j : Nat) : cm_u2 f a i v a j = if j = i then v else f a j := by simp [cm_u2]
theorem u2_ne {α : Type} (f : Nat → Nat → α) (a i : Nat) (v : α) {b : Nat} (h : b ≠ a) (j : Nat) : cm_u2 f a i v b j = f b j := by simp [cm_u2, h]
theorem u2_nj {α : Type} (f : Nat → Nat → α) (a i : Nat) (v : α) (b : Nat) {j : Nat} (h : j ≠ i) : cm_u2 f a i v b j = f b j := by simp [cm_u2, h]
theorem u2_row {α : Type} (f : Nat → Nat → α) (a i : Nat) (v : α) {b : Nat} (h : b ≠ a) : cm_u2 f a i v b = f b := by funext j; exact u2_ne f a i v h j
