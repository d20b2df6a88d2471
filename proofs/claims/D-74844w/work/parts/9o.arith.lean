/-! PURE: the high half of a product -/
theorem zl_bv (n : Int) : (zl n).toBitVec = BitVec.ofInt 64 n := rfl
theorem zl_of (x : Int64) : x = zl x.toBitVec.toInt := (Int64.ofInt_toInt x).symm
theorem zl_s32 {n : Int} (h1 : -9223372036854775808 ≤ n) (h2 : n < 9223372036854775808) : zl n >>> ((zi 32).toInt64 &&& 63) = zl (n / 4294967296) := by
  have e : ((zi 32).toInt64 &&& 63 : Int64) = 32 := by decide
  rw [e]
  apply Int64.toInt_inj.mp
  rw [zl_toInt (by omega) (by omega)]
  have : (zl n >>> (32 : Int64)).toBitVec = (zl n).toBitVec.sshiftRight 32 := rfl
  rw [← Int64.toInt_toBitVec, this, BitVec.toInt_sshiftRight, Int64.toInt_toBitVec, zl_toInt h1 h2, Int.shiftRight_eq_div_pow]
  rfl
theorem zl_s63 {n : Int} (h1 : -9223372036854775808 ≤ n) (h2 : n < 9223372036854775808) : zl n >>> ((zi 63).toInt64 &&& 63) = zl (n / 9223372036854775808) := by
  have e : ((zi 63).toInt64 &&& 63 : Int64) = 63 := by decide
  rw [e]
  apply Int64.toInt_inj.mp
  rw [zl_toInt (by omega) (by omega)]
  have : (zl n >>> (63 : Int64)).toBitVec = (zl n).toBitVec.sshiftRight 63 := rfl
  rw [← Int64.toInt_toBitVec, this, BitVec.toInt_sshiftRight, Int64.toInt_toBitVec, zl_toInt h1 h2, Int.shiftRight_eq_div_pow]
  rfl
theorem zl_nat (n : Int) : (zl n).toBitVec.toNat = (n % 18446744073709551616).toNat := by
  rw [zl_bv, BitVec.toNat_ofInt]; rfl
theorem zl_and (n : Int) : zl n &&& zl 4294967295 = zl (n % 4294967296) := by
  apply Int64.toBitVec_inj.mp
  apply BitVec.eq_of_toNat_eq
  rw [Int64.toBitVec_and, BitVec.toNat_and, zl_nat, zl_nat, zl_nat]
  rw [show ((4294967295 : Int) % 18446744073709551616).toNat = 2 ^ 32 - 1 from by decide, Nat.and_two_pow_sub_one_eq_mod]
  omega
theorem zl_u32 {n : Int} (h1 : 0 ≤ n) (h2 : n < 18446744073709551616) : ((zl n).toUInt64 >>> ((zi 32).toInt64.toUInt64 &&& Int64.toUInt64 63)).toInt64 = zl (n / 4294967296) := by
  have e : ((zi 32).toInt64.toUInt64 &&& Int64.toUInt64 63) = 32 := by decide
  rw [e]
  apply Int64.toBitVec_inj.mp
  apply BitVec.eq_of_toNat_eq
  have : ((zl n).toUInt64 >>> (32 : UInt64)).toInt64.toBitVec = (zl n).toBitVec >>> (32 : Nat) := rfl
  rw [this, BitVec.toNat_ushiftRight, zl_nat, zl_nat, Nat.shiftRight_eq_div_pow]
  omega
/-- bounds of a product -/
theorem mul_bd {x y l h n : Int} (h1 : -l ≤ x) (h2 : x ≤ h) (h3 : 0 ≤ y) (h4 : y ≤ n) (hl : 0 ≤ l) (hh : 0 ≤ h) : -(l * n) ≤ x * y ∧ x * y ≤ h * n := by
  have a : x * y ≤ h * y := Int.mul_le_mul_of_nonneg_right h2 h3
  have b : h * y ≤ h * n := Int.mul_le_mul_of_nonneg_left h4 hh
  have b2 : l * y ≤ l * n := Int.mul_le_mul_of_nonneg_left h4 hl
  have c : (-l) * y ≤ x * y := Int.mul_le_mul_of_nonneg_right h1 h3
  rw [Int.neg_mul] at c
  omega
theorem mul_hi (A B : Int) (hA : -9223372036854775808 ≤ A ∧ A < 9223372036854775808) (hB : -9223372036854775808 ≤ B ∧ B < 9223372036854775808) :
    ((zl A >>> ((zi 32).toInt64 &&& 63)) * (zl B >>> ((zi 32).toInt64 &&& 63))) + ((((zl A >>> ((zi 32).toInt64 &&& 63)) * (zl B &&& (zl 4294967295))) + ((((zl A &&& (zl 4294967295)) * (zl B &&& (zl 4294967295))).toUInt64 >>> ((zi 32).toInt64.toUInt64 &&& Int64.toUInt64 63)).toInt64)) >>> ((zi 32).toInt64 &&& 63)) + ((((((zl A >>> ((zi 32).toInt64 &&& 63)) * (zl B &&& (zl 4294967295))) + ((((zl A &&& (zl 4294967295)) * (zl B &&& (zl 4294967295))).toUInt64 >>> ((zi 32).toInt64.toUInt64 &&& Int64.toUInt64 63)).toInt64)) &&& (zl 4294967295)) + ((zl A &&& (zl 4294967295)) * (zl B >>> ((zi 32).toInt64 &&& 63)))) >>> ((zi 32).toInt64 &&& 63))
    = zl (A * B / 18446744073709551616) := by
  rw [zl_s32 hA.1 hA.2, zl_s32 hB.1 hB.2, zl_and, zl_and]
  obtain ⟨a1, ea1⟩ : ∃ a1, a1 = A / 4294967296 := ⟨_, rfl⟩
  obtain ⟨a0, ea0⟩ : ∃ a0, a0 = A % 4294967296 := ⟨_, rfl⟩
  obtain ⟨b1, eb1⟩ : ∃ b1, b1 = B / 4294967296 := ⟨_, rfl⟩
  obtain ⟨b0, eb0⟩ : ∃ b0, b0 = B % 4294967296 := ⟨_, rfl⟩
  rw [← ea1, ← ea0, ← eb1, ← eb0]
  have hAe : A = a1 * 4294967296 + a0 := by omega
  have hBe : B = b1 * 4294967296 + b0 := by omega
  have p00 := mul_bd (x := a0) (y := b0) (l := 4294967295) (h := 4294967295) (n := 4294967295) (by omega) (by omega) (by omega) (by omega) (by omega) (by omega)
  have p10 := mul_bd (x := a1) (y := b0) (l := 2147483648) (h := 2147483647) (n := 4294967295) (by omega) (by omega) (by omega) (by omega) (by omega) (by omega)
  have p01 := mul_bd (x := b1) (y := a0) (l := 2147483648) (h := 2147483647) (n := 4294967295) (by omega) (by omega) (by omega) (by omega) (by omega) (by omega)
  have p00n : 0 ≤ a0 * b0 := Int.mul_nonneg (by omega) (by omega)
  rw [Int.mul_comm b1 a0] at p01
  have eAB : A * B = a1 * b1 * 18446744073709551616 + (a1 * b0 + a0 * b1) * 4294967296 + a0 * b0 := by
    rw [hAe, hBe, Int.add_mul, Int.mul_add, Int.mul_add]
    have e1 : a1 * 4294967296 * (b1 * 4294967296) = a1 * b1 * 18446744073709551616 := by
      rw [Int.mul_assoc, Int.mul_comm 4294967296, Int.mul_assoc b1, ← Int.mul_assoc]; rfl
    have e2 : a1 * 4294967296 * b0 = a1 * b0 * 4294967296 := by rw [Int.mul_assoc, Int.mul_comm 4294967296, ← Int.mul_assoc]
    have e3 : a0 * (b1 * 4294967296) = a0 * b1 * 4294967296 := by rw [Int.mul_assoc]
    rw [e1, e2, e3]; omega
  rw [eAB]
  simp only [zl_mul]
  generalize a1 * b1 = p11 at *
  generalize a1 * b0 = q10 at *
  generalize a0 * b1 = q01 at *
  generalize a0 * b0 = q00 at *
  rw [zl_u32 p00n (by omega)]
  simp only [zl_add]
  rw [zl_s32 (by omega) (by omega), zl_and, zl_add, zl_add, zl_s32 (by omega) (by omega), zl_add]
  congr 1
  omega
theorem mul_high (x y : Int64) :
    ((((x >>> ((zi 32).toInt64 &&& 63)) * (y >>> ((zi 32).toInt64 &&& 63))) + ((((x >>> ((zi 32).toInt64 &&& 63)) * (y &&& (zl 4294967295))) + ((((x &&& (zl 4294967295)) * (y &&& (zl 4294967295))).toUInt64 >>> ((zi 32).toInt64.toUInt64 &&& Int64.toUInt64 63)).toInt64)) >>> ((zi 32).toInt64 &&& 63))) + ((((((x >>> ((zi 32).toInt64 &&& 63)) * (y &&& (zl 4294967295))) + ((((x &&& (zl 4294967295)) * (y &&& (zl 4294967295))).toUInt64 >>> ((zi 32).toInt64.toUInt64 &&& Int64.toUInt64 63)).toInt64)) &&& (zl 4294967295)) + ((x &&& (zl 4294967295)) * (y >>> ((zi 32).toInt64 &&& 63)))) >>> ((zi 32).toInt64 &&& 63)) = (x * y) >>> ((zi 63).toInt64 &&& 63)) ↔ (-9223372036854775808 ≤ x.toInt * y.toInt ∧ x.toInt * y.toInt < 9223372036854775808) := by
  have hx : -9223372036854775808 ≤ x.toInt ∧ x.toInt < 9223372036854775808 := ⟨by have := Int64.le_toInt x; omega, by have := Int64.toInt_lt x; omega⟩
  have hy : -9223372036854775808 ≤ y.toInt ∧ y.toInt < 9223372036854775808 := ⟨by have := Int64.le_toInt y; omega, by have := Int64.toInt_lt y; omega⟩
  have key := mul_hi x.toInt y.toInt hx hy
  rw [zl_self, zl_self] at key
  rw [key]
  have bd : -(9223372036854775808 * 9223372036854775808) ≤ x.toInt * y.toInt ∧ x.toInt * y.toInt ≤ 9223372036854775808 * 9223372036854775808 := by
    by_cases c : 0 ≤ y.toInt
    · exact mul_bd (by omega) (by omega) c (by omega) (by omega) (by omega)
    · have := mul_bd (x := -x.toInt) (y := -y.toInt) (l := 9223372036854775808) (h := 9223372036854775808) (n := 9223372036854775808) (by omega) (by omega) (by omega) (by omega) (by omega) (by omega)
      rw [Int.neg_mul_neg] at this
      exact this
  have em : x * y = zl (x.toInt * y.toInt) := by rw [← zl_mul, zl_self, zl_self]
  have et : (x * y).toInt = (x.toInt * y.toInt).bmod 18446744073709551616 := Int64.toInt_mul x y
  have eb := Int.bmod_def (x.toInt * y.toInt) 18446744073709551616
  rw [← et] at eb
  have hm : -9223372036854775808 ≤ (x * y).toInt ∧ (x * y).toInt < 9223372036854775808 := ⟨by have := Int64.le_toInt (x * y); omega, by have := Int64.toInt_lt (x * y); omega⟩
  rw [← zl_self (x * y), zl_s63 hm.1 hm.2]
  generalize x.toInt * y.toInt = P at *
  generalize (x * y).toInt = m at *
  rw [zl_eq (by omega) (by omega) (by omega) (by omega)]
  split at eb <;> omega
