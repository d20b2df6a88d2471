/-! JDK: Long.bitCount -/
def tn (w : Int64) : Nat := w.toBitVec.toNat
theorem tn_lt (w : Int64) : tn w < 2 ^ 64 := w.toBitVec.isLt
theorem tn_and (a b : Int64) : tn (a &&& b) = tn a &&& tn b := by unfold tn; rw [Int64.toBitVec_and, BitVec.toNat_and]
theorem tn_add {a b : Int64} (h : tn a + tn b < 2 ^ 64) : tn (a + b) = tn a + tn b := by unfold tn at *; rw [Int64.toBitVec_add, BitVec.toNat_add, Nat.mod_eq_of_lt h]
theorem tn_sub {a b : Int64} (h : tn b ≤ tn a) : tn (a - b) = tn a - tn b := by
  have h1 := tn_lt a
  unfold tn at *
  rw [Int64.toBitVec_sub, BitVec.toNat_sub]
  have e : 2 ^ 64 - b.toBitVec.toNat + a.toBitVec.toNat = a.toBitVec.toNat - b.toBitVec.toNat + 2 ^ 64 := (by omega)
  rw [e, Nat.add_mod_right, Nat.mod_eq_of_lt (by omega)]
def shL (x : Int64) (n : Int) : Int64 := (x.toUInt64 >>> ((zi n).toInt64.toUInt64 &&& Int64.toUInt64 63)).toInt64
theorem tn_sh {x : Int64} {n : Int} {k : Nat} (h : (((zi n).toInt64.toUInt64 &&& Int64.toUInt64 63).toBitVec % 64).toNat = k) : tn (shL x n) = tn x / 2 ^ k := by
  unfold tn shL
  rw [UInt64.toBitVec_toInt64, UInt64.toBitVec_shiftRight, Int64.toBitVec_toUInt64, BitVec.ushiftRight_eq', h, BitVec.toNat_ushiftRight, Nat.shiftRight_eq_div_pow]
def pp1 (x : Int64) : Int64 := x - (shL x 1 &&& zl 6148914691236517205)
def pp2 (x : Int64) : Int64 := (x &&& zl 3689348814741910323) + (shL x 2 &&& zl 3689348814741910323)
def pp3 (x : Int64) : Int64 := (x + shL x 4) &&& zl 1085102592571150095
def pp4 (x : Int64) : Int64 := x + shL x 8
def pp5 (x : Int64) : Int64 := x + shL x 16
def pp6 (x : Int64) : Int64 := x + shL x 32
theorem tn_85 : tn (zl 6148914691236517205) = rep 85 8 := by decide +kernel
theorem tn_51 : tn (zl 3689348814741910323) = rep 51 8 := by decide +kernel
theorem tn_15 : tn (zl 1085102592571150095) = rep 15 8 := by decide +kernel
theorem rep_51 : rep 51 8 = 3689348814741910323 := by decide +kernel
theorem tn_p1 (x : Int64) : tn (pp1 x) = pw1 8 (tn x) := by
  have e : tn (shL x 1 &&& zl 6148914691236517205) = tn x / 2 &&& rep 85 8 := by rw [tn_and, tn_85, tn_sh (k := 1) (by decide)]
  unfold pp1 pw1
  rw [tn_sub, e]
  rw [e]
  exact Nat.le_trans Nat.and_le_left (Nat.div_le_self _ _)
theorem tn_p2 (x : Int64) : tn (pp2 x) = pw2 8 (tn x) ∧ tn (pp2 x) ≤ 7378697629483820646 := by
  have e : tn (shL x 2 &&& zl 3689348814741910323) = tn x / 4 &&& rep 51 8 := by rw [tn_and, tn_51, tn_sh (k := 2) (by decide)]
  have e2 : tn (x &&& zl 3689348814741910323) = tn x &&& rep 51 8 := by rw [tn_and, tn_51]
  have h1 : tn x / 4 &&& rep 51 8 ≤ 3689348814741910323 := by rw [← rep_51]; exact Nat.and_le_right
  have h2 : tn x &&& rep 51 8 ≤ 3689348814741910323 := by rw [← rep_51]; exact Nat.and_le_right
  have e3 : tn (pp2 x) = (tn x &&& rep 51 8) + (tn x / 4 &&& rep 51 8) := by
    unfold pp2
    rw [tn_add, e, e2]
    rw [e, e2]
    generalize tn x / 4 &&& rep 51 8 = u at h1 ⊢
    generalize tn x &&& rep 51 8 = v at h2 ⊢
    omega
  refine ⟨e3, ?_⟩
  rw [e3]
  exact Nat.add_le_add h2 h1
theorem tn_p3 {x : Int64} (h : tn x ≤ 7378697629483820646) : tn (pp3 x) = pw3 8 (tn x) := by
  have e : tn (shL x 4) = tn x / 16 := tn_sh (k := 4) (by decide)
  unfold pp3 pw3
  rw [tn_and, tn_15, tn_add, e]
  rw [e]
  generalize tn x = v at h ⊢
  omega
theorem tn_spr (x : Int64) : tn (pp3 (pp2 (pp1 x))) = spr 8 (tn x) := by
  rw [tn_p3 (tn_p2 _).2, (tn_p2 _).1, tn_p1, pw_spr]
def byt (x k : Nat) : Nat := pcB (x / 256 ^ k % 256)
theorem byt_le (x k : Nat) : byt x k ≤ 8 := cnt_le _ 8
theorem spr_8 (x : Nat) : spr 8 x = 256 * (256 * (256 * (256 * (256 * (256 * (256 * byt x 7 + byt x 6) + byt x 5) + byt x 4) + byt x 3) + byt x 2) + byt x 1) + byt x 0 := by
  have e : ∀ k, x / 256 ^ k / 256 = x / 256 ^ (k + 1) := fun k => by rw [Nat.div_div_eq_div_mul, Nat.pow_succ]
  have e0 : x / 256 = x / 256 ^ 1 := rfl
  unfold byt
  simp only [spr, e0, e, Nat.pow_zero, Nat.div_one, Nat.mul_zero, Nat.zero_add]
theorem cnt_8 (x : Nat) : cnt x.testBit 64 = byt x 0 + byt x 1 + byt x 2 + byt x 3 + byt x 4 + byt x 5 + byt x 6 + byt x 7 := by
  have e : ∀ k, x / 256 ^ k / 256 = x / 256 ^ (k + 1) := fun k => by rw [Nat.div_div_eq_div_mul, Nat.pow_succ]
  have e0 : x / 256 = x / 256 ^ 1 := rfl
  have f : ∀ n y : Nat, cnt y.testBit (8 * (n + 1)) = pcB (y % 256) + cnt (y / 256).testBit (8 * n) := fun n y => cnt_byte y n
  rw [show 64 = 8 * (7 + 1) from rfl, f, f 6, f 5, f 4, f 3, f 2, f 1, f 0]
  unfold byt
  rw [e0, e, e, e, e, e, e, Nat.pow_zero, Nat.div_one]
  show _ + (_ + (_ + (_ + (_ + (_ + (_ + (_ + 0))))))) = _
  simp only [Nat.reduceAdd]
  omega
theorem zi_tn : ∀ n : Nat, n < 65 → (zi (n : Int)).toBitVec.toNat = n := by decide +kernel
theorem pop_ok (w : Int64) : (pp6 (pp5 (pp4 (pp3 (pp2 (pp1 w)))))).toInt32 &&& zi 127 = zi ((cnt (lb w) 64 : Nat) : Int) := by
  have hc : cnt (lb w) 64 = cnt (tn w).testBit 64 := rfl
  have hl : cnt (lb w) 64 < 65 := Nat.lt_succ_of_le (cnt_le _ 64)
  obtain ⟨y1, y2, y3, a1, a2, a3, a4, a5, a6, a7⟩ := pop_end (byt_le (tn w) 0) (byt_le (tn w) 1) (byt_le (tn w) 2) (byt_le (tn w) 3) (byt_le (tn w) 4) (byt_le (tn w) 5) (byt_le (tn w) 6) (byt_le (tn w) 7)
  rw [← spr_8, ← tn_spr] at a1
  rw [← cnt_8] at a7
  generalize pp3 (pp2 (pp1 w)) = v at a1 ⊢
  have b1 : tn (shL v 8) = tn v / 256 := tn_sh (k := 8) (by decide)
  have c1 : tn (pp4 v) = y1 := by unfold pp4; rw [tn_add, b1, a1]; rw [b1, a1]; exact a2
  have b2 : tn (shL (pp4 v) 16) = y1 / 65536 := by rw [tn_sh (k := 16) (by decide), c1]
  have c2 : tn (pp5 (pp4 v)) = y2 := by unfold pp5; rw [tn_add, b2, c1, a3]; rw [b2, c1, a3]; exact a4
  have b3 : tn (shL (pp5 (pp4 v)) 32) = y2 / 4294967296 := by rw [tn_sh (k := 32) (by decide), c2]
  have c3 : tn (pp6 (pp5 (pp4 v))) = y3 := by unfold pp6; rw [tn_add, b3, c2, a5]; rw [b3, c2, a5]; exact a6
  apply Int32.toBitVec_inj.mp
  apply BitVec.eq_of_toNat_eq
  rw [zi_tn _ hl, hc, ← a7, ← c3, Int32.toBitVec_and, BitVec.toNat_and, Int64.toBitVec_toInt32, BitVec.signExtend_eq_setWidth_of_le _ (by decide), BitVec.toNat_setWidth]
  have : (zi 127).toBitVec.toNat = 2 ^ 7 - 1 := by decide
  rw [this, Nat.and_two_pow_sub_one_eq_mod]
  unfold tn
  omega
theorem j_popc {d : Nat} {σ : cm_S} {Q : cm_O → Prop} (w : Int64) (hd : 1 ≤ d) (h : Q (false, .int (zi ((cnt (lb w) 64 : Nat) : Int)), σ)) : wp_c d 606 [.long w] σ Q := by
  refine k606 hd ?_
  rw [← pop_ok w] at h
  exact h
