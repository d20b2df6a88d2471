/-! JDK: how many zeros trail -/
def hb (w : Int32) (j : Nat) : Bool := w.toBitVec.getLsbD j
theorem low_nat {N t : Nat} (h1 : N.testBit t = true) (h0 : ∀ i, i < t → N.testBit i = false) : ∃ q, N = 2 ^ (t + 1) * q + 2 ^ t := by
  refine ⟨N / 2 ^ (t + 1), ?_⟩
  have e : N % 2 ^ (t + 1) = 2 ^ t := by
    apply Nat.eq_of_testBit_eq
    intro j
    rw [Nat.testBit_mod_two_pow, Nat.testBit_two_pow]
    by_cases c : j < t
    · rw [h0 j c, Bool.and_false, decide_eq_false (by omega)]
    · by_cases c2 : j = t
      · subst c2; rw [h1, decide_eq_true (by omega), decide_eq_true rfl]; rfl
      · rw [decide_eq_false (by omega), decide_eq_false (by omega)]; rfl
  have := Nat.div_add_mod N (2 ^ (t + 1))
  rw [e] at this
  exact this.symm
theorem hb_mk : ∀ t, t < 32 → ∀ i, i < 32 → hb (zi ((2 ^ t - 1 : Nat) : Int)) i = decide (i < t) := by decide +kernel
theorem hb_m1 : ∀ i, i < 32 → hb (zi (-1)) i = true := by decide +kernel
theorem ntz_mask {x : Int32} {t : Nat} (ht : t < 32) (h1 : hb x t = true) (h0 : ∀ i, i < t → hb x i = false) : (x ^^^ zi (-1)) &&& (x - zi 1) = zi ((2 ^ t - 1 : Nat) : Int) := by
  apply Int32.toBitVec_inj.mp
  apply BitVec.eq_of_getLsbD_eq
  intro i hi
  have hm := hb_mk t ht i hi
  unfold hb at hm h1 h0
  rw [hm, Int32.toBitVec_and, BitVec.getLsbD_and, Int32.toBitVec_xor, BitVec.getLsbD_xor]
  have := hb_m1 i hi
  unfold hb at this
  rw [this, Int32.toBitVec_sub]
  obtain ⟨q, hq⟩ := low_nat (N := x.toBitVec.toNat) h1 h0
  have hx : x.toBitVec.toNat < 2 ^ 32 := x.toBitVec.isLt
  have hp : 0 < 2 ^ t := Nat.two_pow_pos t
  have h1n : (zi 1).toBitVec.toNat = 1 := by decide
  have hs : (x.toBitVec - (zi 1).toBitVec).toNat = 2 ^ (t + 1) * q + (2 ^ t - 1) := by
    rw [BitVec.toNat_sub, h1n]
    have e : 2 ^ 32 - 1 + x.toBitVec.toNat = 2 ^ (t + 1) * q + (2 ^ t - 1) + 2 ^ 32 := (by omega)
    rw [e, Nat.add_mod_right, Nat.mod_eq_of_lt (by omega)]
  have hl : 2 ^ t - 1 < 2 ^ (t + 1) := by rw [Nat.pow_succ]; omega
  have hl2 : 2 ^ t < 2 ^ (t + 1) := by rw [Nat.pow_succ]; omega
  have e1 : x.toBitVec.getLsbD i = (2 ^ (t + 1) * q + 2 ^ t).testBit i := by rw [← hq]; rfl
  have e2 : (x.toBitVec - (zi 1).toBitVec).getLsbD i = (2 ^ (t + 1) * q + (2 ^ t - 1)).testBit i := by rw [← hs]; rfl
  rw [e1, e2, Nat.testBit_two_pow_mul_add _ hl2, Nat.testBit_two_pow_mul_add _ hl]
  by_cases c : i < t + 1
  · rw [if_pos c, if_pos c, Nat.testBit_two_pow, Nat.testBit_two_pow_sub_one]
    by_cases c2 : i < t
    · rw [decide_eq_true c2, decide_eq_false (by omega)]; rfl
    · rw [decide_eq_false c2, Bool.and_false]
  · rw [if_neg c, if_neg c, decide_eq_false (by omega)]
    cases q.testBit (i - (t + 1)) <;> rfl
def shI (x : Int32) (n : Int) : Int32 := (x.toUInt32 >>> ((zi n).toUInt32 &&& Int32.toUInt32 31)).toInt32
def nz2 (x0 x1 : Int32) : Int32 := if zi 16 < x0 then (if zi 4 < shI x0 4 then x1 + zi 4 + zi 2 + shI (shI (shI x0 4) 2) 1 else x1 + zi 4 + shI (shI x0 4) 1) else (if zi 4 < x0 then x1 + zi 2 + shI (shI x0 2) 1 else x1 + shI x0 1)
def nz_ (m : Int32) : Int32 := if zi 0 < m then (if zi 65536 < m then (if zi 256 < shI m 16 then nz2 (shI (shI m 16) 8) (zi 1 + zi 16 + zi 8) else nz2 (shI m 16) (zi 1 + zi 16)) else (if zi 256 < m then nz2 (shI m 8) (zi 1 + zi 8) else nz2 m (zi 1))) else m &&& zi 32
theorem nz_ok : ∀ t : Nat, t < 32 → nz_ (zi ((2 ^ t - 1 : Nat) : Int)) = zi (t : Int) := by decide +kernel
section
variable {d : Nat} {σ : cm_S} {Q : cm_O → Prop}
theorem nz2_w {x0 x1 : Int32} (h : Q (false, .int (nz2 x0 x1), σ)) : wp_r d 596 (49, [.int x0, .int x1], [], σ) Q := by
  unfold nz2 shI at h
  refine k596_49 ⟨fun c => ⟨fun c2 => ?_, fun c2 => ?_⟩, fun c => ⟨fun c2 => ?_, fun c2 => ?_⟩⟩
  · rw [if_pos c, if_pos c2] at h; exact h
  · rw [if_pos c, if_neg c2] at h; exact h
  · rw [if_neg c, if_pos c2] at h; exact h
  · rw [if_neg c, if_neg c2] at h; exact h
theorem nz_w {x : Int32} (hd : 1 ≤ d) (h : Q (false, .int (nz_ ((x ^^^ zi (-1)) &&& (x - zi 1))), σ)) : wp_c d 596 [.int x] σ Q := by
  refine k596 hd ?_
  generalize (x ^^^ zi (-1)) &&& (x - zi 1) = m at h ⊢
  unfold nz_ shI at h
  refine ⟨fun c => ⟨fun c2 => ⟨fun c3 => ?_, fun c3 => ?_⟩, fun c2 => ⟨fun c3 => ?_, fun c3 => ?_⟩⟩, fun c => ?_⟩
  · rw [if_pos c, if_pos c2, if_pos c3] at h; exact nz2_w h
  · rw [if_pos c, if_pos c2, if_neg c3] at h; exact nz2_w h
  · rw [if_pos c, if_neg c2, if_pos c3] at h; exact nz2_w h
  · rw [if_pos c, if_neg c2, if_neg c3] at h; exact nz2_w h
  · rw [if_neg c] at h; exact h
theorem j_ntz32 {x : Int32} {t : Nat} (ht : t < 32) (h1 : hb x t = true) (h0 : ∀ i, i < t → hb x i = false) (hd : 1 ≤ d) (h : Q (false, .int (zi (t : Int)), σ)) : wp_c d 596 [.int x] σ Q := by
  refine nz_w hd ?_
  rw [ntz_mask ht h1 h0, nz_ok t ht]
  exact h
theorem hb_lo (w : Int64) {i : Nat} (hi : i < 32) : hb w.toInt32 i = lb w i := by
  unfold hb lb
  rw [Int64.toBitVec_toInt32, BitVec.getLsbD_signExtend, decide_eq_true hi, if_pos (by omega)]; rfl
theorem hb_hi (w : Int64) {i : Nat} (hi : i < 32) : hb ((w.toUInt64 >>> ((zi 32).toInt64.toUInt64 &&& Int64.toUInt64 63)).toInt64).toInt32 i = lb w (32 + i) := by
  rw [hb_lo _ hi]
  unfold lb
  rw [UInt64.toBitVec_toInt64, UInt64.toBitVec_shiftRight, Int64.toBitVec_toUInt64]
  have : (((zi 32).toInt64.toUInt64 &&& Int64.toUInt64 63).toBitVec % 64) = 32#64 := by decide
  rw [this, BitVec.ushiftRight_eq', BitVec.getLsbD_ushiftRight]; rfl
theorem hb_0 (i : Nat) : hb (zi 0) i = false := BitVec.getLsbD_zero
theorem hb_ext {a b : Int32} (h : ∀ i, i < 32 → hb a i = hb b i) : a = b := Int32.toBitVec_inj.mp (BitVec.eq_of_getLsbD_eq (fun i hi => h i hi))
theorem j_ntz {w : Int64} {t : Nat} (ht : t < 64) (h1 : lb w t = true) (h0 : ∀ i, i < t → lb w i = false) (hd : 2 ≤ d) (h : Q (false, .int (zi (t : Int)), σ)) : wp_c d 608 [.long w] σ Q := by
  refine k608 hd ⟨fun c => ?_, fun c => ?_⟩
  · have h32 : 32 ≤ t := by
      refine Nat.le_of_not_lt fun z => ?_
      have := hb_lo w z
      rw [c, hb_0, h1] at this
      cases this
    refine j_ntz32 (t := t - 32) (by omega) (by rw [hb_hi w (by omega), show 32 + (t - 32) = t from (by omega)]; exact h1) (fun i hi => by rw [hb_hi w (by omega)]; exact h0 _ (by omega)) (by omega) ⟨_, _, rfl, ?_⟩
    show Q (false, .int (zi 32 + zi _), σ)
    rw [zi_add, show (32 : Int) + ((t - 32 : Nat) : Int) = (t : Int) from (by omega)]
    exact h
  · have h32 : t < 32 := by
      refine Nat.lt_of_not_le fun z => c (hb_ext fun i hi => ?_)
      rw [hb_lo w hi, hb_0]
      exact h0 i (by omega)
    exact j_ntz32 h32 (by rw [hb_lo w h32]; exact h1) (fun i hi => by rw [hb_lo w (by omega)]; exact h0 _ hi) (by omega) ⟨_, _, rfl, h⟩
end
