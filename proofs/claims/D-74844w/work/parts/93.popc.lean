/-! JDK: how many bits are set -/
theorem cnt_split (P : Nat → Bool) (a : Nat) : ∀ b, cnt P (a + b) = cnt P a + cnt (fun i => P (a + i)) b
  | 0 => rfl
  | b + 1 => by
    show cnt P (a + b) + (if P (a + b) = true then 1 else 0) = cnt P a + (cnt (fun i => P (a + i)) b + (if P (a + b) = true then 1 else 0))
    rw [cnt_split P a b]; omega
theorem and256 {a b c e : Nat} (hb : b < 256) (he : e < 256) : (256 * a + b) &&& (256 * c + e) = 256 * (a &&& c) + (b &&& e) := by
  apply Nat.eq_of_testBit_eq
  intro j
  have hbe : b &&& e < 2 ^ 8 := Nat.lt_of_le_of_lt Nat.and_le_left hb
  rw [Nat.testBit_and, show (256 : Nat) = 2 ^ 8 from rfl, Nat.testBit_two_pow_mul_add _ hb, Nat.testBit_two_pow_mul_add _ he, Nat.testBit_two_pow_mul_add _ hbe]
  by_cases c : j < 8
  · rw [if_pos c, if_pos c, if_pos c, Nat.testBit_and]
  · rw [if_neg c, if_neg c, if_neg c, Nat.testBit_and]
/-- the byte v, n times -/
def rep (v : Nat) : Nat → Nat
  | 0 => 0
  | n + 1 => 256 * rep v n + v
def pw1 (n x : Nat) : Nat := x - (x / 2 &&& rep 85 n)
def pw2 (n x : Nat) : Nat := (x &&& rep 51 n) + (x / 4 &&& rep 51 n)
def pw3 (n x : Nat) : Nat := (x + x / 16) &&& rep 15 n
def pcB (l : Nat) : Nat := cnt l.testBit 8
def spr : Nat → Nat → Nat
  | 0, _ => 0
  | n + 1, x => 256 * spr n (x / 256) + pcB (x % 256)
theorem pb1 : ∀ e, e < 2 → ∀ l, l < 256 → (128 * e + l / 2) &&& 85 = l / 2 &&& 85 := by decide +kernel
theorem pb2 : ∀ e, e < 4 → ∀ l, l < 256 → (64 * e + l / 4) &&& 51 = l / 4 &&& 51 := by decide +kernel
theorem pb3 : ∀ e, e < 7 → ∀ l, l < 103 → (l + 16 * e + l / 16) &&& 15 = (l + l / 16) &&& 15 := by decide +kernel
theorem pb4 : ∀ l, l < 256 → l / 2 &&& 85 ≤ l ∧ l - (l / 2 &&& 85) < 256 ∧ (l &&& 51) + (l / 4 &&& 51) < 103 ∧ ((l &&& 51) + (l / 4 &&& 51)) % 16 < 7 := by decide +kernel
theorem pb5 : ∀ l, l < 256 → (((l - (l / 2 &&& 85)) &&& 51) + ((l - (l / 2 &&& 85)) / 4 &&& 51) + (((l - (l / 2 &&& 85)) &&& 51) + ((l - (l / 2 &&& 85)) / 4 &&& 51)) / 16) &&& 15 = pcB l := by decide +kernel
theorem pb6 : ∀ l, l < 256 → pcB l ≤ 8 := fun l _ => cnt_le _ 8
theorem pw1_s {n h l : Nat} (hl : l < 256) : pw1 (n + 1) (256 * h + l) = 256 * pw1 n h + (l - (l / 2 &&& 85)) := by
  unfold pw1
  have e : (256 * h + l) / 2 = 256 * (h / 2) + (128 * (h % 2) + l / 2) := (by omega)
  rw [e, show rep 85 (n + 1) = 256 * rep 85 n + 85 from rfl, and256 (by omega) (by omega), pb1 _ (by omega) l hl]
  have h1 : h / 2 &&& rep 85 n ≤ h := Nat.le_trans Nat.and_le_left (by omega)
  have h2 := (pb4 l hl).1
  omega
theorem pw2_s {n h l : Nat} (hl : l < 256) : pw2 (n + 1) (256 * h + l) = 256 * pw2 n h + ((l &&& 51) + (l / 4 &&& 51)) := by
  unfold pw2
  have e : (256 * h + l) / 4 = 256 * (h / 4) + (64 * (h % 4) + l / 4) := (by omega)
  rw [e, show rep 51 (n + 1) = 256 * rep 51 n + 51 from rfl, and256 hl (by omega), and256 (by omega) (by omega), pb2 _ (by omega) l hl]
  omega
theorem pw2_m : ∀ n x, pw2 n x % 16 < 7
  | 0, x => by unfold pw2 rep; simp
  | n + 1, x => by
    have e : x = 256 * (x / 256) + x % 256 := (by omega)
    rw [e, pw2_s (by omega)]
    have := (pb4 (x % 256) (by omega)).2.2.2
    omega
theorem pw3_s {n h l : Nat} (hl : l < 103) (hh : h % 16 < 7) : pw3 (n + 1) (256 * h + l) = 256 * pw3 n h + ((l + l / 16) &&& 15) := by
  unfold pw3
  have e : 256 * h + l + (256 * h + l) / 16 = 256 * (h + h / 16) + (l + 16 * (h % 16) + l / 16) := (by omega)
  rw [e, show rep 15 (n + 1) = 256 * rep 15 n + 15 from rfl, and256 (by omega) (by omega), pb3 _ hh l hl]
theorem pw_spr : ∀ n x, pw3 n (pw2 n (pw1 n x)) = spr n x
  | 0, x => by unfold pw3 rep spr; simp
  | n + 1, x => by
    have e : x = 256 * (x / 256) + x % 256 := (by omega)
    have hl : x % 256 < 256 := (by omega)
    obtain ⟨_, h2, _, _⟩ := pb4 _ hl
    obtain ⟨_, _, h3, _⟩ := pb4 _ h2
    show _ = 256 * spr n (x / 256) + pcB (x % 256)
    conv => lhs; rw [e]
    rw [pw1_s hl, pw2_s h2, pw3_s h3 (pw2_m _ _), pw_spr n, pb5 _ hl]
theorem cnt_byte (x n : Nat) : cnt x.testBit (8 * (n + 1)) = pcB (x % 256) + cnt (x / 256).testBit (8 * n) := by
  rw [show 8 * (n + 1) = 8 + 8 * n from (by omega), cnt_split]
  congr 1
  · unfold pcB
    refine cnt_cg 8 fun i hi => ?_
    rw [show (256 : Nat) = 2 ^ 8 from rfl, Nat.testBit_mod_two_pow, decide_eq_true hi]; rfl
  · refine cnt_cg _ fun i _ => ?_
    rw [show (256 : Nat) = 2 ^ 8 from rfl, Nat.testBit_div_two_pow, Nat.add_comm]
theorem dvn {b h l : Nat} (hl : l < b) : (b * h + l) / b = h := by
  rw [Nat.mul_add_div (by omega), Nat.div_eq_of_lt hl, Nat.add_zero]
theorem pl1 (p0 p1 p2 p3 p4 p5 p6 p7 : Nat) : (256 * (256 * (256 * (256 * (256 * (256 * (256 * (p7) + (p6)) + (p5)) + (p4)) + (p3)) + (p2)) + (p1)) + (p0)) + (256 * (256 * (256 * (256 * (256 * (256 * (p7) + (p6)) + (p5)) + (p4)) + (p3)) + (p2)) + (p1)) = 65536 * (256 * (256 * (256 * (256 * (256 * (p7) + (p6 + p7)) + (p5 + p6)) + (p4 + p5)) + (p3 + p4)) + (p2 + p3)) + (256 * (p1 + p2) + (p0 + p1)) := (by omega)
theorem pl2 (p0 p1 p2 p3 p4 p5 p6 p7 : Nat) : 65536 * (256 * (256 * (256 * (256 * (256 * (p7) + (p6 + p7)) + (p5 + p6)) + (p4 + p5)) + (p3 + p4)) + (p2 + p3)) + (256 * (p1 + p2) + (p0 + p1)) + (256 * (256 * (256 * (256 * (256 * (p7) + (p6 + p7)) + (p5 + p6)) + (p4 + p5)) + (p3 + p4)) + (p2 + p3)) = 4294967296 * (256 * (256 * (256 * (p7) + (p6 + p7)) + (p5 + p6 + p7)) + (p4 + p5 + p6 + p7)) + (256 * (256 * (256 * (p3 + p4 + p5 + p6) + (p2 + p3 + p4 + p5)) + (p1 + p2 + p3 + p4)) + (p0 + p1 + p2 + p3)) := (by omega)
theorem pl3 (p0 p1 p2 p3 p4 p5 p6 p7 : Nat) : 4294967296 * (256 * (256 * (256 * (p7) + (p6 + p7)) + (p5 + p6 + p7)) + (p4 + p5 + p6 + p7)) + (256 * (256 * (256 * (p3 + p4 + p5 + p6) + (p2 + p3 + p4 + p5)) + (p1 + p2 + p3 + p4)) + (p0 + p1 + p2 + p3)) + (256 * (256 * (256 * (p7) + (p6 + p7)) + (p5 + p6 + p7)) + (p4 + p5 + p6 + p7)) = 128 * (2 * (256 * (256 * (256 * (256 * (256 * (256 * (p7) + (p6 + p7)) + (p5 + p6 + p7)) + (p4 + p5 + p6 + p7)) + (p3 + p4 + p5 + p6 + p7)) + (p2 + p3 + p4 + p5 + p6 + p7)) + (p1 + p2 + p3 + p4 + p5 + p6 + p7))) + (p0 + p1 + p2 + p3 + p4 + p5 + p6 + p7) := (by omega)
theorem hrl {a l b : Nat} (ha : a < b) (hl : l < 256) : 256 * a + l < 256 * b := (by omega)
theorem hrm {a l b c e : Nat} (ha : a < b) (hl : l < c) (h : c * b ≤ e) : c * a + l < e := by
  have : c * (a + 1) ≤ c * b := Nat.mul_le_mul_left c ha
  rw [Nat.mul_succ] at this
  omega
theorem pad {a b c f : Nat} (h : a = b) (e : c + b = f) : c + a = f := by rw [h]; exact e
theorem smb {p0 p1 p2 p3 p4 p5 p6 p7 : Nat} (h0 : p0 ≤ 8) (h1 : p1 ≤ 8) (h2 : p2 ≤ 8) (h3 : p3 ≤ 8) (h4 : p4 ≤ 8) (h5 : p5 ≤ 8) (h6 : p6 ≤ 8) (h7 : p7 ≤ 8) : p7 < 256 ∧ p6 + p7 < 256 ∧ p5 + p6 < 256 ∧ p4 + p5 < 256 ∧ p3 + p4 < 256 ∧ p2 + p3 < 256 ∧ p5 + p6 + p7 < 256 ∧ p4 + p5 + p6 + p7 < 256 ∧ p3 + p4 + p5 + p6 + p7 < 256 ∧ p2 + p3 + p4 + p5 + p6 + p7 < 256 ∧ p1 + p2 + p3 + p4 + p5 + p6 + p7 < 256 ∧ p1 + p2 < 256 ∧ p0 + p1 < 256 ∧ p3 + p4 + p5 + p6 < 256 ∧ p2 + p3 + p4 + p5 < 256 ∧ p1 + p2 + p3 + p4 < 256 ∧ p0 + p1 + p2 + p3 < 256 ∧ p0 < 256 ∧ p0 + p1 + p2 + p3 + p4 + p5 + p6 + p7 < 128 := ⟨(by omega), (by omega), (by omega), (by omega), (by omega), (by omega), (by omega), (by omega), (by omega), (by omega), (by omega), (by omega), (by omega), (by omega), (by omega), (by omega), (by omega), (by omega), (by omega)⟩
/-- the last steps -/
theorem pop_end {p0 p1 p2 p3 p4 p5 p6 p7 : Nat} (h0 : p0 ≤ 8) (h1 : p1 ≤ 8) (h2 : p2 ≤ 8) (h3 : p3 ≤ 8) (h4 : p4 ≤ 8) (h5 : p5 ≤ 8) (h6 : p6 ≤ 8) (h7 : p7 ≤ 8) :
    ∃ y1 y2 y3, (256 * (256 * (256 * (256 * (256 * (256 * (256 * (p7) + (p6)) + (p5)) + (p4)) + (p3)) + (p2)) + (p1)) + (p0)) + (256 * (256 * (256 * (256 * (256 * (256 * (256 * (p7) + (p6)) + (p5)) + (p4)) + (p3)) + (p2)) + (p1)) + (p0)) / 256 = y1 ∧ y1 < 2 ^ 64 ∧ y1 + y1 / 65536 = y2 ∧ y2 < 2 ^ 64 ∧ y2 + y2 / 4294967296 = y3 ∧ y3 < 2 ^ 64 ∧ y3 % 128 = p0 + p1 + p2 + p3 + p4 + p5 + p6 + p7 := by
  obtain ⟨z0, z1, z2, z3, z4, z5, z6, z7, z8, z9, z10, z11, z12, z13, z14, z15, z16, z17, z18⟩ := smb h0 h1 h2 h3 h4 h5 h6 h7
  have b2 := (hrl (hrl (hrl (hrl (hrl z0 z1) z2) z3) z4) z5)
  have b3 := (hrl (hrl (hrl z0 z1) z6) z7)
  have b4 := (hrl (hrl (hrl (hrl (hrl (hrl z0 z1) z6) z7) z8) z9) z10)
  have c2 := (hrl z11 z12)
  have c3 := (hrl (hrl (hrl z13 z14) z15) z16)
  have c2' : _ < 65536 := c2
  have c3' : _ < 4294967296 := c3
  exact ⟨_, _, _, pad (dvn z17) (pl1 p0 p1 p2 p3 p4 p5 p6 p7), hrm b2 c2' (by decide), pad (dvn c2') (pl2 p0 p1 p2 p3 p4 p5 p6 p7), hrm b3 c3' (by decide), pad (dvn c3') (pl3 p0 p1 p2 p3 p4 p5 p6 p7),
    hrm (b := 2 * 256 ^ 7) (Nat.mul_lt_mul_of_pos_left b4 (by decide)) z18 (by decide), (Nat.mul_add_mod 128 _ _).trans (Nat.mod_eq_of_lt z18)⟩
