/-! THE TWIN: references, functions, any token -/
theorem cb_col {B : List Nat} (hB : bok B) (k : Nat) : decide (0 ≤ cb (-2) B k - 65 ∧ cb (-2) B k - 65 ≤ 11) = decide (65 ≤ by_ B k ∧ by_ B k ≤ 76) := by
  unfold cb by_
  cases h : B[k]? with
  | none => simp
  | some x => simp only [Option.getD_some]; congr 1; apply propext; omega
theorem rwg_le {k x v : Nat} : rwg k x v ≤ 99 := by unfold rwg; omega
section
variable {τ : tw_K} {I : tw_I} {L : tw_L} {d : Nat} {B : List Nat}
def refT (B : List Nat) (b k1 k3 m1 m2 : Nat) : Tk := if 65 ≤ by_ B k1 ∧ by_ B k1 ≤ 76 ∧ k3 < rn isDg B k3 ∧ by_ B k3 ≠ 48 ∧ 1 ≤ rw_ B k3 ∧ rw_ B k3 ≤ 20 then (b, 2, 12 * (rw_ B k3 - 1) + (by_ B k1 - 65) + m1 + m2, rn isDg B k3) else (b, 7, 0, rn isDg B k3)
theorem t_ref_end (hτ : tw_ok τ) (hB : tbf I B) {b k1 k3 m1 m2 : Nat} (hb : I 1315 20 = zi b) (h3 : k3 ≤ 100) (hk : k1 ≤ 100) (hm : m1 + m2 ≤ 720) {x6 : Value} {Q : tw_I → tw_L → Prop} (hd : 2 ≤ d)
    (h : ∀ I2 L2, twf LW I L I2 L2 → tlx I2 L2 (refT B b k1 k3 m1 m2) → Q I2 L2) (he : rn isDg B k3 ≤ 200) (hr : rw_ B k3 ≤ 99) (hno : atB isDg B (rn isDg B k3) = false) :
    wp_r d 259 (63, [.ref 1315, .int (zi (rn isDg B k3)), .int (zi ((m1 + m2 : Nat) : Int)), .int (zi (cb (-2) B k1 - 65)), .int (zi k3), .int (zi (rw_ B k3)), x6], [], tw τ I L) (tv τ Q) := by
  have hlen := hB.2.1
  have r := cb_rng (-2) (by omega) hB.bok k1
  have bad : ∀ L9, ¬ (65 ≤ by_ B k1 ∧ by_ B k1 ≤ 76 ∧ k3 < rn isDg B k3 ∧ by_ B k3 ≠ 48 ∧ 1 ≤ rw_ B k3 ∧ rw_ B k3 ≤ 20) → wp_r d 259 (145, [.ref 1315, .int (zi (rn isDg B k3)), .int (zi ((m1 + m2 : Nat) : Int)), .int (zi (cb (-2) B k1 - 65)), .int (zi k3), .int (zi (rw_ B k3)), L9], [.int (zi 0)], tw τ I L) (tv τ Q) := by
    intro L9 hn
    unfold refT at h
    rw [if_neg hn] at h
    exact k259_145 hτ (by omega) ⟨fun _ => t_tells hτ (k := 7) (v := 0) (e := rn isDg B k3) hb rfl rfl rfl (by omega) h, fun q => absurd rfl q⟩
  refine k259_63 hτ (by omega) (t_isDigit hτ (by omega) hB hd ?_)
  rw [hno]
  refine ⟨fun _ => ?_, fun q => absurd rfl q⟩
  rw [zi_l (by omega) (by omega)]
  refine t_in hτ (by omega) (by omega) (by omega) (by omega) ?_
  rw [cb_col hB.bok, bz_0, decide_eq_false_iff_not]
  refine ⟨fun q1 => bad _ (by omega), fun q1 => ?_⟩
  rw [zi_lt (by omega) (by omega) (by omega) (by omega)]
  refine ⟨fun q2 => ?_, fun q2 => bad _ (by omega)⟩
  refine t_byteAt hτ (by omega) hB (by omega) ?_
  rw [cb_eq (by omega) hB.bok (by omega)]
  refine ⟨fun q3 => bad _ (by omega), fun q3 => ?_⟩
  rw [zi_l (by omega) (by omega)]
  refine t_in hτ (by omega) (by omega) (by omega) (by omega) ?_
  rw [bz_0, decide_eq_false_iff_not]
  refine ⟨fun q4 => bad _ (by omega), fun q4 => ?_⟩
  have q1 : 65 ≤ by_ B k1 ∧ by_ B k1 ≤ 76 := Decidable.of_not_not q1
  have q4 : (1 : Int) ≤ rw_ B k3 ∧ (rw_ B k3 : Int) ≤ 20 := Decidable.of_not_not q4
  have hcb : cb (-2) B k1 = by_ B k1 := by
    unfold cb by_ at *
    cases hh : B[k1]? with
    | none => rw [hh] at q1; simp at q1
    | some x => rfl
  unfold refT at h
  rw [if_pos ⟨q1.1, q1.2, by omega, by omega, by omega, by omega⟩] at h
  refine k259_145 hτ (by omega) ⟨fun q => absurd q (by decide), fun _ => ?_⟩
  rw [hcb, zi_sub, zi_mul, zi_add, zi_add, zi_l (by omega) (by omega)]
  refine t_tells hτ (k := 2) (v := 12 * (rw_ B k3 - 1) + (by_ B k1 - 65) + m1 + m2) (e := rn isDg B k3) hb rfl ?_ rfl (by omega) h
  congr 1
  omega
theorem t_ref_loop (hτ : tw_ok τ) (hB : tbf I B) {b k1 k3 m1 m2 : Nat} (hb : I 1315 20 = zi b) (h3 : k3 ≤ 100) (hk : k1 ≤ 100) (hm : m1 + m2 ≤ 720) {x6 : Value} {Q : tw_I → tw_L → Prop} (hd : 2 ≤ d)
    (h : ∀ I2 L2, twf LW I L I2 L2 → tlx I2 L2 (refT B b k1 k3 m1 m2) → Q I2 L2) :
    ∀ n k r, B.length - k = n → k ≤ 200 → r ≤ 99 → rn isDg B k = rn isDg B k3 → lp isDg rwg B k r = rw_ B k3 → wp_r d 259 (63, [.ref 1315, .int (zi k), .int (zi ((m1 + m2 : Nat) : Int)), .int (zi (cb (-2) B k1 - 65)), .int (zi k3), .int (zi r), x6], [], tw τ I L) (tv τ Q) := by
  have hlen := hB.2.1
  have fin : ∀ k r, atB isDg B k = false → k ≤ 200 → r ≤ 99 → rn isDg B k = rn isDg B k3 → lp isDg rwg B k r = rw_ B k3 → wp_r d 259 (63, [.ref 1315, .int (zi k), .int (zi ((m1 + m2 : Nat) : Int)), .int (zi (cb (-2) B k1 - 65)), .int (zi k3), .int (zi r), x6], [], tw τ I L) (tv τ Q) := by
    intro k r hno hk2 hr hrn hl
    rw [rn_step, hno] at hrn
    rw [lp_step, hno] at hl
    have hrn : k = rn isDg B k3 := hrn
    have hl : r = rw_ B k3 := hl
    rw [hl, hrn]
    rw [hrn] at hno hk2
    rw [hl] at hr
    exact t_ref_end hτ hB hb h3 hk hm hd h hk2 hr hno
  intro n
  induction n with
  | zero =>
    intro k r hn hk2 hr hrn hl
    refine fin k r ?_ hk2 hr hrn hl
    cases q : atB isDg B k with
    | false => rfl
    | true => have := atB_lt q; omega
  | succ n ih =>
    intro k r hn hk2 hr hrn hl
    cases q : atB isDg B k with
    | false => exact fin k r q hk2 hr hrn hl
    | true =>
      obtain ⟨g1, g2, g3, g4⟩ := atB_rng (lo := 48) (hi := 57) (fun x => rfl) q
      rw [rn_step, q] at hrn
      rw [lp_step, q] at hl
      have hrn : rn isDg B (k + 1) = rn isDg B k3 := hrn
      have hl : lp isDg rwg B (k + 1) (rwg k (by_ B k) r) = rw_ B k3 := hl
      refine k259_63 hτ (by omega) (t_isDigit hτ (by omega) hB hd ?_)
      rw [q]
      refine ⟨fun z => absurd z (by decide), fun _ => ?_⟩
      refine t_byteAt hτ (by omega) hB (by omega) ?_
      rw [g3, zi_mul, zi_add, zi_sub]
      refine m_min (by omega) (by omega) (by omega) (ti_k ?_)
      have go := ih (k + 1) (rwg k (by_ B k) r) (by omega) (by omega) rwg_le hrn hl
      rw [show ((k + 1 : Nat) : Int) = (k : Int) + 1 by omega, ← zi_add] at go
      unfold rwg at go
      rw [show ((min 99 (10 * r + by_ B k - 48) : Nat) : Int) = min 99 (10 * (r : Int) + by_ B k - 48) by omega] at go
      exact go
theorem t_lookRef (hτ : tw_ok τ) (hB : tbf I B) {b : Nat} (hb : I 1315 20 = zi b) (hbl : b ≤ B.length) {Q : tw_I → tw_L → Prop} (hd : 3 ≤ d)
    (h : ∀ I2 L2, twf LW I L I2 L2 → tlx I2 L2 (lkRef B b) → Q I2 L2) : wp_c d 259 [.ref 1315] (tw τ I L) (tv τ Q) := by
  have hlen := hB.2.1
  have go : ∀ k1 k3 m1 m2 : Nat, k1 ≤ 100 → k3 ≤ 100 → m1 + m2 ≤ 720 → lkRef B b = refT B b k1 k3 m1 m2 → ∀ x6 : Value, wp_r (d - 1) 259 (63, [.ref 1315, .int (zi k3), .int (zi ((m1 + m2 : Nat) : Int)), .int (zi (cb (-2) B k1 - 65)), .int (zi k3), .int (zi 0), x6], [], tw τ I L) (tv τ Q) := by
    intro k1 k3 m1 m2 a1 a2 a3 e x6
    rw [e] at h
    exact t_ref_loop hτ hB hb a2 a1 a3 (by omega) h _ k3 0 rfl (by omega) (by omega) rfl rfl
  refine k259 hτ (by omega) ?_
  rw [hb]
  refine t_byteAt hτ (by omega) hB (by omega) ?_
  have f : ∀ k c, (by_ B k == c) = decide (by_ B k = c) := fun k c => rfl
  rw [cb_eq (by omega) hB.bok (by omega)]
  refine ⟨fun q1 => ?_, fun q1 => ?_⟩
  · rw [zn_a b 1 1 rfl]
    refine t_byteAt hτ (by omega) hB (by omega) ?_
    rw [zn_a (b + 1) 1 1 rfl]
    refine t_byteAt hτ (by omega) hB (by omega) ?_
    rw [cb_eq (by omega) hB.bok (by omega)]
    rw [zi_sub, zn_a (b + 1 + 1) 1 1 rfl, zi_add, zi_add]
    refine ⟨fun q2 => ?_, fun q2 => ?_⟩
    · refine go (b + 1) (b + 1 + 1 + 1) 240 480 (by omega) (by omega) (by omega) ?_ _
      unfold lkRef refT
      simp only [show (by_ B b == 36) = true from by rw [beq_iff_eq]; omega, show (by_ B (b + 1 + 1) == 36) = true from by rw [beq_iff_eq]; omega, if_true]
    · refine go (b + 1) (b + 1 + 1) 240 0 (by omega) (by omega) (by omega) ?_ _
      unfold lkRef refT
      simp only [show (by_ B b == 36) = true from by rw [beq_iff_eq]; omega, if_true, show (by_ B (b + 1 + 1) == 36) = false from by rw [beq_eq_false_iff_ne]; omega, Bool.false_eq_true, if_false]
  · refine t_byteAt hτ (by omega) hB (by omega) ?_
    rw [zn_a b 1 1 rfl]
    refine t_byteAt hτ (by omega) hB (by omega) ?_
    rw [cb_eq (by omega) hB.bok (by omega)]
    rw [zi_sub, zn_a (b + 1) 1 1 rfl, zi_add]
    refine ⟨fun q2 => ?_, fun q2 => ?_⟩
    · refine go b (b + 1 + 1) 0 480 (by omega) (by omega) (by omega) ?_ _
      unfold lkRef refT
      simp only [show (by_ B b == 36) = false from by rw [beq_eq_false_iff_ne]; omega, show (by_ B (b + 1) == 36) = true from by rw [beq_iff_eq]; omega, if_true, Bool.false_eq_true, if_false]
    · refine go b (b + 1) 0 0 (by omega) (by omega) (by omega) ?_ _
      unfold lkRef refT
      simp only [show (by_ B b == 36) = false from by rw [beq_eq_false_iff_ne]; omega, show (by_ B (b + 1) == 36) = false from by rw [beq_eq_false_iff_ne]; omega, Bool.false_eq_true, if_false]
end
