/-! THE TWIN: tokens of the buffer, the rest -/
theorem zn_a (b : Nat) (c : Int) (m : Nat) (h : c = (m : Int)) : zi (b : Int) + zi c = zi ((b + m : Nat) : Int) := by
  subst h
  rw [zi_add]
  congr 1
theorem zn_eq {a b : Nat} (ha : a < 2147483648) (hb : b < 2147483648) : zi (a : Int) = zi (b : Int) ↔ a = b := by
  rw [zi_eq (by omega) (by omega) (by omega) (by omega)]; omega
theorem m_min {σ : cm_S} {Q : cm_O → Prop} {d : Nat} {a b : Int} (ha : -2147483648 ≤ a ∧ a < 2147483648) (hb : -2147483648 ≤ b ∧ b < 2147483648) (hd : 1 ≤ d) (h : Q (false, .int (zi (min a b)), σ)) : wp_c d 581 [.int (zi a), .int (zi b)] σ Q := by
  refine k581 hd ?_
  rw [zi_lt (by omega) (by omega) (by omega) (by omega)]
  refine ⟨fun q => ?_, fun q => ?_⟩
  · rwa [show min a b = b by omega] at h
  · rwa [show min a b = a by omega] at h
theorem m_max {σ : cm_S} {Q : cm_O → Prop} {d : Nat} {a b : Int} (ha : -2147483648 ≤ a ∧ a < 2147483648) (hb : -2147483648 ≤ b ∧ b < 2147483648) (hd : 1 ≤ d) (h : Q (false, .int (zi (max a b)), σ)) : wp_c d 579 [.int (zi a), .int (zi b)] σ Q := by
  refine k579 hd ?_
  rw [zi_lt (by omega) (by omega) (by omega) (by omega)]
  refine ⟨fun q => ?_, fun q => ?_⟩
  · rwa [show max a b = b by omega] at h
  · rwa [show max a b = a by omega] at h
section
variable {τ : tw_K} {I : tw_I} {L : tw_L} {d : Nat} {B : List Nat}
theorem t_isSign (hτ : tw_ok τ) {x : Nat} (hx : x < 1000) {Q : Int32 → tw_I → tw_L → Prop} (hd : 1 ≤ d) (h : Q (bz (isSg x)) I L) : wp_c d 244 [.int (zi x)] (tw τ I L) (ti τ Q) := by
  have key : ∀ c : Nat, c < 1000 → (zi (x : Int) = zi (c : Int) ↔ x = c) := fun c hc => zn_eq (by omega) (by omega)
  refine k244 hτ hd ?_
  cases hb : isSg x with
  | true =>
    rw [hb] at h
    have k := fun dd => k244_72 (d := dd) (x0 := zi x) hτ h
    refine ⟨fun _ => k _, fun q43 => ⟨fun _ => k _, fun q45 => ⟨fun _ => k _, fun q42 => ⟨fun _ => k _, fun q47 => ⟨fun _ => k _, fun q37 => ⟨fun _ => k _, fun q61 => ⟨fun _ => k _, fun q60 => ⟨fun _ => k _, fun q62 => ⟨fun _ => k _, fun q40 => ⟨fun _ => k _, fun q41 => ⟨fun _ => k _, fun q44 => ⟨fun _ => k _, fun q58 => ?_⟩⟩⟩⟩⟩⟩⟩⟩⟩⟩⟩⟩
    exfalso
    have q43 : ¬ x = 43 := fun e => q43 ((key 43 (by omega)).mpr e)
    have q45 : ¬ x = 45 := fun e => q45 ((key 45 (by omega)).mpr e)
    have q42 : ¬ x = 42 := fun e => q42 ((key 42 (by omega)).mpr e)
    have q47 : ¬ x = 47 := fun e => q47 ((key 47 (by omega)).mpr e)
    have q37 : ¬ x = 37 := fun e => q37 ((key 37 (by omega)).mpr e)
    have q61 : ¬ x = 61 := fun e => q61 ((key 61 (by omega)).mpr e)
    have q60 : ¬ x = 60 := fun e => q60 ((key 60 (by omega)).mpr e)
    have q62 : ¬ x = 62 := fun e => q62 ((key 62 (by omega)).mpr e)
    have q40 : ¬ x = 40 := fun e => q40 ((key 40 (by omega)).mpr e)
    have q41 : ¬ x = 41 := fun e => q41 ((key 41 (by omega)).mpr e)
    have q44 : ¬ x = 44 := fun e => q44 ((key 44 (by omega)).mpr e)
    have q58 : ¬ x = 58 := fun e => q58 ((key 58 (by omega)).mpr e)
    simp only [isSg, Bool.or_eq_true, beq_iff_eq] at hb
    omega
  | false =>
    rw [hb] at h
    have no : ∀ c : Nat, c < 1000 → isSg c = true → zi (x : Int) = zi (c : Int) → False := fun c hc h1 h2 => by rw [(key c hc).mp h2, h1] at hb; cases hb
    exact ⟨fun q => (no 43 (by omega) rfl q).elim, fun _ => ⟨fun q => (no 45 (by omega) rfl q).elim, fun _ => ⟨fun q => (no 42 (by omega) rfl q).elim, fun _ => ⟨fun q => (no 47 (by omega) rfl q).elim, fun _ => ⟨fun q => (no 37 (by omega) rfl q).elim, fun _ => ⟨fun q => (no 61 (by omega) rfl q).elim, fun _ => ⟨fun q => (no 60 (by omega) rfl q).elim, fun _ => ⟨fun q => (no 62 (by omega) rfl q).elim, fun _ => ⟨fun q => (no 40 (by omega) rfl q).elim, fun _ => ⟨fun q => (no 41 (by omega) rfl q).elim, fun _ => ⟨fun q => (no 44 (by omega) rfl q).elim, fun _ => ⟨fun q => (no 58 (by omega) rfl q).elim, fun _ => h⟩⟩⟩⟩⟩⟩⟩⟩⟩⟩⟩⟩
theorem t_lookLost (hτ : tw_ok τ) (hB : tbf I B) {b : Nat} (hb : I 1315 20 = zi b) (hbl : b ≤ B.length) {Q : tw_I → tw_L → Prop} (hd : 2 ≤ d)
    (h : ∀ I2 L2, twf LW I L I2 L2 → tlx I2 L2 (b, if by_ B (b + 1) = 82 ∧ by_ B (b + 2) = 69 ∧ by_ B (b + 3) = 70 then 3 else 7, 0, b + 4) → Q I2 L2) : wp_c d 256 [.ref 1315] (tw τ I L) (tv τ Q) := by
  have hlen := hB.2.1
  have bad : ∀ dd, 1 ≤ dd → ¬ (by_ B (b + 1) = 82 ∧ by_ B (b + 2) = 69 ∧ by_ B (b + 3) = 70) → wp_r dd 256 (49, [.ref 1315, .null], [], tw τ I L) (tv τ Q) := by
    intro dd hdd hn
    rw [if_neg hn] at h
    refine k256_49 hτ hdd ?_
    exact t_tells hτ (k := 7) (v := 0) (e := b + 4) hb rfl rfl (by rw [hb, zn_a b 4 4 rfl]) hdd h
  refine k256 hτ hd ?_
  rw [hb, zn_a b 1 1 rfl]
  refine t_byteAt hτ (by omega) hB (by omega) ?_
  rw [cb_eq (by omega) hB.bok (by omega)]
  refine ⟨fun q1 => ?_, fun q1 => bad _ (by omega) (by omega)⟩
  rw [hb, zn_a b 2 2 rfl]
  refine t_byteAt hτ (by omega) hB (by omega) ?_
  rw [cb_eq (by omega) hB.bok (by omega)]
  refine ⟨fun q2 => ?_, fun q2 => bad _ (by omega) (by omega)⟩
  rw [hb, zn_a b 3 3 rfl]
  refine t_byteAt hτ (by omega) hB (by omega) ?_
  rw [cb_eq (by omega) hB.bok (by omega)]
  refine ⟨fun q3 => ?_, fun q3 => bad _ (by omega) (by omega)⟩
  rw [if_pos ⟨by omega, by omega, by omega⟩] at h
  rw [hb, zn_a b 4 4 rfl]
  exact t_tells hτ (k := 3) (v := 0) (e := b + 4) hb rfl rfl rfl (by omega) h
theorem t_lookSign (hτ : tw_ok τ) (hB : tbf I B) {b : Nat} (hb : I 1315 20 = zi b) (hbl : b < B.length) {Q : tw_I → tw_L → Prop} (hd : 2 ≤ d)
    (h : ∀ I2 L2, twf LW I L I2 L2 → tlx I2 L2 (lkSign B b) → Q I2 L2) : wp_c d 260 [.ref 1315] (tw τ I L) (tv τ Q) := by
  have hlen := hB.2.1
  have hne : by_ B b ≠ 300 := by
    unfold by_
    rw [List.getElem?_eq_getElem hbl]
    have := hB.bok b _ (List.getElem?_eq_getElem hbl)
    simp only [Option.getD_some]; omega
  have hx := (by_lt hB.bok hne).1
  have hcb : cb (-2) B b = by_ B b := by
    unfold cb by_
    rw [List.getElem?_eq_getElem hbl]; rfl
  have low : ∀ dd, 1 ≤ dd → ¬ (by_ B b = 60 ∧ by_ B (b + 1) = 62) → ¬ (by_ B b = 60 ∧ by_ B (b + 1) = 61) → wp_r dd 260 (80, [.ref 1315, .int (zi (cb (-2) B b)), .int (zi (cb (-2) B (b + 1)))], [], tw τ I L) (tv τ Q) := by
    intro dd hdd h1 h2
    have rest : ¬ (by_ B b = 62 ∧ by_ B (b + 1) = 61) → wp_c dd 244 [.int (zi (cb (-2) B b))] (tw τ I L) (ti τ fun r2 I2 L2 => (r2 = (zi 0) → (wp_c dd 321 [.ref 1315, .int (zi 7), .long (zi (cb (-2) B b)).toInt64, .int ((I2 1315 20) + (zi 1))] (tw τ I2 L2) (tv τ fun I3 L3 => Q I3 L3))) ∧
        (¬ r2 = (zi 0) → (wp_c dd 321 [.ref 1315, .int (zi 6), .long (zi (cb (-2) B b)).toInt64, .int ((I2 1315 20) + (zi 1))] (tw τ I2 L2) (tv τ fun I4 L4 => Q I4 L4)))) := by
      intro h3
      unfold lkSign at h
      simp only at h
      rw [if_neg h1, if_neg h2, if_neg h3] at h
      rw [hcb]
      refine t_isSign hτ (by omega) hdd ?_
      rw [hb, zn_a b 1 1 rfl, zi_l (by omega) (by omega), bz_0]
      cases hs : isSg (by_ B b) with
      | false =>
        rw [hs] at h
        exact ⟨fun _ => t_tells hτ (k := 7) (v := by_ B b) (e := b + 1) hb rfl rfl rfl hdd h, fun q => absurd rfl q⟩
      | true =>
        rw [hs] at h
        exact ⟨fun q => (by cases q), fun _ => t_tells hτ (k := 6) (v := by_ B b) (e := b + 1) hb rfl rfl rfl hdd h⟩
    refine k260_80 hτ hdd ?_
    rw [cb_eq (by omega) hB.bok (by omega), cb_eq (by omega) hB.bok (by omega)]
    refine ⟨fun q1 => ⟨fun q2 => ?_, fun q2 => rest (by omega)⟩, fun q1 => rest (by omega)⟩
    unfold lkSign at h
    simp only at h
    rw [if_neg h1, if_neg h2, if_pos ⟨by omega, by omega⟩] at h
    rw [hb, zn_a b 2 2 rfl]
    exact t_tells hτ (k := 6) (v := 258) (e := b + 2) hb rfl rfl rfl hdd h
  refine k260 hτ hd ?_
  rw [hb]
  refine t_byteAt hτ (by omega) hB (by omega) ?_
  rw [hb, zn_a b 1 1 rfl]
  refine t_byteAt hτ (by omega) hB (by omega) ?_
  rw [hb, zn_a b 2 2 rfl]
  have e1 := cb_eq (e := -2) (by omega) hB.bok (k := b) (c := 60) (by omega)
  have e2 := cb_eq (e := -2) (by omega) hB.bok (k := b + 1) (c := 62) (by omega)
  have e3 := cb_eq (e := -2) (by omega) hB.bok (k := b + 1) (c := 61) (by omega)
  rw [e1, e2, e3]
  have two : by_ B b = 60 → by_ B (b + 1) = 62 → wp_c (d - 1) 321 [.ref 1315, .int (zi 6), .long (zl 256), .int (zi ((b + 2 : Nat) : Int))] (tw τ I L) (tv τ fun I3 L3 => Q I3 L3) := fun q1 q2 => by
    unfold lkSign at h
    simp only at h
    rw [if_pos ⟨q1, q2⟩] at h
    exact t_tells hτ (k := 6) (v := 256) (e := b + 2) hb rfl rfl rfl (by omega) h
  have three : by_ B b = 60 → by_ B (b + 1) = 61 → wp_c (d - 1) 321 [.ref 1315, .int (zi 6), .long (zl 257), .int (zi ((b + 2 : Nat) : Int))] (tw τ I L) (tv τ fun I3 L3 => Q I3 L3) := fun q1 q2 => by
    unfold lkSign at h
    simp only at h
    rw [if_neg (by omega), if_pos ⟨q1, q2⟩] at h
    exact t_tells hτ (k := 6) (v := 257) (e := b + 2) hb rfl rfl rfl (by omega) h
  refine ⟨fun q1 => ⟨fun q2 => two (by omega) (by omega), fun q2 => ⟨fun q3 => three (by omega) (by omega), fun q3 => low _ (by omega) (by omega) (by omega)⟩⟩, fun q1 => low _ (by omega) (by omega) (by omega)⟩
theorem ncg_lt {b k v : Nat} (hb : b ≤ k) (hv : k - b ≤ 8 → v < 27 ^ (k - b)) (hv9 : v < 282429536481) {x : Nat} (h1 : 97 ≤ x) (h2 : x ≤ 122) : (k + 1 - b ≤ 8 → ncg b k x v < 27 ^ (k + 1 - b)) ∧ ncg b k x v < 282429536481 := by
  unfold ncg
  by_cases q : k - b < 8
  · rw [if_pos q]
    have h3 := hv (by omega)
    have h4 : k + 1 - b = (k - b) + 1 := by omega
    have h5 : 27 ^ (k + 1 - b) = 27 ^ (k - b) * 27 := by rw [h4, Nat.pow_succ]
    have h6 : 27 ^ (k - b) ≤ 27 ^ 7 := Nat.pow_le_pow_right (by omega) (by omega)
    refine ⟨fun _ => ?_, ?_⟩ <;> omega
  · rw [if_neg q]
    exact ⟨fun h => by omega, hv9⟩
theorem t_lookName_loop (hτ : tw_ok τ) (hB : tbf I B) {b : Nat} (hb : I 1315 20 = zi b) {Q : tw_I → tw_L → Prop} (hd : 2 ≤ d)
    (h : ∀ I2 L2, twf LW I L I2 L2 → tlx I2 L2 (b, if 8 < rn isSm B b - b then 7 else 4, nc B b, rn isSm B b) → Q I2 L2) :
    ∀ n k v, B.length - k = n → b ≤ k → k ≤ B.length → (k - b ≤ 8 → v < 27 ^ (k - b)) → v < 282429536481 → rn isSm B k = rn isSm B b → lp isSm (ncg b) B k v = nc B b → wp_r d 257 (7, [.ref 1315, .int (zi k), .long (zl v), .retAddr 0], [], tw τ I L) (tv τ Q) := by
  have hlen := hB.2.1
  intro n
  induction n with
  | zero =>
    intro k v hn hbk hk hv hv9 hr hl
    have hno : atB isSm B k = false := by
      cases q : atB isSm B k with
      | false => rfl
      | true => have := atB_lt q; omega
    refine k257_7 hτ (by omega) (t_isSmall hτ (by omega) hB hd ?_)
    rw [hno]
    rw [rn_step, hno] at hr
    rw [lp_step, hno] at hl
    refine ⟨fun _ => ?_, fun q => absurd rfl q⟩
    have hr : k = rn isSm B b := hr
    have hl : v = nc B b := hl
    subst hl
    rw [hb, zi_sub, zi_lt (by omega) (by omega) (by omega) (by omega)]
    refine ⟨fun q => ?_, fun q => ?_⟩
    · rw [if_pos (by omega)] at h
      exact t_tells hτ (k := 7) (e := rn isSm B b) hb rfl rfl (by rw [hr]) (by omega) h
    · rw [if_neg (by omega)] at h
      exact t_tells hτ (k := 4) (e := rn isSm B b) hb rfl rfl (by rw [hr]) (by omega) h
  | succ n ih =>
    intro k v hn hbk hk hv hv9 hr hl
    refine k257_7 hτ (by omega) (t_isSmall hτ (by omega) hB hd ?_)
    cases q : atB isSm B k with
    | false =>
      rw [rn_step, q] at hr
      rw [lp_step, q] at hl
      refine ⟨fun _ => ?_, fun q => absurd rfl q⟩
      have hr : k = rn isSm B b := hr
      have hl : v = nc B b := hl
      subst hl
      rw [hb, zi_sub, zi_lt (by omega) (by omega) (by omega) (by omega)]
      refine ⟨fun q => ?_, fun q => ?_⟩
      · rw [if_pos (by omega)] at h
        exact t_tells hτ (k := 7) (e := rn isSm B b) hb rfl rfl (by rw [hr]) (by omega) h
      · rw [if_neg (by omega)] at h
        exact t_tells hτ (k := 4) (e := rn isSm B b) hb rfl rfl (by rw [hr]) (by omega) h
    | true =>
      obtain ⟨g1, g2, g3, g4⟩ := atB_rng (lo := 97) (hi := 122) (fun x => rfl) q
      rw [rn_step, q] at hr
      rw [lp_step, q] at hl
      have hr : rn isSm B (k + 1) = rn isSm B b := hr
      have hl : lp isSm (ncg b) B (k + 1) (ncg b k (by_ B k) v) = nc B b := hl
      obtain ⟨n1, n2⟩ := ncg_lt hbk hv hv9 g1 g2
      refine ⟨fun z => absurd z (by decide), fun _ => ?_⟩
      rw [hb, zi_sub, zi_lt (by omega) (by omega) (by omega) (by omega)]
      have go := ih (k + 1) (ncg b k (by_ B k) v) (by omega) (by omega) (by omega) n1 n2 hr hl
      rw [show ((k + 1 : Nat) : Int) = (k : Int) + 1 by omega, ← zi_add] at go
      refine ⟨fun z => ?_, fun z => ?_⟩
      · refine t_byteAt hτ (by omega) hB (by omega) ?_
        rw [g3, zi_l (by omega) (by omega), zl_mul, zl_add, zl_sub, zl_add]
        unfold ncg at go
        rw [if_pos (by omega), show ((27 * v + by_ B k - 97 + 1 : Nat) : Int) = 27 * (v : Int) + by_ B k - 97 + 1 by omega] at go
        exact go
      · unfold ncg at go
        rw [if_neg (by omega)] at go
        exact go
theorem t_lookName (hτ : tw_ok τ) (hB : tbf I B) {b : Nat} (hb : I 1315 20 = zi b) (hbl : b ≤ B.length) {Q : tw_I → tw_L → Prop} (hd : 3 ≤ d)
    (h : ∀ I2 L2, twf LW I L I2 L2 → tlx I2 L2 (b, if 8 < rn isSm B b - b then 7 else 4, nc B b, rn isSm B b) → Q I2 L2) : wp_c d 257 [.ref 1315] (tw τ I L) (tv τ Q) := by
  refine k257 hτ (by omega) ?_
  rw [hb]
  exact t_lookName_loop hτ hB hb (by omega) h (B.length - b) b 0 rfl (Nat.le_refl _) hbl (fun _ => by simp) (by omega) rfl rfl
end
