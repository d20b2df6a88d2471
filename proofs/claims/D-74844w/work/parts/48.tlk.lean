/-! THE TWIN: capitals, any token -/
theorem atB_sp {B : List Nat} (j : Nat) : atB isSp B j = decide (by_ B j = 32) := by
  unfold atB by_
  cases h : B[j]? with
  | none => simp
  | some x => simp [isSp]; rfl
theorem tw_tag {τ : tw_K} (hτ : tw_ok τ) {a : Nat} (h1 : 1315 ≤ a) (h2 : a < 1346) : τ.1 a ≠ 29 ∧ τ.1 a ≠ 103 := by
  by_cases h : a = 1315
  · subst h; rw [hτ.1]; decide
  · have key : ∀ k : Fin 30, (tw_fs.any fun q => q.2.1 == 1316 + k.val) = true := by decide
    have h3 := key ⟨a - 1316, by omega⟩
    obtain ⟨q, hq, e⟩ := List.any_eq_true.mp h3
    have e : q.2.1 = a := by
      have := beq_iff_eq.mp e
      simp only at this
      omega
    have h4 : (tw_fs.all fun q => !(q.2.2.1 == 29) && !(q.2.2.1 == 103)) = true := by decide
    have h5 := List.all_eq_true.mp h4 q hq
    simp only [Bool.and_eq_true, Bool.not_eq_true', beq_eq_false_iff_ne] at h5
    rw [← e, (hτ.2 q hq).2.1]
    exact h5
/-- a set of places of the twin's own -/
def twI (W : Nat → Nat → Prop) : Prop := ∀ a i, W a i → 1315 ≤ a ∧ a < 1346
theorem LW_I : twI LW := fun a i h => by unfold LW at h; omega
theorem tcs.kept {τ : tw_K} (hτ : tw_ok τ) {W : Nat → Nat → Prop} (hW : twI W) {I I2 : tw_I} {L L2 : tw_L} (h : tcs τ I) (f : twf W I L I2 L2) : tcs τ I2 := by
  intro g bs hg
  obtain ⟨h1, h2, h3, h4, h5, h6, h7⟩ := h g bs hg
  have ne : ∀ a i, (τ.1 a = 29 ∨ τ.1 a = 103) → I2 a i = I a i := fun a i q => (f a i (fun z => by
    have := tw_tag hτ (hW a i z).1 (hW a i z).2
    omega)).1
  refine ⟨h1, h2, ?_, h4, h5, h6, fun i x hx => ⟨?_, (h7 i x hx).2⟩⟩
  · show I2 (23 + g) 1 = _
    rw [ne _ _ (Or.inl h2)]; exact h3
  · show I2 _ i = _
    exact (ne _ _ (Or.inr h4)).trans (h7 i x hx).1
section
variable {τ : tw_K} {I : tw_I} {L : tw_L} {d : Nat} {B : List Nat}
theorem t_cap_end (hτ : tw_ok τ) (hc : tcs τ I) (hB : tbf I B) {b : Nat} (hb : I 1315 20 = zi b) (hbl : b ≤ B.length) {Q : tw_I → tw_L → Prop} (hd : 5 ≤ d)
    (h : ∀ I2 L2, twf LW I L I2 L2 → tlx I2 L2 (lkCap B b) → Q I2 L2) (x3 : Value) :
    wp_r d 255 (21, [.ref 1315, .int (zi (rn isCa B b)), .int (zi (skip B (rn isCa B b))), x3], [], tw τ I L) (tv τ Q) := by
  have hlen := hB.2.1
  have k1 := rn_ge isCa B b
  have k2 := rn_le isCa B _ b rfl hbl
  have k3 := rn_le isSp B _ _ rfl k2
  have k4 := rn_end isSp B _ (rn isCa B b) rfl
  have k3 : skip B (rn isCa B b) ≤ B.length := k3
  have k4 : atB isSp B (skip B (rn isCa B b)) = false := k4
  rw [atB_sp, decide_eq_false_iff_not] at k4
  have ref : ¬ (b < rn isCa B b ∧ by_ B (skip B (rn isCa B b)) = 40) → wp_c d 259 [.ref 1315] (tw τ I L) (tv τ fun I6 L6 => Q I6 L6) := by
    intro hn
    unfold lkCap at h
    simp only at h
    rw [if_neg hn] at h
    exact t_lookRef hτ hB hb hbl (by omega) h
  refine k255_21 hτ (by omega) (t_byteAt hτ (by omega) hB (by omega) ?_)
  rw [cb_eq (by omega) hB.bok (by omega)]
  refine ⟨fun q => absurd q (by omega), fun _ => ?_⟩
  rw [hb, zi_lt (by omega) (by omega) (by omega) (by omega)]
  refine ⟨fun q1 => ?_, fun q1 => ref (by omega)⟩
  refine t_byteAt hτ (by omega) hB (by omega) ?_
  rw [cb_eq (by omega) hB.bok (by omega)]
  refine ⟨fun q2 => ?_, fun q2 => ref (by omega)⟩
  rw [hb, zi_sub, show (rn isCa B b : Int) - b = ((rn isCa B b - b : Nat) : Int) by omega]
  refine t_functionAt hτ hc hB k1 k2 hd ?_
  unfold lkCap at h
  simp only at h
  rw [if_pos ⟨by omega, by omega⟩] at h
  cases hf : fnAt B b (rn isCa B b) with
  | none =>
    rw [hf] at h
    simp only at h ⊢
    exact ⟨fun _ => t_tells hτ (k := 7) (v := 0) (e := rn isCa B b) hb rfl rfl rfl (by omega) h, fun q => absurd (by decide) q⟩
  | some f =>
    rw [hf] at h
    have hf9 := fnAt_lt hf
    simp only at h ⊢
    rw [zi_lt (by omega) (by omega) (by omega) (by omega), zi_l (by omega) (by omega)]
    exact ⟨fun q => absurd q (by omega), fun _ => t_tells hτ (k := 5) (v := f) (e := rn isCa B b) hb rfl rfl rfl (by omega) h⟩
theorem t_cap_sp (hτ : tw_ok τ) (hc : tcs τ I) (hB : tbf I B) {b : Nat} (hb : I 1315 20 = zi b) (hbl : b ≤ B.length) {Q : tw_I → tw_L → Prop} (hd : 5 ≤ d)
    (h : ∀ I2 L2, twf LW I L I2 L2 → tlx I2 L2 (lkCap B b) → Q I2 L2) (x3 : Value) :
    ∀ (n j : Nat), B.length - j = n → j ≤ B.length → rn isSp B j = skip B (rn isCa B b) → wp_r d 255 (21, [.ref 1315, .int (zi (rn isCa B b)), .int (zi j), x3], [], tw τ I L) (tv τ Q) := by
  have hlen := hB.2.1
  have fin := t_cap_end hτ hc hB hb hbl hd h x3
  intro n
  induction n with
  | zero =>
    intro j hn hj hr
    cases q : atB isSp B j with
    | true => have := atB_lt q; omega
    | false =>
      rw [rn_step, q] at hr
      have hr : j = skip B (rn isCa B b) := hr
      rw [hr]; exact fin
  | succ n ih =>
    intro j hn hj hr
    cases q : atB isSp B j with
    | false =>
      rw [rn_step, q] at hr
      have hr : j = skip B (rn isCa B b) := hr
      rw [hr]; exact fin
    | true =>
      rw [rn_step, q] at hr
      have go := ih (j + 1) (by omega) (by omega) hr
      rw [atB_sp, decide_eq_true_eq] at q
      refine k255_21 hτ (by omega) (t_byteAt hτ (by omega) hB (by omega) ?_)
      rw [cb_eq (by omega) hB.bok (by omega), zn_a j 1 1 rfl]
      exact ⟨fun _ => go, fun z => absurd (by omega) z⟩
theorem t_cap_ca (hτ : tw_ok τ) (hc : tcs τ I) (hB : tbf I B) {b : Nat} (hb : I 1315 20 = zi b) (hbl : b ≤ B.length) {Q : tw_I → tw_L → Prop} (hd : 5 ≤ d)
    (h : ∀ I2 L2, twf LW I L I2 L2 → tlx I2 L2 (lkCap B b) → Q I2 L2) (x2 x3 : Value) :
    ∀ (n k : Nat), B.length - k = n → k ≤ B.length → rn isCa B k = rn isCa B b → wp_r d 255 (5, [.ref 1315, .int (zi k), x2, x3], [], tw τ I L) (tv τ Q) := by
  have hlen := hB.2.1
  have k2 := rn_le isCa B _ b rfl hbl
  have fin : ∀ k, atB isCa B k = false → k ≤ B.length → rn isCa B k = rn isCa B b → wp_r d 255 (5, [.ref 1315, .int (zi k), x2, x3], [], tw τ I L) (tv τ Q) := by
    intro k q hk hr
    refine k255_5 hτ (by omega) (t_isCapital hτ (by omega) hB (by omega) ?_)
    rw [q]
    rw [rn_step, q] at hr
    have hr : k = rn isCa B b := hr
    rw [hr]
    exact ⟨fun _ => t_cap_sp hτ hc hB hb hbl hd h x3 _ _ rfl k2 rfl, fun z => absurd rfl z⟩
  intro n
  induction n with
  | zero =>
    intro k hn hk hr
    cases q : atB isCa B k with
    | true => have := atB_lt q; omega
    | false => exact fin k q hk hr
  | succ n ih =>
    intro k hn hk hr
    cases q : atB isCa B k with
    | false => exact fin k q hk hr
    | true =>
      rw [rn_step, q] at hr
      have go := ih (k + 1) (by omega) (by omega) hr
      refine k255_5 hτ (by omega) (t_isCapital hτ (by omega) hB (by omega) ?_)
      rw [q, zn_a k 1 1 rfl]
      exact ⟨fun z => absurd z (by decide), fun _ => go⟩
theorem t_lookCap (hτ : tw_ok τ) (hc : tcs τ I) (hB : tbf I B) {b : Nat} (hb : I 1315 20 = zi b) (hbl : b ≤ B.length) {Q : tw_I → tw_L → Prop} (hd : 6 ≤ d)
    (h : ∀ I2 L2, twf LW I L I2 L2 → tlx I2 L2 (lkCap B b) → Q I2 L2) : wp_c d 255 [.ref 1315] (tw τ I L) (tv τ Q) := by
  refine k255 hτ (by omega) ?_
  rw [hb]
  exact t_cap_ca hτ hc hB hb hbl (by omega) h _ _ _ b rfl hbl rfl
theorem t_look_end (hτ : tw_ok τ) (hc : tcs τ I) (hB : tbf I B) {p : Nat} (hb : I 1315 20 = zi (skip B p)) (hp : p ≤ B.length) {Q : tw_I → tw_L → Prop} (hd : 6 ≤ d)
    (h : ∀ I2 L2, twf LW I L I2 L2 → tlx I2 L2 (lk B p) → Q I2 L2) : wp_r d 254 (8, [.ref 1315], [], tw τ I L) (tv τ Q) := by
  have hlen := hB.2.1
  have k1 : skip B p ≤ B.length := rn_le isSp B _ p rfl hp
  have k4 : atB isSp B (skip B p) = false := rn_end isSp B _ p rfl
  rw [atB_sp, decide_eq_false_iff_not] at k4
  have bo := hB.bok
  unfold lk at h
  simp only at h
  refine k254_8 hτ (by omega) ?_
  rw [hb]
  refine t_byteAt hτ (by omega) hB (by omega) ?_
  rw [cb_eq (by omega) bo (by omega)]
  refine ⟨fun q => absurd q (by omega), fun _ => ?_⟩
  rw [hb]
  refine t_byteAt hτ (by omega) hB (by omega) ?_
  rw [cb_no (by omega) bo]
  refine ⟨fun q => ?_, fun q => ?_⟩
  · rw [if_pos q] at h
    exact t_tells hτ (k := 0) (v := 0) (e := skip B p) hb rfl rfl hb (by omega) h
  rw [if_neg q] at h
  have hbl := (by_lt bo q).2
  rw [hb]
  refine t_isDigit hτ (by omega) hB (by omega) ?_
  rw [atB_by bo (by decide), bz_0]
  cases c1 : isDg (by_ B (skip B p)) with
  | true =>
    rw [c1] at h
    exact ⟨fun z => (by cases z), fun _ => t_lookNumber hτ hB hb k1 (by omega) h⟩
  | false =>
  rw [c1] at h
  refine ⟨fun _ => ?_, fun z => absurd rfl z⟩
  rw [hb]
  refine t_isSmall hτ (by omega) hB (by omega) ?_
  rw [atB_by bo (by decide), bz_0]
  cases c2 : isSm (by_ B (skip B p)) with
  | true =>
    rw [c2] at h
    exact ⟨fun z => (by cases z), fun _ => t_lookName hτ hB hb k1 (by omega) h⟩
  | false =>
  rw [c2] at h
  refine ⟨fun _ => ?_, fun z => absurd rfl z⟩
  rw [hb]
  refine t_isCapital hτ (by omega) hB (by omega) ?_
  rw [atB_by bo (by decide), bz_0]
  cases c3 : isCa (by_ B (skip B p)) with
  | true =>
    rw [c3] at h
    exact ⟨fun z => (by cases z), fun _ => t_lookCap hτ hc hB hb k1 hd h⟩
  | false =>
  rw [c3] at h
  refine ⟨fun _ => ?_, fun z => absurd rfl z⟩
  rw [hb]
  refine t_byteAt hτ (by omega) hB (by omega) ?_
  rw [cb_eq (by omega) bo (by omega)]
  refine ⟨fun q2 => ?_, fun q2 => ?_⟩
  · rw [show (by_ B (skip B p) == 36) = true by rw [beq_iff_eq]; omega] at h
    exact t_lookCap hτ hc hB hb k1 hd h
  rw [show (by_ B (skip B p) == 36) = false by rw [beq_eq_false_iff_ne]; omega] at h
  rw [hb]
  refine t_byteAt hτ (by omega) hB (by omega) ?_
  rw [cb_eq (by omega) bo (by omega)]
  refine ⟨fun q3 => ?_, fun q3 => ?_⟩
  · rw [if_neg (by decide), if_neg (by decide), if_neg (by decide), if_pos (by omega)] at h
    exact t_lookLost hτ hB hb k1 (by omega) h
  · rw [if_neg (by decide), if_neg (by decide), if_neg (by decide), if_neg (by omega)] at h
    exact t_lookSign hτ hB hb hbl (by omega) h
theorem t_look_loop (hτ : tw_ok τ) {p : Nat} {Q : tw_I → tw_L → Prop} (hd : 6 ≤ d) (hp : p ≤ B.length) (I0 : tw_I) (L0 : tw_L)
    (h : ∀ I2 L2, twf LW I0 L0 I2 L2 → tlx I2 L2 (lk B p) → Q I2 L2) :
    ∀ (n j : Nat) (I : tw_I) (L : tw_L), B.length - j = n → j ≤ B.length → rn isSp B j = skip B p → I 1315 20 = zi j → tcs τ I → tbf I B → twf LW I0 L0 I L → wp_r d 254 (8, [.ref 1315], [], tw τ I L) (tv τ Q) := by
  intro n
  induction n with
  | zero =>
    intro j I L hn hj hr hI hc hB hf
    cases q : atB isSp B j with
    | true => have := atB_lt q; omega
    | false =>
      rw [rn_step, q] at hr
      have hr : j = skip B p := hr
      rw [hr] at hI
      exact t_look_end hτ hc hB hI hp hd (fun I2 L2 f => h I2 L2 (hf.tr f))
  | succ n ih =>
    intro j I L hn hj hr hI hc hB hf
    have hlen := hB.2.1
    cases q : atB isSp B j with
    | false =>
      rw [rn_step, q] at hr
      have hr : j = skip B p := hr
      rw [hr] at hI
      exact t_look_end hτ hc hB hI hp hd (fun I2 L2 f => h I2 L2 (hf.tr f))
    | true =>
      rw [rn_step, q] at hr
      rw [atB_sp, decide_eq_true_eq] at q
      refine k254_8 hτ (by omega) ?_
      rw [hI]
      refine t_byteAt hτ (by omega) hB (by omega) ?_
      rw [cb_eq (by omega) hB.bok (by omega)]
      refine ⟨fun _ => ?_, fun z => absurd (by omega) z⟩
      rintro I2 rfl
      have f2 : twf LW I L (cm_u2 I 1315 20 (I 1315 20 + zi 1)) L := twf.rf.pI (by unfold LW; omega) _
      refine ih (j + 1) _ _ (by omega) (by omega) hr ?_ (hc.kept hτ LW_I f2) (hB.kept f2 LW_b.1 LW_b.2) (hf.tr f2)
      rw [u2_same, hI, zn_a j 1 1 rfl]
theorem t_look (hτ : tw_ok τ) (hc : tcs τ I) (hB : tbf I B) {p : Nat} (hI : I 1315 19 = zi p) (hp : p ≤ B.length) {Q : tw_I → tw_L → Prop} (hd : 7 ≤ d)
    (h : ∀ I2 L2, twf LW I L I2 L2 → tlx I2 L2 (lk B p) → Q I2 L2) : wp_c d 254 [.ref 1315] (tw τ I L) (tv τ Q) := by
  refine k254 hτ (by omega) ?_
  rintro I1 rfl
  have f2 : twf LW I L (cm_u2 I 1315 20 (I 1315 19)) L := twf.rf.pI (by unfold LW; omega) _
  exact t_look_loop hτ (by omega) hp I L h _ p _ _ rfl hp rfl (by rw [u2_same, hI]) (hc.kept hτ LW_I f2) (hB.kept f2 LW_b.1 LW_b.2) f2
end
