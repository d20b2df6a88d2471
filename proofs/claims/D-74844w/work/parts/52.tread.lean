/-! THE TWIN: the reading of a formula -/
theorem tlx.kind {I : tw_I} {L : tw_L} {t : Tk} (h : tlx I L t) (hk : tkk t ≤ 7) {c : Int} (hc : 0 ≤ c ∧ c < 1000) : I 1315 22 = zi c ↔ (tkk t : Int) = c := by
  unfold tkk at *
  rw [h.2.1, zi_eq (by omega) (by omega) (by omega) (by omega)]
theorem tlx.what {I : tw_I} {L : tw_L} {t : Tk} (h : tlx I L t) (hk : tkv t < 281474976710656) {c : Int} (hc : 0 ≤ c ∧ c < 1000) : L 1315 26 = zl c ↔ (tkv t : Int) = c := by
  unfold tkv at *
  rw [h.2.2.1, zl_eq (by omega) (by omega) (by omega) (by omega)]
theorem isT_iff {t : Tk} {c : Nat} : isT t c = true ↔ tkk t = 6 ∧ tkv t = c := by
  unfold isT
  rw [Bool.and_eq_true, beq_iff_eq, beq_iff_eq]
theorem lk_sig {B : List Nat} (hB : bok B) {p : Nat} (hp : p ≤ B.length) : tkk (lk B p) = 6 → tkv (lk B p) ≤ 258 := by
  unfold lk
  simp only
  by_cases c0 : by_ B (skip B p) = 300
  · rw [if_pos c0]; intro h; cases h
  rw [if_neg c0]
  obtain ⟨hx, hl⟩ := by_lt hB c0
  split
  · unfold tkk; split <;> (intro h; cases h)
  split
  · unfold tkk; split <;> (intro h; cases h)
  split
  · unfold lkCap
    simp only
    split
    · split <;> (intro h; cases h)
    · obtain ⟨k1', k3, m1, m2, e, -⟩ := lkRef_eq B (skip B p)
      rw [e]
      unfold refT
      split <;> (intro h; cases h)
  split
  · unfold tkk; split <;> (intro h; cases h)
  unfold lkSign
  simp only
  repeat' split
  all_goals (intro _; unfold tkv; simp only; omega)
section
variable {τ : tw_K} {I : tw_I} {L : tw_L} {d : Nat} {B : List Nat} {dp : Nat}
theorem t_298B (hτ : tw_ok τ) {e : Nat} (hs : tps τ I L B dp (.inl e)) {Q : tw_I → tw_L → Prop} (hd : 2 ≤ d) (h : Q I L) : wp_c d 298 [.ref 1315] (tw τ I L) (tv τ Q) := by
  refine k298 hτ hd ?_
  rw [hs.neg]
  exact ⟨fun ⟨_, _, z⟩ => (by cases z), fun _ => h⟩
theorem t_296B (hτ : tw_ok τ) {e : Nat} (hs : tps τ I L B dp (.inl e)) {Q : tw_I → tw_L → Prop} (hd : 9 ≤ d) (h : ∀ I2 L2, twf PW I L I2 L2 → tps τ I2 L2 B dp (.inl e) → Q I2 L2) : wp_r d 296 (4, [.ref 1315], [], tw τ I L) (tv τ Q) := by
  refine k296_4 hτ (by omega) (t_takesIf (c := 42) hτ hs (by omega) (by omega) fun I1 L1 f1 g1 _ => ⟨fun _ => ?_, fun z => absurd rfl z⟩)
  refine t_takesIf (c := 47) (s := .inl e) hτ g1 (by omega) (by omega) fun I2 L2 f2 g2 _ => ⟨fun _ => ?_, fun z => absurd rfl z⟩
  refine t_takesIf (c := 37) (s := .inl e) hτ g2 (by omega) (by omega) fun I3 L3 f3 g3 _ => ⟨fun _ => ?_, fun z => absurd rfl z⟩
  exact h _ _ ((f1.tr f2).tr f3) g3
theorem t_297B (hτ : tw_ok τ) {e : Nat} (hs : tps τ I L B dp (.inl e)) {Q : tw_I → tw_L → Prop} (hd : 9 ≤ d) (h : ∀ I2 L2, twf PW I L I2 L2 → tps τ I2 L2 B dp (.inl e) → Q I2 L2) : wp_r d 297 (4, [.ref 1315], [], tw τ I L) (tv τ Q) := by
  refine k297_4 hτ (by omega) (t_takesIf (c := 43) hτ hs (by omega) (by omega) fun I1 L1 f1 g1 _ => ⟨fun _ => ?_, fun z => absurd rfl z⟩)
  refine t_takesIf (c := 45) (s := .inl e) hτ g1 (by omega) (by omega) fun I2 L2 f2 g2 _ => ⟨fun _ => ?_, fun z => absurd rfl z⟩
  exact h _ _ (f1.tr f2) g2
theorem t_296X (hτ : tw_ok τ) {e : Nat} (hs : tps τ I L B dp (.inl e)) {Q : tw_I → tw_L → Prop} (hd : 10 ≤ d) (h : ∀ I2 L2, twf PW I L I2 L2 → tps τ I2 L2 B dp (.inl e) → Q I2 L2) : wp_c d 296 [.ref 1315] (tw τ I L) (tv τ Q) :=
  k296 hτ (by omega) (t_298B hτ hs (by omega) (t_296B hτ hs (by omega) h))
theorem t_297X (hτ : tw_ok τ) {e : Nat} (hs : tps τ I L B dp (.inl e)) {Q : tw_I → tw_L → Prop} (hd : 11 ≤ d) (h : ∀ I2 L2, twf PW I L I2 L2 → tps τ I2 L2 B dp (.inl e) → Q I2 L2) : wp_c d 297 [.ref 1315] (tw τ I L) (tv τ Q) :=
  k297 hτ (by omega) (t_296X hτ hs (by omega) fun I1 L1 f1 g1 => t_297B hτ g1 (by omega) fun I2 L2 f2 g2 => h I2 L2 (f1.tr f2) g2)
theorem t_290X (hτ : tw_ok τ) {e : Nat} (hs : tps τ I L B dp (.inl e)) {Q : tw_I → tw_L → Prop} (hd : 12 ≤ d) (h : ∀ I2 L2, twf PW I L I2 L2 → tps τ I2 L2 B dp (.inl e) → Q I2 L2) : wp_c d 290 [.ref 1315] (tw τ I L) (tv τ Q) := by
  refine k290 hτ (by omega) (t_297X hτ hs (by omega) fun I1 L1 f1 g1 => t_lookS hτ g1 (by omega) fun I2 L2 f2 g2 _ => ?_)
  rw [g2.neg]
  exact ⟨fun ⟨_, _, z⟩ => (by cases z), fun _ => h I2 L2 (f1.tr f2) g2⟩
theorem t_287X (hτ : tw_ok τ) {e : Nat} (hs : tps τ I L B dp (.inl e)) {Q : tw_I → tw_L → Prop} (hd : 2 ≤ d) (h : Q I L) : wp_c d 287 [.ref 1315] (tw τ I L) (tv τ Q) := by
  refine k287 hτ (by omega) ?_
  rw [hs.neg]
  exact ⟨fun ⟨_, _, z⟩ => (by cases z), fun _ => h⟩
theorem t_292X (hτ : tw_ok τ) {e : Nat} (hs : tps τ I L B dp (.inl e)) {Q : tw_I → tw_L → Prop} (hd : 2 ≤ d) (x : Int32) (h : Q I L) : wp_c d 292 [.ref 1315, .int x] (tw τ I L) (tv τ Q) := by
  refine k292 hτ (by omega) (k292_4 hτ (by omega) ⟨fun z => absurd z (by decide), fun _ => ?_⟩)
  rw [hs.neg]
  exact ⟨fun ⟨_, _, z⟩ => (by cases z), fun _ => h⟩
/-! areas -/
theorem t_area41 (hτ : tw_ok τ) {T : List (Nat × Nat)} {p : Nat} (hs : tps τ I L B dp (.inr (T, p))) (ht : tlx I L (lk B p)) (hk : tkk (lk B p) = 2 ∨ tkk (lk B p) = 3 ∨ tkk (lk B p) = 4) {Q : tw_I → tw_L → Prop} (hd : 9 ≤ d)
    (h : ∀ I2 L2, twf PW I L I2 L2 → tps τ I2 L2 B dp (tsr T (pArea B p)) → Q I2 L2) (x1 : Value) : wp_r d 287 (41, [.ref 1315, x1], [], tw τ I L) (tv τ Q) := by
  have hB := hs.1.2.1.bok
  have hp := hs.1.2.2.2
  have o := lk_ok hB hp (by omega) (by omega)
  refine k287_41 hτ (by omega) ?_
  rw [ht.kind (by omega) (by omega)]
  unfold pArea at h
  refine ⟨fun q => ?_, fun q => ?_⟩
  · have q : tkk (lk B p) = 2 := by omega
    rw [if_pos q] at h
    refine t_takes hτ hs ht (by omega) (by omega) (by omega) fun I1 L1 f1 g1 => ?_
    rw [q] at g1
    have hp1 := g1.1.2.2.2
    refine t_takesIf (c := 58) hτ g1 (by omega) (by omega) fun I2 L2 f2 g2 _ => ?_
    rw [bz_0]
    cases q2 : isT (lk B (tke (lk B p))) 58 with
    | false =>
      rw [q2, if_neg (by decide)] at h
      simp only [tsb, tsi, q2, Bool.false_eq_true, if_false] at g2
      exact ⟨fun _ => h I2 L2 (f1.tr f2) g2, fun z => absurd q2 z⟩
    | true =>
      rw [q2, if_pos rfl] at h
      simp only [tsb, tsi, q2, if_true] at g2
      refine ⟨fun z => (by rw [show tsv B 58 (.inr (T ++ [(2, tkv (lk B p))], tke (lk B p))) = true from q2] at z; cases z), fun _ => ?_⟩
      refine t_lookS hτ g2 (by omega) fun I3 L3 f3 g3 t3 => ?_
      have t3 := t3 _ _ rfl
      rw [t3.kind (lk_k hB g3.1.2.2.2) (by omega)]
      refine ⟨fun q3 => ?_, fun q3 => ?_⟩
      · have q3 : tkk (lk B (tke (lk B (tke (lk B p))))) = 2 := by omega
        rw [if_pos q3] at h
        refine t_takes hτ g3 t3 (by omega) (by omega) (by omega) fun I4 L4 f4 g4 => h I4 L4 (((f1.tr f2).tr f3).tr f4) ?_
        rw [q3] at g4
        simp only [List.append_assoc, List.cons_append, List.nil_append] at g4
        exact g4
      · rw [if_neg (by omega)] at h
        exact t_failsG hτ g3 t3 (by omega) dp fun I4 L4 f4 g4 => h I4 L4 (((f1.tr f2).tr f3).tr f4) g4
  · rw [if_neg (by omega)] at h
    refine t_takes hτ hs ht (by omega) (by omega) (by omega) fun I1 L1 f1 g1 => ?_
    rcases hk with hk | hk | hk
    · omega
    · rw [if_pos hk] at h
      rw [hk, o.2.2.2.2.2.2.2.2.2 hk] at g1
      exact h I1 L1 f1 g1
    · rw [if_neg (by omega), if_pos hk] at h
      rw [hk] at g1
      exact h I1 L1 f1 g1
theorem t_area (hτ : tw_ok τ) {s : TS} (hs : tps τ I L B dp s) {Q : tw_I → tw_L → Prop} (hd : 10 ≤ d)
    (h : ∀ I2 L2, twf PW I L I2 L2 → tps τ I2 L2 B dp (tsb s fun T p => tsr T (pArea B p)) → Q I2 L2) : wp_c d 287 [.ref 1315] (tw τ I L) (tv τ Q) := by
  match s, hs, h with
  | .inl e, hs, h => exact t_287X hτ hs (by omega) (h I L twf.rf hs)
  | .inr (T, p), hs, h =>
    have hB := hs.1.2.1.bok
    have hp := hs.1.2.2.2
    refine k287 hτ (by omega) ?_
    rw [hs.neg]
    refine ⟨fun _ => ?_, fun z => absurd ⟨T, p, rfl⟩ z⟩
    refine t_lookS hτ hs (by omega) fun I1 L1 f1 g1 t1 => ?_
    have t1 := t1 _ _ rfl
    rw [t1.kind (lk_k hB hp) (by omega), t1.kind (lk_k hB hp) (by omega), t1.kind (lk_k hB hp) (by omega)]
    have go := fun hk => t_area41 hτ g1 t1 hk (Q := Q) (d := d - 1) (by omega) (fun I2 L2 f g => h I2 L2 (f1.tr f) g) .null
    refine ⟨fun q => go (by omega), fun q => ⟨fun q2 => go (by omega), fun q2 => ⟨fun q3 => go (by omega), fun q3 => ?_⟩⟩⟩
    refine t_failsG hτ g1 t1 (by omega) dp fun I4 L4 f4 g4 => h I4 L4 (f1.tr f4) ?_
    simp only [tsb, pArea]
    rw [if_neg (by omega), if_neg (by omega), if_neg (by omega)]
    exact g4
/-! every reader, by fuel -/
def RX (τ : tw_K) (B : List Nat) (f num nt rk : Nat) : Prop := ∀ (dp : Nat) (T : List (Nat × Nat)) (p : Nat) (I : tw_I) (L : tw_L) (Q : tw_I → tw_L → Prop) (d : Nat), tps τ I L B dp (.inr (T, p)) → 10 * (B.length + 1 - p) + rk ≤ f → 4 * f + 20 ≤ d →
  (∀ I2 L2, twf PW I L I2 L2 → tps τ I2 L2 B dp (tsr T (ps B f nt 0 dp p .null)) → Q I2 L2) → wp_c d num [.ref 1315] (tw τ I L) (tv τ Q)
def RL (τ : tw_K) (B : List Nat) (f num nt : Nat) : Prop := ∀ (dp : Nat) (T : List (Nat × Nat)) (acc : Fm) (p : Nat) (I : tw_I) (L : tw_L) (Q : tw_I → tw_L → Prop) (d : Nat), tps τ I L B dp (.inr (T ++ tk acc, p)) → 10 * (B.length + 1 - p) + 1 ≤ f → 4 * f + 20 ≤ d →
  (∀ I2 L2, twf PW I L I2 L2 → tps τ I2 L2 B dp (tsr T (ps B f nt 0 dp p acc)) → Q I2 L2) → wp_r d num (4, [.ref 1315], [], tw τ I L) (tv τ Q)
def RA (τ : tw_K) (B : List Nat) (f nt : Nat) : Prop := ∀ (v n dp : Nat) (T : List (Nat × Nat)) (p : Nat) (I : tw_I) (L : tw_L) (Q : tw_I → tw_L → Prop) (d : Nat), v < 9 → (nt = if v = 4 then 8 else 7) → n ≤ 8 → tps τ I L B dp (.inr (T, p)) → 10 * (B.length + 1 - p) + 7 ≤ f → 4 * f + 20 ≤ d →
  (∀ I2 L2, twf PW I L I2 L2 → tps τ I2 L2 B dp (tsr T (ps B f nt n dp p .null)) → Q I2 L2) → wp_r d 292 (4, [.ref 1315, .int (zi v), .int (zi n), .int (zi 1)], [], tw τ I L) (tv τ Q)
theorem t_e (hτ : tw_ok τ) {f : Nat} (R : RX τ B f 290 0 5) {s : TS} (hs : tps τ I L B dp s) (hf : ∀ T p, s = .inr (T, p) → 10 * (B.length + 1 - p) + 5 ≤ f) {Q : tw_I → tw_L → Prop} (hd : 4 * f + 20 ≤ d)
    (h : ∀ I2 L2, twf PW I L I2 L2 → tps τ I2 L2 B dp (tsb s fun T p => tsr T (ps B f 0 0 dp p .null)) → Q I2 L2) : wp_c d 290 [.ref 1315] (tw τ I L) (tv τ Q) := by
  match s, hs, h, hf with
  | .inl e, hs, h, hf => exact t_290X hτ hs (by omega) h
  | .inr (T, p), hs, h, hf => exact R dp T p I L Q d hs (hf T p rfl) hd h
theorem tsv_r (B : List Nat) (c : Nat) (T : List (Nat × Nat)) (p : Nat) : tsv B c (.inr (T, p)) = isT (lk B p) c := rfl
/-- sums' and products' tails: one operator -/
theorem r_op (hτ : tw_ok τ) {f num1 num nt1 nt rk : Nat} {o : Jvm.Binary} {c : Nat} (hoc : opc o = c) (R1 : RX τ B f num1 nt1 rk) (RT : RL τ B f num nt) (hX : ∀ (e dp : Nat) (I : tw_I) (L : tw_L) (Q : tw_I → tw_L → Prop), tps τ I L B dp (.inl e) → (∀ I2 L2, twf PW I L I2 L2 → tps τ I2 L2 B dp (.inl e) → Q I2 L2) → wp_r d num (4, [.ref 1315], [], tw τ I L) (tv τ Q))
    (hn : nt1 = 2 ∨ nt1 = 3) (hrk : rk ≤ 4) {T : List (Nat × Nat)} {acc : Fm} {p p1 : Nat} (hp1 : p < p1) (hB : bok B) (hs : tps τ I L B dp (.inr (T ++ tk acc ++ [(6, c)], p1))) (hf : 10 * (B.length + 1 - p) + 1 ≤ f + 1) {Q : tw_I → tw_L → Prop} (hd : 4 * f + 20 ≤ d)
    (h : ∀ I2 L2, twf PW I L I2 L2 → tps τ I2 L2 B dp (tsr T (bnd (ps B f nt1 0 dp p1 .null) fun r p2 => ps B f nt 0 dp p2 (.op2 o acc r))) → Q I2 L2) :
    wp_c d num1 [.ref 1315] (tw τ I L) (tv τ fun I4 L4 => wp_r d num (4, [.ref 1315], [], tw τ I4 L4) (tv τ Q)) := by
  have hp := hs.1.2.2.2
  refine R1 dp _ p1 I L _ d hs (by omega) hd fun I2 L2 f2 g2 => ?_
  rcases e : ps B f nt1 0 dp p1 .null with x | ⟨r, p2⟩
  · rw [e] at g2 h
    exact hX x dp I2 L2 Q g2 fun I3 L3 f3 g3 => h I3 L3 (f2.tr f3) g3
  · rw [e] at g2 h
    have hg := (ps_gt hB f nt1 0 dp p1 .null r p2 (.inl ⟨by omega, rfl, rfl⟩) hp e).1 (by omega) (by omega)
    have hg2 := (ps_gt hB f nt1 0 dp p1 .null r p2 (.inl ⟨by omega, rfl, rfl⟩) hp e).2.2
    refine RT dp T (.op2 o acc r) p2 I2 L2 Q d ?_ (by omega) hd fun I3 L3 f3 g3 => h I3 L3 (f2.tr f3) g3
    have ee : T ++ tk (.op2 o acc r) = T ++ tk acc ++ [(6, c)] ++ tk r := by
      rw [← hoc]
      show T ++ (tk acc ++ (6, opc o) :: tk r) = _
      simp
    rw [ee]
    exact g2
theorem r_5 (hτ : tw_ok τ) (hB : bok B) {f : Nat} (R2 : RX τ B f 296 2 3) (R5 : RL τ B f 297 5) : RL τ B (f + 1) 297 5 := by
  intro dp T acc p I L Q d hs hf hd h
  have hp := hs.1.2.2.2
  rw [ps5] at h
  refine k297_4 hτ (by omega) (t_takesIf (c := 43) hτ hs (by omega) (by omega) fun I1 L1 f1 g1 _ => ?_)
  rw [bz_0, tsv_r]
  cases q1 : isT (lk B p) 43 with
  | true =>
    rw [q1, if_pos rfl] at h
    simp only [tsb, tsi, q1, if_true] at g1
    have := isT_ok hB hp q1
    exact ⟨fun z => (by cases z), fun _ => r_op (o := .ladd) hτ rfl R2 R5 (fun e dp I L Q a b => t_297B hτ a (by omega) b) (by omega) (by omega) this.1 hB g1 hf (by omega) fun I2 L2 f2 g2 => h I2 L2 (f1.tr f2) g2⟩
  | false =>
  rw [q1, if_neg (by decide)] at h
  simp only [tsb, tsi, q1, Bool.false_eq_true, if_false] at g1
  refine ⟨fun _ => ?_, fun z => absurd rfl z⟩
  refine t_takesIf (c := 45) hτ g1 (by omega) (by omega) fun I2 L2 f2 g2 _ => ?_
  rw [bz_0, tsv_r]
  cases q2 : isT (lk B p) 45 with
  | true =>
    rw [q2, if_pos rfl] at h
    simp only [tsb, tsi, q2, if_true] at g2
    have := isT_ok hB hp q2
    exact ⟨fun z => (by cases z), fun _ => r_op (o := .lsub) hτ rfl R2 R5 (fun e dp I L Q a b => t_297B hτ a (by omega) b) (by omega) (by omega) this.1 hB g2 hf (by omega) fun I3 L3 f3 g3 => h I3 L3 ((f1.tr f2).tr f3) g3⟩
  | false =>
    rw [q2, if_neg (by decide)] at h
    simp only [tsb, tsi, q2, Bool.false_eq_true, if_false] at g2
    exact ⟨fun _ => h I2 L2 (f1.tr f2) g2, fun z => absurd rfl z⟩
theorem r_6 (hτ : tw_ok τ) (hB : bok B) {f : Nat} (R2 : RX τ B f 298 3 2) (R5 : RL τ B f 296 6) : RL τ B (f + 1) 296 6 := by
  intro dp T acc p I L Q d hs hf hd h
  have hp := hs.1.2.2.2
  rw [ps6] at h
  refine k296_4 hτ (by omega) (t_takesIf (c := 42) hτ hs (by omega) (by omega) fun I1 L1 f1 g1 _ => ?_)
  rw [bz_0, tsv_r]
  cases q1 : isT (lk B p) 42 with
  | true =>
    rw [q1, if_pos rfl] at h
    simp only [tsb, tsi, q1, if_true] at g1
    have := isT_ok hB hp q1
    exact ⟨fun z => (by cases z), fun _ => r_op (o := .lmul) hτ rfl R2 R5 (fun e dp I L Q a b => t_296B hτ a (by omega) b) (by omega) (by omega) this.1 hB g1 hf (by omega) fun I2 L2 f2 g2 => h I2 L2 (f1.tr f2) g2⟩
  | false =>
  rw [q1, if_neg (by decide)] at h
  simp only [tsb, tsi, q1, Bool.false_eq_true, if_false] at g1
  refine ⟨fun _ => ?_, fun z => absurd rfl z⟩
  refine t_takesIf (c := 47) hτ g1 (by omega) (by omega) fun I2 L2 f2 g2 _ => ?_
  rw [bz_0, tsv_r]
  cases q2 : isT (lk B p) 47 with
  | true =>
    rw [q2, if_pos rfl] at h
    simp only [tsb, tsi, q2, if_true] at g2
    have := isT_ok hB hp q2
    exact ⟨fun z => (by cases z), fun _ => r_op (o := .ldiv) hτ rfl R2 R5 (fun e dp I L Q a b => t_296B hτ a (by omega) b) (by omega) (by omega) this.1 hB g2 hf (by omega) fun I3 L3 f3 g3 => h I3 L3 ((f1.tr f2).tr f3) g3⟩
  | false =>
  rw [q2, if_neg (by decide)] at h
  simp only [tsb, tsi, q2, Bool.false_eq_true, if_false] at g2
  refine ⟨fun _ => ?_, fun z => absurd rfl z⟩
  refine t_takesIf (c := 37) hτ g2 (by omega) (by omega) fun I3 L3 f3 g3 _ => ?_
  rw [bz_0, tsv_r]
  cases q3 : isT (lk B p) 37 with
  | true =>
    rw [q3, if_pos rfl] at h
    simp only [tsb, tsi, q3, if_true] at g3
    have := isT_ok hB hp q3
    exact ⟨fun z => (by cases z), fun _ => r_op (o := .lrem) hτ rfl R2 R5 (fun e dp I L Q a b => t_296B hτ a (by omega) b) (by omega) (by omega) this.1 hB g3 hf (by omega) fun I4 L4 f4 g4 => h I4 L4 (((f1.tr f2).tr f3).tr f4) g4⟩
  | false =>
    rw [q3, if_neg (by decide)] at h
    simp only [tsb, tsi, q3, Bool.false_eq_true, if_false] at g3
    exact ⟨fun _ => h I3 L3 ((f1.tr f2).tr f3) g3, fun z => absurd rfl z⟩
theorem r_1 (hτ : tw_ok τ) (hB : bok B) {f : Nat} (R2 : RX τ B f 296 2 3) (R5 : RL τ B f 297 5) : RX τ B (f + 1) 297 1 4 := by
  intro dp T p I L Q d hs hf hd h
  have hp := hs.1.2.2.2
  rw [ps1] at h
  refine k297 hτ (by omega) (R2 dp T p I L _ _ hs (by omega) (by omega) fun I1 L1 f1 g1 => ?_)
  rcases e : ps B f 2 0 dp p .null with x | ⟨r, p2⟩
  · rw [e] at g1 h
    exact t_297B hτ g1 (by omega) fun I2 L2 f2 g2 => h I2 L2 (f1.tr f2) g2
  · rw [e] at g1 h
    have hg := (ps_gt hB f 2 0 dp p .null r p2 (.inl ⟨by omega, rfl, rfl⟩) hp e)
    exact R5 dp T r p2 I1 L1 Q _ g1 (by omega) (by omega) fun I2 L2 f2 g2 => h I2 L2 (f1.tr f2) g2
theorem r_2 (hτ : tw_ok τ) (hB : bok B) {f : Nat} (R2 : RX τ B f 298 3 2) (R5 : RL τ B f 296 6) : RX τ B (f + 1) 296 2 3 := by
  intro dp T p I L Q d hs hf hd h
  have hp := hs.1.2.2.2
  rw [ps2] at h
  refine k296 hτ (by omega) (R2 dp T p I L _ _ hs (by omega) (by omega) fun I1 L1 f1 g1 => ?_)
  rcases e : ps B f 3 0 dp p .null with x | ⟨r, p2⟩
  · rw [e] at g1 h
    exact t_296B hτ g1 (by omega) fun I2 L2 f2 g2 => h I2 L2 (f1.tr f2) g2
  · rw [e] at g1 h
    have hg := (ps_gt hB f 3 0 dp p .null r p2 (.inl ⟨by omega, rfl, rfl⟩) hp e)
    exact R5 dp T r p2 I1 L1 Q _ g1 (by omega) (by omega) fun I2 L2 f2 g2 => h I2 L2 (f1.tr f2) g2
theorem r_3 (hτ : tw_ok τ) (hB : bok B) {f : Nat} (R3 : RX τ B f 298 3 2) (R4 : RX τ B f 295 4 1) : RX τ B (f + 1) 298 3 2 := by
  intro dp T p I L Q d hs hf hd h
  have hp := hs.1.2.2.2
  rw [ps3] at h
  refine k298 hτ (by omega) ?_
  rw [hs.neg]
  refine ⟨fun _ => ?_, fun z => absurd ⟨T, p, rfl⟩ z⟩
  refine t_sees (c := 45) hτ hs (by omega) (by omega) fun I1 L1 f1 g1 t1 => ?_
  have t1 := t1 _ _ rfl
  rw [bz_0, tsv_r]
  cases q1 : isT (lk B p) 45 with
  | false =>
    rw [q1, if_neg (by decide)] at h
    exact ⟨fun _ => R4 dp T p I1 L1 _ _ g1 (by omega) (by omega) fun I2 L2 f2 g2 => h I2 L2 (f1.tr f2) g2, fun z => absurd rfl z⟩
  | true =>
    rw [q1, if_pos rfl] at h
    have o := isT_ok hB hp q1
    refine ⟨fun z => (by cases z), fun _ => t_opens hτ g1 t1 (by omega) (fun h10 I2 L2 dp2 f2 g2 => ?_) (fun h10 I2 f2 g2 t2 => ?_)⟩
    · rw [if_pos h10] at h
      exact ⟨fun _ => h I2 L2 (f1.tr f2) g2, fun z => absurd rfl z⟩
    · rw [if_neg h10] at h
      refine ⟨fun z => absurd z (by decide), fun _ => ?_⟩
      refine t_takes hτ g2 t2 (by omega) (by omega) (by omega) fun I3 L3 f3 g3 => ?_
      rw [o.2.2.1, o.2.2.2] at g3
      refine R3 (dp + 1) _ _ I3 L3 _ _ g3 (by omega) (by omega) fun I4 L4 f4 g4 => ?_
      rintro I5 rfl
      have fr : twf PW I L (cm_u2 I4 1315 24 (I4 1315 24 - zi 1)) L4 := ((((f1.tr f2).tr f3).tr f4).pI (by unfold PW; omega) _)
      rcases e : ps B f 3 0 (dp + 1) (tke (lk B p)) .null with x | ⟨r, p2⟩
      · rw [e] at g4 h
        exact h _ _ fr (g4.deepB hτ dp _)
      · rw [e] at g4 h
        refine h _ _ fr ?_
        have g5 := tps.deep hτ g4 dp (by have := hs.2.2.2.1; omega) (I4 1315 24 - zi 1) (by rw [g4.2.2.1, zi_sub]; congr 1; omega)
        have ee : T ++ tk (.op1 .lneg r) = T ++ [(6, 45)] ++ tk r := by
          show T ++ ((6, 45) :: tk r) = _
          simp
        simp only [bnd, tsr] at g5 ⊢
        rw [ee]
        exact g5
theorem r_0 (hτ : tw_ok τ) (hB : bok B) {f : Nat} (R1 : RX τ B f 297 1 4) : RX τ B (f + 1) 290 0 5 := by
  intro dp T p I L Q d hs hf hd h
  have hp := hs.1.2.2.2
  rw [ps0] at h
  refine k290 hτ (by omega) (R1 dp T p I L _ _ hs (by omega) (by omega) fun I1 L1 f1 g1 => t_lookS hτ g1 (by omega) fun I2 L2 f2 g2 t2 => ?_)
  rw [g2.neg]
  rcases e : ps B f 1 0 dp p .null with x | ⟨l, p1⟩
  · rw [e] at g2 h
    exact ⟨fun ⟨_, _, z⟩ => (by cases z), fun _ => h I2 L2 (f1.tr f2) g2⟩
  rw [e] at g2 h t2
  have hg := (ps_gt hB f 1 0 dp p .null l p1 (.inl ⟨by omega, rfl, rfl⟩) hp e)
  refine ⟨fun _ => ?_, fun z => absurd ⟨_, _, rfl⟩ z⟩
  have t2 := t2 _ _ rfl
  have hk := lk_k hB hg.2.2
  rw [t2.kind hk (by omega)]
  have no : (cmpT (lk B p1) = none) → Q I2 L2 := fun z => h I2 L2 (f1.tr f2) (by simp only [bnd, z]; exact g2)
  refine ⟨fun q => ?_, fun q => no (by unfold cmpT; rw [if_neg (by omega)])⟩
  have q6 : tkk (lk B p1) = 6 := by omega
  have o := lk_ok hB hg.2.2 (by omega) (by omega)
  have go : ∀ ob, cmpT (lk B p1) = some ob → opc ob = tkv (lk B p1) → wp_r (d - 1) 290 (68, [.ref 1315, .null], [], tw τ I2 L2) (tv τ Q) := by
    intro ob hob hv
    refine k290_68 hτ (by omega) (t_takes hτ g2 t2 (by omega) (by omega) (by omega) fun I3 L3 f3 g3 => R1 dp _ _ I3 L3 _ _ g3 (by omega) (by omega) fun I4 L4 f4 g4 => h I4 L4 (((f1.tr f2).tr f3).tr f4) ?_)
    simp only [bnd, hob]
    rcases e2 : ps B f 1 0 dp (tke (lk B p1)) .null with x | ⟨r, p2⟩
    · rw [e2] at g4
      exact g4
    · rw [e2] at g4
      simp only [tsr] at g4 ⊢
      have ee : T ++ tk (.op2 ob l r) = T ++ tk l ++ [(tkk (lk B p1), tkv (lk B p1))] ++ tk r := by
        rw [q6, ← hv]
        show T ++ (tk l ++ (6, opc ob) :: tk r) = _
        simp
      rw [ee]
      exact g4
  have sig := lk_sig hB hg.2.2 q6
  rw [t2.what o.2.2.2.2.2.1 (by omega), t2.what o.2.2.2.2.2.1 (by omega), t2.what o.2.2.2.2.2.1 (by omega)]
  have hw : L2 1315 26 = zl ((tkv (lk B p1) : Nat) : Int) := t2.2.2.1
  rw [hw, zl_lt (by omega) (by omega) (by omega) (by omega)]
  have hc : cmpT (lk B p1) = (if tkv (lk B p1) = 61 then some .land else if tkv (lk B p1) = 60 then some .lxor else if tkv (lk B p1) = 62 then some .lshr else if tkv (lk B p1) = 256 then some .lor else if tkv (lk B p1) = 257 then some .lshl else if tkv (lk B p1) = 258 then some .lushr else none) := by
    unfold cmpT; rw [if_pos q6]
  refine ⟨fun q => ?_, fun q1 => ⟨fun q => ?_, fun q2 => ⟨fun q => ?_, fun q3 => ⟨fun q => ?_, fun q4 => ?_⟩⟩⟩⟩
  · have qq : tkv (lk B p1) = 61 := by omega
    exact go .land (by rw [hc, if_pos qq]) (by rw [qq]; rfl)
  · have qq : tkv (lk B p1) = 60 := by omega
    exact go .lxor (by rw [hc, if_neg (by omega), if_pos qq]) (by rw [qq]; rfl)
  · have qq : tkv (lk B p1) = 62 := by omega
    exact go .lshr (by rw [hc, if_neg (by omega), if_neg (by omega), if_pos qq]) (by rw [qq]; rfl)
  · exact no (by rw [hc, if_neg (by omega), if_neg (by omega), if_neg (by omega), if_neg (by omega), if_neg (by omega), if_neg (by omega)])
  · rcases (show tkv (lk B p1) = 256 ∨ tkv (lk B p1) = 257 ∨ tkv (lk B p1) = 258 by omega) with qq | qq | qq
    · exact go .lor (by rw [hc, if_neg (by omega), if_neg (by omega), if_neg (by omega), if_pos qq]) (by rw [qq]; rfl)
    · exact go .lshl (by rw [hc, if_neg (by omega), if_neg (by omega), if_neg (by omega), if_neg (by omega), if_pos qq]) (by rw [qq]; rfl)
    · exact go .lushr (by rw [hc, if_neg (by omega), if_neg (by omega), if_neg (by omega), if_neg (by omega), if_neg (by omega), if_pos qq]) (by rw [qq]; rfl)
end
