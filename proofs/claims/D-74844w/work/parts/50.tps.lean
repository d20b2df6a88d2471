/-! THE TWIN: the reading of a formula, its state -/
abbrev TS : Type := Nat ⊕ (List (Nat × Nat) × Nat)
def tsb (s : TS) (k : List (Nat × Nat) → Nat → TS) : TS := match s with
  | .inl e => .inl e
  | .inr (T, p) => k T p
def tsr (T : List (Nat × Nat)) (r : PR) : TS := match r with
  | .inl e => .inl e
  | .inr (t, p) => .inr (T ++ tk t, p)
def tsn (B : List Nat) (c : Nat) (T : List (Nat × Nat)) (p : Nat) : TS := if isT (lk B p) c = true then .inr (T ++ [(6, c)], tke (lk B p)) else .inl (tkb (lk B p))
def tsi (B : List Nat) (c : Nat) (T : List (Nat × Nat)) (p : Nat) : TS := if isT (lk B p) c = true then .inr (T ++ [(6, c)], tke (lk B p)) else .inr (T, p)
def tsv (B : List Nat) (c : Nat) (s : TS) : Bool := match s with
  | .inl _ => false
  | .inr (_, p) => isT (lk B p) c
/-- what the reading writes -/
def PW (a i : Nat) : Prop := (a = 1315 ∧ 19 ≤ i ∧ i ≤ 26) ∨ a = 1331
theorem PW_I : twI PW := fun a i h => by unfold PW at h; omega
theorem PW_b : ¬ PW 1315 18 ∧ ∀ i, ¬ PW 1330 i := by
  unfold PW; constructor
  · omega
  · intro i; omega
theorem LW_PW (a i : Nat) (h : LW a i) : PW a i := by unfold LW at h; unfold PW; omega
def tcom (τ : tw_K) (I : tw_I) (B : List Nat) (p : Nat) : Prop := tcs τ I ∧ tbf I B ∧ I 1315 19 = zi p ∧ p ≤ B.length
def tps (τ : tw_K) (I : tw_I) (L : tw_L) (B : List Nat) (dp : Nat) (s : TS) : Prop := match s with
  | .inl e => (∃ p, tcom τ I B p) ∧ I 1315 23 = zi e ∧ e ≤ 80
  | .inr (T, p) => tcom τ I B p ∧ I 1315 23 = zi (-1) ∧ I 1315 24 = zi dp ∧ dp ≤ 10 ∧ I 1315 25 = zi T.length ∧ T.length ≤ p ∧ ∀ (i : Nat) (q : Nat × Nat), T[i]? = some q → L 1331 i = tok q.1 q.2
theorem lk_k {B : List Nat} (hB : bok B) {p : Nat} (hp : p ≤ B.length) : tkk (lk B p) ≤ 7 := by
  by_cases h0 : tkk (lk B p) = 0
  · omega
  by_cases h7 : tkk (lk B p) = 7
  · omega
  have := lk_ok hB hp h0 h7
  omega
theorem lk_b80 {B : List Nat} {p : Nat} (hl : B.length ≤ 80) (hp : p ≤ B.length) : tkb (lk B p) ≤ 80 := by
  rw [lk_b]
  have : skip B p ≤ B.length := rn_le isSp B _ p rfl hp
  omega
theorem isT_ok {B : List Nat} (hB : bok B) {p : Nat} (hp : p ≤ B.length) {c : Nat} (h : isT (lk B p) c = true) : p < tke (lk B p) ∧ tke (lk B p) ≤ B.length ∧ tkk (lk B p) = 6 ∧ tkv (lk B p) = c := by
  unfold isT at h
  rw [Bool.and_eq_true, beq_iff_eq, beq_iff_eq] at h
  have := lk_ok hB hp (by omega) (by omega)
  exact ⟨this.2.1, this.2.2.1, h.1, h.2⟩
section
variable {τ : tw_K} {I : tw_I} {L : tw_L} {d : Nat} {B : List Nat} {dp : Nat}
theorem tps.kept (hτ : tw_ok τ) {s : TS} (h : tps τ I L B dp s) {I2 : tw_I} {L2 : tw_L} (f : twf LW I L I2 L2) : tps τ I2 L2 B dp s := by
  have com : ∀ p, tcom τ I B p → tcom τ I2 B p := fun p g => ⟨g.1.kept hτ LW_I f, g.2.1.kept f LW_b.1 LW_b.2, by rw [(f 1315 19 (by unfold LW; omega)).1]; exact g.2.2.1, g.2.2.2⟩
  have e : ∀ i, i = 23 ∨ i = 24 ∨ i = 25 → I2 1315 i = I 1315 i := fun i g => (f 1315 i (by unfold LW; omega)).1
  match s, h with
  | .inl x, h =>
    obtain ⟨⟨p, h1⟩, h2, h3⟩ := h
    exact ⟨⟨p, com p h1⟩, by rw [e 23 (by omega)]; exact h2, h3⟩
  | .inr (T, p), h =>
    obtain ⟨h1, h2, h3, h4, h5, h6, h7⟩ := h
    exact ⟨com p h1, by rw [e 23 (by omega)]; exact h2, by rw [e 24 (by omega)]; exact h3, h4, by rw [e 25 (by omega)]; exact h5, h6, fun i q hq => by rw [(f 1331 i (by unfold LW; omega)).2]; exact h7 i q hq⟩
theorem t_lookS (hτ : tw_ok τ) {s : TS} (hs : tps τ I L B dp s) {Q : tw_I → tw_L → Prop} (hd : 7 ≤ d)
    (h : ∀ I2 L2, twf PW I L I2 L2 → tps τ I2 L2 B dp s → (∀ T p, s = .inr (T, p) → tlx I2 L2 (lk B p)) → Q I2 L2) : wp_c d 254 [.ref 1315] (tw τ I L) (tv τ Q) := by
  match s, hs with
  | .inl x, hs =>
    obtain ⟨p, h1⟩ := hs.1
    exact t_look hτ h1.1 h1.2.1 h1.2.2.1 h1.2.2.2 hd (fun I2 L2 f _ => h I2 L2 (f.wi LW_PW) (tps.kept hτ (s := .inl x) hs f) (fun T p e => (by cases e)))
  | .inr (T, p), hs =>
    have h1 := hs.1
    exact t_look hτ h1.1 h1.2.1 h1.2.2.1 h1.2.2.2 hd (fun I2 L2 f g => h I2 L2 (f.wi LW_PW) (tps.kept hτ (s := .inr (T, p)) hs f) (fun T2 p2 e => (by cases e; exact g)))
theorem tps.neg {s : TS} (h : tps τ I L B dp s) : (I 1315 23 < zi 0) ↔ ∃ T p, s = .inr (T, p) := by
  match s, h with
  | .inl x, h =>
    rw [h.2.1, zi_lt (by have := h.2.2; omega) (by have := h.2.2; omega) (by omega) (by omega)]
    exact ⟨fun q => by omega, fun ⟨_, _, e⟩ => by cases e⟩
  | .inr (T, p), h =>
    rw [h.2.1, zi_lt (by omega) (by omega) (by omega) (by omega)]
    exact ⟨fun _ => ⟨T, p, rfl⟩, fun _ => by omega⟩
theorem t_sees (hτ : tw_ok τ) {s : TS} (hs : tps τ I L B dp s) {c : Nat} (hc : c < 1000) {Q : Int32 → tw_I → tw_L → Prop} (hd : 8 ≤ d)
    (h : ∀ I2 L2, twf PW I L I2 L2 → tps τ I2 L2 B dp s → (∀ T p, s = .inr (T, p) → tlx I2 L2 (lk B p)) → Q (bz (tsv B c s)) I2 L2) : wp_c d 306 [.ref 1315, .int (zi c)] (tw τ I L) (ti τ Q) := by
  refine k306 hτ (by omega) (t_lookS hτ hs (by omega) fun I2 L2 f g t => ?_)
  have h := h I2 L2 f g t
  rw [g.neg]
  refine ⟨fun ⟨T, p, e⟩ => ?_, fun n => ?_⟩
  · subst e
    have hx := t T p rfl
    have hB := g.1.2.1
    have hk := lk_k hB.bok g.1.2.2.2
    unfold tkk at hk
    rw [hx.2.1, zi_eq (by omega) (by omega) (by omega) (by omega)]
    simp only [tsv, isT, tkk, tkv] at h
    refine ⟨fun q => ?_, fun q => ?_⟩
    · have := (lk_ok hB.bok g.1.2.2.2 (by unfold tkk; omega) (by unfold tkk; omega)).2.2.2.2.2.1
      unfold tkv at this
      rw [hx.2.2.1, zi_l (by omega) (by omega), zl_eq (by omega) (by omega) (by omega) (by omega)]
      rw [show ((lk B p).2.1 == 6) = true by rw [beq_iff_eq]; omega, Bool.true_and] at h
      refine ⟨fun q2 => ?_, fun q2 => ?_⟩
      · rwa [show ((lk B p).2.2.1 == c) = true by rw [beq_iff_eq]; omega] at h
      · rwa [show ((lk B p).2.2.1 == c) = false by rw [beq_eq_false_iff_ne]; omega] at h
    · rwa [show ((lk B p).2.1 == 6) = false by rw [beq_eq_false_iff_ne]; omega] at h
  · match s, n with
    | .inl x, _ => exact h
    | .inr (T, p), n => exact absurd ⟨T, p, rfl⟩ n
theorem t_takes (hτ : tw_ok τ) {T : List (Nat × Nat)} {p : Nat} (hs : tps τ I L B dp (.inr (T, p))) (ht : tlx I L (lk B p)) (h0 : tkk (lk B p) ≠ 0) (h7 : tkk (lk B p) ≠ 7) {Q : tw_I → tw_L → Prop} (hd : 2 ≤ d)
    (h : ∀ I2 L2, twf PW I L I2 L2 → tps τ I2 L2 B dp (.inr (T ++ [(tkk (lk B p), tkv (lk B p))], tke (lk B p))) → Q I2 L2) : wp_c d 316 [.ref 1315] (tw τ I L) (tv τ Q) := by
  obtain ⟨h1, h2, h3, h4, h5, h6, hT⟩ := hs
  obtain ⟨o1, o2, o3, o4, o5, o6, -⟩ := lk_ok h1.2.1.bok h1.2.2.2 h0 h7
  have hl := h1.2.1.2.1
  refine k316 hτ hd ?_
  rw [ht.2.1, ht.2.2.1]
  have o5' : (lk B p).2.1 < 7 := o5
  refine t_of hτ (by omega) (by omega) ⟨?_, ?_⟩
  · rw [h5]; exact zn_in (by omega) (by omega)
  rintro L2 rfl I3 rfl I4 rfl
  rw [h5, zn_ix (by omega), zn_a T.length 1 1 rfl]
  have f1 : twf PW I L (cm_u2 I 1315 25 (zi ((T.length + 1 : Nat) : Int))) (cm_u2 L 1331 T.length (tok (lk B p).2.1 (lk B p).2.2.1)) := (twf.rf.pL (by unfold PW; omega) _).pI (by unfold PW; omega) _
  have f2 := f1.pI (a := 1315) (i := 19) (by unfold PW; omega) (cm_u2 I 1315 25 (zi ((T.length + 1 : Nat) : Int)) 1315 21)
  refine h _ _ f2 ⟨⟨h1.1.kept hτ PW_I f2, h1.2.1.kept f2 PW_b.1 PW_b.2, ?_, o3⟩, ?_, ?_, h4, ?_, ?_, ?_⟩
  · rw [u2_same, u2_nj _ _ _ _ _ (by omega), ht.2.2.2]; rfl
  · rw [u2_nj _ _ _ _ _ (by omega), u2_nj _ _ _ _ _ (by omega)]; exact h2
  · rw [u2_nj _ _ _ _ _ (by omega), u2_nj _ _ _ _ _ (by omega)]; exact h3
  · rw [u2_nj _ _ _ _ _ (by omega), u2_same, List.length_append]; rfl
  · rw [List.length_append, List.length_singleton]; omega
  · intro i q hq
    rw [u2_at]
    by_cases hi : i < T.length
    · rw [if_neg (by omega)]
      rw [List.getElem?_append_left hi] at hq
      exact hT i q hq
    · rw [List.getElem?_append_right (by omega)] at hq
      have hz : i - T.length = 0 := by
        cases z : i - T.length with
        | zero => rfl
        | succ m => rw [z] at hq; simp at hq
      rw [hz] at hq
      have hq : (tkk (lk B p), tkv (lk B p)) = q := by simpa using hq
      subst hq
      rw [if_pos (by omega)]
      rfl
theorem t_takesIf (hτ : tw_ok τ) {s : TS} (hs : tps τ I L B dp s) {c : Nat} (hc : c < 1000) {Q : Int32 → tw_I → tw_L → Prop} (hd : 9 ≤ d)
    (h : ∀ I2 L2, twf PW I L I2 L2 → tps τ I2 L2 B dp (tsb s (tsi B c)) → (∀ T p, s = .inr (T, p) → isT (lk B p) c = false → tlx I2 L2 (lk B p)) → Q (bz (tsv B c s)) I2 L2) : wp_c d 318 [.ref 1315, .int (zi c)] (tw τ I L) (ti τ Q) := by
  refine k318 hτ (by omega) (t_sees hτ hs hc (by omega) fun I2 L2 f g t => ?_)
  rw [bz_0]
  match s, hs, g, t, h with
  | .inl x, hs, g, t, h => exact ⟨fun _ => h I2 L2 f g (fun T p e => (by cases e)), fun q => absurd rfl q⟩
  | .inr (T, p), hs, g, t, h =>
    have ht := t T p rfl
    cases q : tsv B c (.inr (T, p)) with
    | false =>
      have q : isT (lk B p) c = false := q
      rw [show tsv B c (.inr (T, p)) = false from q] at h
      refine ⟨fun _ => h I2 L2 f ?_ (fun T2 p2 e _ => (by cases e; exact ht)), fun q => absurd rfl q⟩
      simp only [tsb, tsi, q, Bool.false_eq_true, if_false]
      exact g
    | true =>
      have q : isT (lk B p) c = true := q
      rw [show tsv B c (.inr (T, p)) = true from q] at h
      obtain ⟨o1, o2, o3, o4⟩ := isT_ok g.1.2.1.bok g.1.2.2.2 q
      refine ⟨fun z => (by cases z), fun _ => t_takes hτ g ht (by omega) (by omega) (by omega) fun I3 L3 f3 g3 => h I3 L3 (f.tr f3) ?_ (fun T2 p2 e z => (by cases e; rw [q] at z; cases z))⟩
      simp only [tsb, tsi, q, if_true]
      rw [o3, o4] at g3
      exact g3
theorem t_failsG (hτ : tw_ok τ) {T : List (Nat × Nat)} {p : Nat} (hs : tps τ I L B dp (.inr (T, p))) (ht : tlx I L (lk B p)) {Q : tw_I → tw_L → Prop} (hd : 1 ≤ d) (dp2 : Nat)
    (h : ∀ I2 L2, twf PW I L I2 L2 → tps τ I2 L2 B dp2 (.inl (tkb (lk B p))) → Q I2 L2) : wp_c d 217 [.ref 1315] (tw τ I L) (tv τ Q) := by
  refine k217 hτ hd ?_
  rw [hs.neg]
  refine ⟨fun _ => ?_, fun n => absurd ⟨T, p, rfl⟩ n⟩
  rintro I2 rfl
  have f : twf PW I L (cm_u2 I 1315 23 (I 1315 20)) L := twf.rf.pI (by unfold PW; omega) _
  refine h _ _ f ⟨⟨p, hs.1.1.kept hτ PW_I f, hs.1.2.1.kept f PW_b.1 PW_b.2, ?_, hs.1.2.2.2⟩, ?_, lk_b80 hs.1.2.1.2.1 hs.1.2.2.2⟩
  · rw [u2_nj _ _ _ _ _ (by omega)]; exact hs.1.2.2.1
  · rw [u2_same, ht.1]; rfl
theorem t_failsB (hτ : tw_ok τ) {e : Nat} (hs : tps τ I L B dp (.inl e)) {Q : tw_I → tw_L → Prop} (hd : 1 ≤ d) (h : Q I L) : wp_c d 217 [.ref 1315] (tw τ I L) (tv τ Q) := by
  refine k217 hτ hd ?_
  rw [hs.neg]
  exact ⟨fun ⟨_, _, z⟩ => (by cases z), fun _ => h⟩
theorem t_expects (hτ : tw_ok τ) {s : TS} (hs : tps τ I L B dp s) {c : Nat} (hc : c < 1000) {Q : tw_I → tw_L → Prop} (hd : 10 ≤ d)
    (h : ∀ I2 L2, twf PW I L I2 L2 → tps τ I2 L2 B dp (tsb s (tsn B c)) → Q I2 L2) : wp_c d 215 [.ref 1315, .int (zi c)] (tw τ I L) (tv τ Q) := by
  refine k215 hτ (by omega) (t_takesIf hτ hs hc (by omega) fun I2 L2 f g t => ?_)
  rw [bz_0]
  match s, hs, g, t, h with
  | .inl x, hs, g, t, h => exact ⟨fun _ => t_failsB hτ g (by omega) (h I2 L2 f g), fun q => absurd rfl q⟩
  | .inr (T, p), hs, g, t, h =>
    cases q : tsv B c (.inr (T, p)) with
    | false =>
      have q : isT (lk B p) c = false := q
      simp only [tsb, tsi, tsn, q, Bool.false_eq_true, if_false] at g h
      exact ⟨fun _ => t_failsG hτ g (t T p rfl q) (by omega) dp fun I3 L3 f3 g3 => h I3 L3 (f.tr f3) g3, fun q => absurd rfl q⟩
    | true =>
      have q : isT (lk B p) c = true := q
      simp only [tsb, tsi, tsn, q, if_true] at g h
      exact ⟨fun z => (by cases z), fun _ => h I2 L2 f g⟩
theorem tps.deep (hτ : tw_ok τ) {s : TS} (hs : tps τ I L B dp s) (dp2 : Nat) (h2 : dp2 ≤ 10) (v : Int32) (hv : v = zi dp2) : tps τ (cm_u2 I 1315 24 v) L B dp2 s := by
  have f : twf PW I L (cm_u2 I 1315 24 v) L := twf.rf.pI (by unfold PW; omega) _
  have com : ∀ p, tcom τ I B p → tcom τ (cm_u2 I 1315 24 v) B p := fun p g => ⟨g.1.kept hτ PW_I f, g.2.1.kept f PW_b.1 PW_b.2, by rw [u2_nj _ _ _ _ _ (by omega)]; exact g.2.2.1, g.2.2.2⟩
  match s, hs with
  | .inl x, h =>
    obtain ⟨⟨p, h1⟩, h2, h3⟩ := h
    exact ⟨⟨p, com p h1⟩, by rw [u2_nj _ _ _ _ _ (by omega)]; exact h2, h3⟩
  | .inr (T, p), h =>
    obtain ⟨h1, h2', h3, h4, h5, h6, h7⟩ := h
    exact ⟨com p h1, by rw [u2_nj _ _ _ _ _ (by omega)]; exact h2', by rw [u2_same]; exact hv, h2, by rw [u2_nj _ _ _ _ _ (by omega)]; exact h5, h6, h7⟩
theorem tps.deepB (hτ : tw_ok τ) {e : Nat} (hs : tps τ I L B dp (.inl e)) (dp2 : Nat) (v : Int32) : tps τ (cm_u2 I 1315 24 v) L B dp2 (.inl e) := by
  have f : twf PW I L (cm_u2 I 1315 24 v) L := twf.rf.pI (by unfold PW; omega) _
  obtain ⟨⟨p, g⟩, h2, h3⟩ := hs
  exact ⟨⟨p, g.1.kept hτ PW_I f, g.2.1.kept f PW_b.1 PW_b.2, by rw [u2_nj _ _ _ _ _ (by omega)]; exact g.2.2.1, g.2.2.2⟩, by rw [u2_nj _ _ _ _ _ (by omega)]; exact h2, h3⟩
theorem tlx.deep {t : Tk} (h : tlx I L t) (v : Int32) : tlx (cm_u2 I 1315 24 v) L t := ⟨by rw [u2_nj _ _ _ _ _ (by omega)]; exact h.1, by rw [u2_nj _ _ _ _ _ (by omega)]; exact h.2.1, h.2.2.1, by rw [u2_nj _ _ _ _ _ (by omega)]; exact h.2.2.2⟩
/-- one more level -/
theorem t_opens (hτ : tw_ok τ) {T : List (Nat × Nat)} {p : Nat} (hs : tps τ I L B dp (.inr (T, p))) (ht : tlx I L (lk B p)) {Q : Int32 → tw_I → tw_L → Prop} (hd : 2 ≤ d)
    (h1 : dp = 10 → ∀ I2 L2 dp2, twf PW I L I2 L2 → tps τ I2 L2 B dp2 (.inl (tkb (lk B p))) → Q (zi 0) I2 L2)
    (h2 : dp ≠ 10 → ∀ I2, twf PW I L I2 L → tps τ I2 L B (dp + 1) (.inr (T, p)) → tlx I2 L (lk B p) → Q (zi 1) I2 L) : wp_c d 279 [.ref 1315] (tw τ I L) (ti τ Q) := by
  have h3 := hs.2.2.1
  have h4 := hs.2.2.2.1
  refine k279 hτ hd ?_
  rw [h3, zi_eq (by omega) (by omega) (by omega) (by omega)]
  refine ⟨fun q => ?_, fun q => ?_⟩
  · refine t_failsG hτ hs ht (by omega) dp fun I2 L2 f g => ?_
    rintro I3 rfl
    have g2 := g.deepB hτ dp (I2 1315 24 + zi 1)
    rw [g2.neg]
    exact ⟨fun ⟨_, _, z⟩ => (by cases z), fun _ => h1 (by omega) _ _ dp (f.pI (by unfold PW; omega) _) g2⟩
  · rintro I3 rfl
    rw [zn_a dp 1 1 rfl]
    have g2 := hs.deep hτ (dp + 1) (by omega) (zi ((dp + 1 : Nat) : Int)) rfl
    rw [g2.neg]
    exact ⟨fun _ => h2 (by omega) _ (twf.rf.pI (by unfold PW; omega) _) g2 (ht.deep _), fun z => absurd ⟨T, p, rfl⟩ z⟩
end
