/-! THE TWIN: the evaluator's leaves -/
def EVW (a i : Nat) : Prop := a = 1315 ∧ ((38 ≤ i ∧ i ≤ 41) ∨ (44 ≤ i ∧ i ≤ 49))
def ARW (a i : Nat) : Prop := a = 1315 ∧ ((38 ≤ i ∧ i ≤ 41) ∨ i = 44 ∨ (47 ≤ i ∧ i ≤ 49))
theorem EVW_XW (a i : Nat) (h : EVW a i) : XW a i := by unfold EVW at h; unfold XW; omega
theorem ARW_EVW (a i : Nat) (h : ARW a i) : EVW a i := by unfold ARW at h; unfold EVW; omega
def tev (I : tw_I) (L : tw_L) (p : Nat) (x : Er) : Prop := I 1315 44 = zi p ∧ I 1315 45 = zi x.1 ∧ L 1315 46 = x.2 ∧ erk x
/-- the cell that is reckoned, its tokens -/
def cx (τ : tw_K) (I : tw_I) (L : tw_L) (B : List Nat) (S : Sh) (H : List Sh) (V O : Nat → Vl) (M W : Nat → Bool) (au : Bool) (ev c : Nat) (ts : List (Nat × Nat)) : Prop := tst τ I L B S H V O M W au ev ∧ I 1315 43 = zi c ∧ c < 240 ∧ ctk (S.1 c) = ts
/-- an area as the twin has it -/
def tar (I : tw_I) (x : Nat ⊕ (Nat × Nat)) : Prop := match x with
  | .inl e => I 1315 47 = zi e ∧ 1 ≤ e ∧ e ≤ 8
  | .inr (f, l) => I 1315 47 = zi 0 ∧ I 1315 48 = zi f ∧ I 1315 49 = zi l ∧ f < 240 ∧ l < 240
section
variable {τ : tw_K} {I : tw_I} {L : tw_L} {d : Nat} {B : List Nat} {S : Sh} {H : List Sh} {V O : Nat → Vl} {M W : Nat → Bool} {au : Bool} {ev : Nat}
variable {c p : Nat} {ts : List (Nat × Nat)}
theorem cx.kept (hτ : tw_ok τ) {I2 : tw_I} {L2 : tw_L} (h : cx τ I L B S H V O M W au ev c ts) (f : twf EVW I L I2 L2) : cx τ I2 L2 B S H V O M W au ev c ts := ⟨h.1.kept hτ (f.wi EVW_XW), by rw [(f _ _ (by unfold EVW; omega)).1]; exact h.2.1, h.2.2⟩
theorem cx.tt (h : cx τ I L B S H V O M W au ev c ts) : ttk I L c ts := by
  have := (h.1.cell h.2.2.1).2.1
  rwa [h.2.2.2] at this
theorem e_is (hτ : tw_ok τ) (hp : I 1315 44 = zi p) (v : Int64) {Q : tw_I → tw_L → Prop} (hd : 1 ≤ d) (h : ∀ I2 L2, twf EVW I L I2 L2 → tev I2 L2 p (0, v) → Q I2 L2) : wp_c d 229 [.ref 1315, .long v] (tw τ I L) (tv τ Q) := by
  refine k229 hτ hd ?_
  rintro I1 rfl L2 rfl
  exact h _ _ ((twf.rf.pI (by unfold EVW; omega) _).pL (by unfold EVW; omega) _) ⟨by rw [u2_nj _ _ _ _ _ (by omega)]; exact hp, by rw [u2_same]; rfl, by rw [u2_same], erk_n _⟩
theorem e_errs (hτ : tw_ok τ) (hp : I 1315 44 = zi p) {e : Nat} (he : e ≤ 8) {x : Int32} (hx : x = zi e) {Q : tw_I → tw_L → Prop} (hd : 1 ≤ d) (h : ∀ I2 L2, twf EVW I L I2 L2 → tev I2 L2 p (e, zl 0) → Q I2 L2) : wp_c d 213 [.ref 1315, .int x] (tw τ I L) (tv τ Q) := by
  subst hx
  refine k213 hτ hd ?_
  rintro I1 rfl L2 rfl
  exact h _ _ ((twf.rf.pI (by unfold EVW; omega) _).pL (by unfold EVW; omega) _) ⟨by rw [u2_nj _ _ _ _ _ (by omega)]; exact hp, by rw [u2_same], by rw [u2_same], erk_e he⟩
theorem e_add (hτ : tw_ok τ) (hp : I 1315 44 = zi p) (a b : Int64) {Q : tw_I → tw_L → Prop} (hd : 3 ≤ d) (h : ∀ I2 L2, twf EVW I L I2 L2 → tev I2 L2 p (addE a b) → Q I2 L2) : wp_c d 173 [.ref 1315, .long a, .long b, .int (zi 0)] (tw τ I L) (tv τ Q) := by
  refine k173 hτ (by omega) ⟨fun _ => k173_14 hτ (by omega) ⟨fun _ => ⟨fun z => ?_, fun z => ?_⟩, fun z => absurd rfl z⟩, fun z => absurd rfl z⟩
  · refine k173_61 hτ (by omega) ⟨fun z => absurd z (by decide), fun _ => e_errs (e := 5) hτ hp (by omega) rfl (by omega) fun I2 L2 f t => h I2 L2 f ?_⟩
    unfold addE
    rw [if_pos z]
    exact t
  · refine k173_61 hτ (by omega) ⟨fun _ => e_is hτ hp _ (by omega) fun I2 L2 f t => h I2 L2 f ?_, fun z => absurd rfl z⟩
    unfold addE
    rw [if_neg z]
    exact t
theorem e_sub (hτ : tw_ok τ) (hp : I 1315 44 = zi p) (a b : Int64) {Q : tw_I → tw_L → Prop} (hd : 3 ≤ d) (h : ∀ I2 L2, twf EVW I L I2 L2 → tev I2 L2 p (subE a b) → Q I2 L2) : wp_c d 173 [.ref 1315, .long a, .long b, .int (zi 1)] (tw τ I L) (tv τ Q) := by
  refine k173 hτ (by omega) ⟨fun z => absurd z (by decide), fun _ => k173_14 hτ (by omega) ⟨fun z => absurd z (by decide), fun _ => ⟨fun z => ?_, fun z => ?_⟩⟩⟩
  · refine k173_61 hτ (by omega) ⟨fun z => absurd z (by decide), fun _ => e_errs (e := 5) hτ hp (by omega) rfl (by omega) fun I2 L2 f t => h I2 L2 f ?_⟩
    unfold subE
    rw [if_pos z]
    exact t
  · refine k173_61 hτ (by omega) ⟨fun _ => e_is hτ hp _ (by omega) fun I2 L2 f t => h I2 L2 f ?_, fun z => absurd rfl z⟩
    unfold subE
    rw [if_neg z]
    exact t
theorem e_div (hτ : tw_ok τ) (hp : I 1315 44 = zi p) (a b : Int64) {Q : tw_I → tw_L → Prop} (hd : 3 ≤ d) (h : ∀ I2 L2, twf EVW I L I2 L2 → tev I2 L2 p (divE a b) → Q I2 L2) : wp_c d 208 [.ref 1315, .long a, .long b, .int (zi 0)] (tw τ I L) (tv τ Q) := by
  unfold divE at h
  refine k208 hτ (by omega) ⟨fun z => ?_, fun z => ?_⟩
  · rw [if_pos z] at h
    exact e_errs (e := 2) hτ hp (by omega) rfl (by omega) h
  · rw [if_neg z] at h
    have z0 : b ≠ 0 := z
    refine ⟨fun z1 => ⟨fun _ => k208_35 hτ (by omega) ⟨fun _ => ⟨fun z2 => ?_, fun z2 => ⟨fun _ => ⟨z0, ?_⟩, fun z => absurd rfl z⟩⟩, fun y => absurd z1 y⟩, fun z => absurd rfl z⟩, fun z1 => k208_35 hτ (by omega) ⟨fun y => absurd y z1, fun _ => ⟨fun _ => ⟨z0, ?_⟩, fun z => absurd rfl z⟩⟩⟩
    · rw [if_pos ⟨z1, z2⟩] at h
      exact e_errs (e := 5) hτ hp (by omega) rfl (by omega) h
    · rw [if_neg (fun y => z2 y.2)] at h
      exact e_is hτ hp _ (by omega) h
    · rw [if_neg (fun y => z1 y.1)] at h
      exact e_is hτ hp _ (by omega) h
theorem e_rem (hτ : tw_ok τ) (hp : I 1315 44 = zi p) (a b : Int64) {Q : tw_I → tw_L → Prop} (hd : 3 ≤ d) (h : ∀ I2 L2, twf EVW I L I2 L2 → tev I2 L2 p (remE a b) → Q I2 L2) : wp_c d 208 [.ref 1315, .long a, .long b, .int (zi 1)] (tw τ I L) (tv τ Q) := by
  unfold remE at h
  refine k208 hτ (by omega) ⟨fun z => ?_, fun z => ?_⟩
  · rw [if_pos z] at h
    exact e_errs (e := 2) hτ hp (by omega) rfl (by omega) h
  · rw [if_neg z] at h
    have z0 : b ≠ 0 := z
    refine ⟨fun z1 => ⟨fun z => absurd z (by decide), fun _ => ?_⟩, fun z1 => k208_35 hτ (by omega) ⟨fun y => absurd y z1, fun _ => ⟨fun z => absurd z (by decide), fun _ => ⟨z0, ?_⟩⟩⟩⟩
    · rw [if_pos z1] at h
      exact e_is hτ hp _ (by omega) h
    · rw [if_neg z1] at h
      exact e_is hτ hp _ (by omega) h
/-- the product overflows just if it doesn't divide back -/
theorem mul_ov {a b : Int64} (h0 : b ≠ zl 0) (h1 : b ≠ zl (-1)) : (a * b) / b = a ↔ (-9223372036854775808 ≤ a.toInt * b.toInt ∧ a.toInt * b.toInt < 9223372036854775808) := by
  have ha := Int64.le_toInt a
  have ha2 := Int64.toInt_lt a
  have hb := Int64.le_toInt b
  have hb2 := Int64.toInt_lt b
  have b0 : b.toInt ≠ 0 := fun z => h0 (by rw [← zl_self b, z])
  have b1 : b.toInt ≠ -1 := fun z => h1 (by rw [← zl_self b, z])
  have key : ∀ x y : Int64, y.toInt ≠ -1 → (x / y).toInt = x.toInt.tdiv y.toInt := by
    intro x y hy
    rw [Int64.toInt_div]
    have hx := Int64.le_toInt x
    have hx2 := Int64.toInt_lt x
    rw [Int.bmod_eq_of_le]
    · have : (x.toInt.tdiv y.toInt).natAbs ≤ x.toInt.natAbs := by
        rw [Int.natAbs_tdiv]; exact Nat.div_le_self _ _
      omega
    · by_cases hx3 : x.toInt = -9223372036854775808
      · by_cases hy0 : y.toInt = 0
        · rw [hy0]; simp
        · by_cases hy1 : y.toInt = 1
          · rw [hy1]; simp; omega
          · have : (x.toInt.tdiv y.toInt).natAbs ≤ x.toInt.natAbs / 2 := by
              rw [Int.natAbs_tdiv]
              exact Nat.div_le_div_left (by omega) (by omega)
            omega
      · have : (x.toInt.tdiv y.toInt).natAbs ≤ x.toInt.natAbs := by
          rw [Int.natAbs_tdiv]; exact Nat.div_le_self _ _
        omega
  constructor
  · intro h
    have e := congrArg Int64.toInt h
    rw [key _ _ b1, Int64.toInt_mul] at e
    have hm := Int.bmod_lt (x := a.toInt * b.toInt) (m := 2 ^ 64) (by decide)
    have hm2 := Int.le_bmod (x := a.toInt * b.toInt) (m := 2 ^ 64) (by decide)
    obtain ⟨k, hk⟩ : ∃ k : Int, a.toInt * b.toInt = (a.toInt * b.toInt).bmod (2 ^ 64) + 2 ^ 64 * k := ⟨Int.bdiv (a.toInt * b.toInt) (2 ^ 64), (Int.bmod_add_bdiv _ _).symm⟩
    generalize (a.toInt * b.toInt).bmod (2 ^ 64) = m at *
    by_cases hk0 : k = 0
    · subst hk0
      omega
    · exfalso
      have d1 := Int.tmod_add_mul_tdiv m b.toInt
      rw [e] at d1
      have d2 : (m.tmod b.toInt).natAbs < b.toInt.natAbs := by
        rw [Int.natAbs_tmod]; exact Nat.mod_lt _ (by omega)
      have d3 : b.toInt * a.toInt = a.toInt * b.toInt := Int.mul_comm _ _
      omega
  · intro h
    have e : (a * b).toInt = a.toInt * b.toInt := by
      rw [Int64.toInt_mul, Int.bmod_eq_of_le] <;> omega
    refine Int64.toInt_inj.mp ?_
    rw [key _ _ b1, e]
    exact Int.mul_tdiv_cancel _ b0
theorem e_mul (hτ : tw_ok τ) (hp : I 1315 44 = zi p) (a b : Int64) {Q : tw_I → tw_L → Prop} (hd : 3 ≤ d) (h : ∀ I2 L2, twf EVW I L I2 L2 → tev I2 L2 p (mulE a b) → Q I2 L2) : wp_c d 268 [.ref 1315, .long a, .long b] (tw τ I L) (tv τ Q) := by
  have ha := Int64.le_toInt a
  have ha2 := Int64.toInt_lt a
  have hb := Int64.le_toInt b
  have hb2 := Int64.toInt_lt b
  unfold mulE at h
  have c60 : ¬ (-9223372036854775808 ≤ a.toInt * b.toInt ∧ a.toInt * b.toInt < 9223372036854775808) → wp_r (d - 1) 268 (60, [.ref 1315, .long a, .retAddr 0, .long b, .retAddr 0, .long (a * b), .retAddr 0, .null], [], tw τ I L) (tv τ Q) := by
    intro z
    rw [if_neg z] at h
    exact k268_60 hτ (by omega) (e_errs (e := 5) hτ hp (by omega) rfl (by omega) h)
  have c37 : ¬ (b = zl (-1) ∧ a = zl (-9223372036854775808)) → wp_r (d - 1) 268 (37, [.ref 1315, .long a, .retAddr 0, .long b, .retAddr 0, .long (a * b), .retAddr 0, .null], [], tw τ I L) (tv τ Q) := by
    intro z
    refine k268_37 hτ (by omega) ⟨fun b0 => ?_, fun b0 => ⟨fun b1 => ?_, fun b1 => ⟨b0, fun e => ?_, fun e => c60 fun y => e ((mul_ov b0 b1).mpr y)⟩⟩⟩
    · rw [if_pos (by rw [b0, show (zl 0).toInt = 0 from rfl]; omega)] at h
      exact e_is hτ hp _ (by omega) h
    · rw [if_pos] at h
      · exact e_is hτ hp _ (by omega) h
      · rw [b1, show (zl (-1)).toInt = -1 from rfl]
        have : a.toInt ≠ -9223372036854775808 := fun y => z ⟨b1, by rw [← zl_self a, y]⟩
        omega
    · rw [if_pos ((mul_ov b0 b1).mp e)] at h
      exact e_is hτ hp _ (by omega) h
  refine k268 hτ (by omega) ⟨fun z1 => ⟨fun z2 => c60 ?_, fun z2 => ⟨fun z3 => ⟨fun z4 => ?_, fun z4 => c37 fun y => z2 y.1⟩, fun z3 => c37 fun y => z2 y.1⟩⟩, fun z1 => ⟨fun z3 => ⟨fun z4 => c60 ?_, fun z4 => c37 fun y => z1 y.2⟩, fun z3 => c37 fun y => z1 y.2⟩⟩
  · rw [z1, z2, show (zl (-9223372036854775808)).toInt = -9223372036854775808 from rfl, show (zl (-1)).toInt = -1 from rfl]
    omega
  · exact absurd (z1.symm.trans z4) (by decide)
  · rw [z3, z4, show (zl (-9223372036854775808)).toInt = -9223372036854775808 from rfl, show (zl (-1)).toInt = -1 from rfl]
    omega
theorem e_takesValue (hτ : tw_ok τ) (h0 : tst τ I L B S H V O M W au ev) (hp : I 1315 44 = zi p) {x : Nat} (hx : x < 240) {Q : tw_I → tw_L → Prop} (hd : 2 ≤ d) (h : ∀ I2 L2, twf EVW I L I2 L2 → tev I2 L2 p (tkV V x) → Q I2 L2) : wp_c d 320 [.ref 1315, .int (zi x)] (tw τ I L) (tv τ Q) := by
  obtain ⟨v1, v2, v3⟩ := h0.2.2.2.2.1 x hx
  unfold tkV at h
  refine k320 hτ (by omega) ⟨zn_in hx (by omega), ?_⟩
  rw [zn_ix (by omega), v1, v2]
  have k3 : (V x).1 ≤ 2 := by rcases v3 with z | z | z <;> omega
  rw [zi_eq (by omega) (by omega) (by omega) (by omega)]
  refine ⟨fun z => ?_, fun z => ?_⟩
  · have z : (V x).1 = 2 := by omega
    rw [if_pos z] at h
    rcases v3 with y | y | ⟨_, e, he, h1, h8⟩
    · omega
    · omega
    · rw [he] at h ⊢
      rw [zl_toInt (by omega) (by omega)] at h
      exact e_errs (e := (e : Int).toNat) hτ hp (by omega) (by rw [zl_i]; rfl) (by omega) h
  · rw [if_neg (by omega)] at h
    exact e_is hτ hp _ (by omega) h
theorem nmR_eq {N : List Nm} {v : Nat} {n : Nat} {q : Nm} (h1 : nmAt N v = some n) (h2 : N[n]? = some q) : nmR N v = some q.2 := by
  unfold nmR
  rw [h1]
  show (N[n]?).map _ = _
  rw [h2]
  rfl
theorem nmR_no {N : List Nm} {v : Nat} (h : nmAt N v = none) : nmR N v = none := by unfold nmR; rw [h]; rfl
theorem arV_nm (N : List Nm) (v : Nat) : arV N (.length (.arg v)) = match nmR N v with
    | none => .inl 3
    | some none => .inl 4
    | some (some ab) => .inr ab := rfl
theorem e_takesName (hτ : tw_ok τ) (h0 : tst τ I L B S H V O M W au ev) (hp : I 1315 44 = zi p) {v : Nat} (hv : v < 281474976710656) {Q : tw_I → tw_L → Prop} (hd : 3 ≤ d) (h : ∀ I2 L2, twf EVW I L I2 L2 → tev I2 L2 p (ev1 S.2 V (.length (.arg v))) → Q I2 L2) : wp_c d 319 [.ref 1315, .long (zl v)] (tw τ I L) (tv τ Q) := by
  have h : ∀ I2 L2, twf EVW I L I2 L2 → tev I2 L2 p (match nmR S.2 v with
    | none => (3, zl 0)
    | some none => (4, zl 0)
    | some (some (a, b)) => if a = b then tkV V a else (6, zl 0)) → Q I2 L2 := h
  refine k319 hτ (by omega) (t_nameAt hτ h0 hv (by omega) (fun n q e1 hq _ hn => ?_) (fun e1 => ⟨fun _ => ?_, fun z => absurd z (by decide)⟩))
  · rw [nmR_eq e1 hq] at h
    rw [zi_lt (by omega) (by omega) (by omega) (by omega)]
    refine ⟨fun z => absurd z (by omega), fun _ => ⟨zn_in (show n < 100 by omega) (by omega), ?_⟩⟩
    rw [zn_ix (by omega)]
    obtain ⟨t1, t2, t3⟩ := h0.nm hq
    obtain ⟨pc, pr⟩ := q
    cases pr with
    | none =>
      have t3 : I 1322 n = zi (-1) ∧ I 1323 n = zi (-1) := t3
      rw [t3.1]
      exact ⟨fun _ => e_errs (e := 4) hτ hp (by omega) rfl (by omega) h, fun z => absurd z (by decide)⟩
    | some ab =>
      obtain ⟨a, b⟩ := ab
      have t3 : I 1322 n = zi a ∧ I 1323 n = zi b := t3
      have bx : box a b := t2.2
      unfold box at bx
      simp only at h
      rw [t3.1, t3.2, zi_lt (by omega) (by omega) (by omega) (by omega), zi_eq (by omega) (by omega) (by omega) (by omega)]
      refine ⟨fun z => absurd z (by omega), fun _ => ⟨fun z => ?_, fun z => ?_⟩⟩
      · rw [if_pos (by omega)] at h
        exact e_takesValue hτ h0 hp (by omega) (by omega) h
      · rw [if_neg (by omega)] at h
        exact e_errs (e := 6) hτ hp (by omega) rfl (by omega) h
  · rw [show nmR S.2 v = none by unfold nmR; rw [e1]; rfl] at h
    exact e_errs (e := 3) hτ hp (by omega) rfl (by omega) h
theorem e_isOp (hτ : tw_ok τ) (hx : cx τ I L B S H V O M W au ev c ts) {q v : Nat} {a : Int32} (ha : a = zi q) (hq : q ≤ 200) (hv : v < 1000) {Q : Int32 → tw_I → tw_L → Prop} (hd : 2 ≤ d) (h : Q (bz (decide (ts[q]? = some (6, v)))) I L) : wp_c d 240 [.ref 1315, .int (I 1315 43), .int a, .int (zi v)] (tw τ I L) (ti τ Q) := by
  rw [hx.2.1, ha]
  exact t_isOp hτ (by have := hx.2.2.1; omega) (by omega) (by omega) hx.tt hd h
theorem e_at (hτ : tw_ok τ) (hx : cx τ I L B S H V O M W au ev c ts) {q : Nat} {a : Int32} (ha : a = zi q) (hq : q ≤ 200) {Q : Int64 → tw_I → tw_L → Prop} (hd : 1 ≤ d) (h : Q (tko ts[q]?) I L) : wp_c d 178 [.ref 1315, .int (I 1315 43), .int a] (tw τ I L) (tl τ Q) := by
  rw [hx.2.1, ha]
  exact t_at hτ (by have := hx.2.2.1; omega) (by omega) hx.tt hd h
theorem e_passes (hτ : tw_ok τ) (hx : cx τ I L B S H V O M W au ev c ts) (hp : I 1315 44 = zi p) (hp9 : p ≤ 100) {v : Nat} (hv : v < 1000) {Q : Int32 → tw_I → tw_L → Prop} (hd : 3 ≤ d) (h1 : ts[p]? = some (6, v) → ∀ I2, twf (fun a i => a = 1315 ∧ i = 44) I L I2 L → I2 1315 44 = zi ((p + 1 : Nat) : Int) → Q (zi 1) I2 L) (h2 : ts[p]? ≠ some (6, v) → Q (zi 0) I L) : wp_c d 280 [.ref 1315, .int (zi v)] (tw τ I L) (ti τ Q) := by
  refine k280 hτ (by omega) (e_isOp hτ hx hp (by omega) hv (by omega) ?_)
  by_cases z : ts[p]? = some (6, v)
  · rw [decide_eq_true z]
    refine ⟨fun z => absurd z (by decide), fun _ => ?_⟩
    rintro I2 rfl
    rw [hp, zn_a p 1 1 rfl]
    exact ⟨rfl, h1 z _ (twf.rf.pI ⟨by omega, by omega⟩ _) (by rw [u2_same])⟩
  · rw [decide_eq_false z]
    exact ⟨fun _ => ⟨rfl, h2 z⟩, fun z => absurd rfl z⟩
/-- the comparison that stands at a token -/
def cmc (q : Option (Nat × Nat)) : Nat := match q with
  | some (6, v) => if v = 61 ∨ v = 60 ∨ v = 62 ∨ 256 ≤ v then v else 0
  | _ => 0
theorem e_comparison (hτ : tw_ok τ) (hx : cx τ I L B S H V O M W au ev c ts) (hp : I 1315 44 = zi p) (hp9 : p ≤ 100) (hv : ∀ v, ts[p]? = some (6, v) → v < 1000) {Q : Int32 → tw_I → tw_L → Prop} (hd : 3 ≤ d) (h : Q (zi (cmc ts[p]?)) I L) : wp_c d 193 [.ref 1315] (tw τ I L) (ti τ Q) := by
  refine k193 hτ (by omega) (e_at hτ hx hp (by omega) (by omega) ?_)
  cases e : ts[p]? with
  | none =>
    rw [e] at h
    refine (show wp_c _ 247 [.long (tok 0 0)] _ _ from t_kindOf hτ (by omega) (by omega) (by omega) ⟨fun z => absurd z (by decide), fun _ => k193_31 hτ (by omega) ⟨fun z => absurd z (by decide), fun _ => ⟨fun z => absurd z (by decide), fun _ => ⟨fun z => absurd z (by decide), fun _ => ⟨fun _ => h, fun z => absurd z (by decide)⟩⟩⟩⟩⟩)
  | some q =>
    rw [e] at h
    obtain ⟨k, v⟩ := q
    have hq := (hx.tt.2.2 p _ e).2
    have k8 : k < 8 := hq.2.1
    refine (show wp_c _ 247 [.long (tok k v)] _ _ from t_kindOf hτ hq.2.1 hq.2.2 (by omega) ?_)
    rw [zi_eq (by omega) (by omega) (by omega) (by omega)]
    refine ⟨fun z => ?_, fun z => ?_⟩
    · have z : k = 6 := by omega
      subst z
      have v9 := hv v e
      refine t_told hτ (by omega) (by omega) (by omega) ?_
      rw [zl_i]
      refine k193_31 hτ (by omega) ?_
      rw [zi_eq (by omega) (by omega) (by omega) (by omega), zi_eq (by omega) (by omega) (by omega) (by omega), zi_eq (by omega) (by omega) (by omega) (by omega), zi_lt (by omega) (by omega) (by omega) (by omega)]
      unfold cmc at h
      simp only at h
      refine ⟨fun y => ?_, fun y1 => ⟨fun y => ?_, fun y2 => ⟨fun y => ?_, fun y3 => ⟨fun y => ?_, fun y => ?_⟩⟩⟩⟩
      · rwa [if_pos (by omega)] at h
      · rwa [if_pos (by omega)] at h
      · rwa [if_pos (by omega)] at h
      · rwa [if_neg (by omega)] at h
      · rwa [if_pos (by omega)] at h
    · refine k193_31 hτ (by omega) ⟨fun z => absurd z (by decide), fun _ => ⟨fun z => absurd z (by decide), fun _ => ⟨fun z => absurd z (by decide), fun _ => ⟨fun _ => ?_, fun z => absurd z (by decide)⟩⟩⟩⟩
      have : cmc (some (k, v)) = 0 := by
        unfold cmc
        split
        · rename_i e2
          cases e2
          omega
        · rfl
      rw [this] at h
      exact h
/-- an area is read -/
theorem e_area (hτ : tw_ok τ) (hx : cx τ I L B S H V O M W au ev c ts) {pre suf : List (Nat × Nat)} {a : Fm} (ha : ar a) (hw : wf a) (hts : ts = pre ++ (tk a ++ suf)) (hs : suf.head? ≠ some (6, 58)) (hp : I 1315 44 = zi pre.length) {Q : tw_I → tw_L → Prop} (hd : 5 ≤ d)
    (h : ∀ I2 L2, twf ARW I L I2 L2 → I2 1315 44 = zi ((pre.length + (tk a).length : Nat) : Int) → tar I2 (arV S.2 a) → Q I2 L2) : wp_c d 177 [.ref 1315] (tw τ I L) (tv τ Q) := by
  have tt := hx.tt
  have tl := tt.2.1
  have c24 := hx.2.2.1
  rw [hts, List.length_append, List.length_append] at tl
  have box9 : ∀ (u v : Nat) (I2 : tw_I), u < 240 → v < 240 → twf ARW I L I2 L → tbx I2 u v → I2 1315 47 = zi 0 → I2 1315 44 = zi pre.length → ∀ k : Nat, k ≤ 3 → (∀ I3 L3, twf ARW I L I3 L3 → I3 1315 44 = zi ((pre.length + k : Nat) : Int) → tar I3 (.inr (12 * min (u / 12) (v / 12) + min (u % 12) (v % 12), 12 * max (u / 12) (v / 12) + max (u % 12) (v % 12))) → Q I3 L3) →
      ∀ I8, I8 = cm_u2 I2 1315 48 (zi 12 * I2 1315 40 + I2 1315 38) → ∀ I9, I9 = cm_u2 I8 1315 49 (zi 12 * I8 1315 41 + I8 1315 39) → ∀ I10, I10 = cm_u2 I9 1315 44 (I9 1315 44 + zi k) → Q I10 L := by
    intro u v I2 hu hv f b e47 e44 k hk3 hQ I8 e8 I9 e9 I10 e10
    subst e8 e9 e10
    obtain ⟨b1, b2, b3, b4⟩ := b
    refine hQ _ _ (((f.pI (by unfold ARW; omega) _).pI (by unfold ARW; omega) _).pI (by unfold ARW; omega) _) ?_ ⟨?_, ?_, ?_, ?_, ?_⟩
    · rw [u2_same, u2_nj _ _ _ _ _ (by omega), u2_nj _ _ _ _ _ (by omega), e44, zn_a pre.length k k rfl]
    · rw [u2_nj _ _ _ _ _ (by omega), u2_nj _ _ _ _ _ (by omega), u2_nj _ _ _ _ _ (by omega)]; exact e47
    · rw [u2_nj _ _ _ _ _ (by omega), u2_nj _ _ _ _ _ (by omega), u2_same, b3, b1, zi_mul, zi_add]; congr 1
    · rw [u2_nj _ _ _ _ _ (by omega), u2_same, u2_nj _ _ _ _ _ (by omega), u2_nj _ _ _ _ _ (by omega), b4, b2, zi_mul, zi_add]; congr 1
    · omega
    · omega
  have fr0 : twf ARW I L (cm_u2 I 1315 47 (zi 0)) L := twf.rf.pI (by unfold ARW; omega) _
  have hx1 : cx τ (cm_u2 I 1315 47 (zi 0)) L B S H V O M W au ev c ts := hx.kept hτ (fr0.wi ARW_EVW)
  have p44 : (cm_u2 I 1315 47 (zi 0)) 1315 44 = zi pre.length := by rw [u2_nj _ _ _ _ _ (by omega)]; exact hp
  have p47 : (cm_u2 I 1315 47 (zi 0)) 1315 47 = zi 0 := by rw [u2_same]
  have fr1 : twf ARW I L (cm_u2 (cm_u2 I 1315 47 (zi 0)) 1315 44 (zi ((pre.length + 1 : Nat) : Int))) L := fr0.pI (by unfold ARW; omega) _
  refine k177 hτ (by omega) (e_at hτ hx hp (by omega) (by omega) ?_)
  rintro I2 rfl
  generalize hI2 : cm_u2 I 1315 47 (zi 0) = I2 at *
  cases a with
  | index v =>
    have hv : v < 960 := hw
    have hts : ts = pre ++ (2, v) :: suf := hts
    rw [show ts[pre.length]? = some (2, v) by rw [hts]; exact at0]
    refine (show wp_c _ 247 [.long (tok 2 v)] _ _ from t_kindOf hτ (by omega) (by omega) (by omega) ⟨fun _ => ?_, fun z => absurd rfl z⟩)
    rw [hx1.2.1, p44]
    refine t_isRange hτ (by omega) (by omega) hx1.tt (q := (2, v)) (by rw [hts]; exact at0) (by omega) ?_
    rw [show ts[pre.length + 1]? = suf.head? by rw [hts]; exact at1, decide_eq_false (fun z => hs z.2)]
    refine t_cellOf hτ (by omega) (by omega) ⟨fun _ => t_cellOf hτ (by omega) (by omega) (t_boxOf hτ (by omega) (by omega) (by omega) fun I7 f7 b7 => ?_), fun z => absurd rfl z⟩
    exact box9 (v % 240) (v % 240) I7 (by omega) (by omega) (fr0.tr (f7.wi fun a i z => by unfold BW at z; unfold ARW; omega)) b7 (by rw [(f7 _ _ (by unfold BW; omega)).1]; exact p47) (by rw [(f7 _ _ (by unfold BW; omega)).1]; exact p44) 1 (by omega) (fun I3 L3 f3 e3 t3 => h I3 L3 f3 e3 (by
      have e1 : 12 * min (v % 240 / 12) (v % 240 / 12) + min (v % 240 % 12) (v % 240 % 12) = v % 240 := by omega
      have e2 : 12 * max (v % 240 / 12) (v % 240 / 12) + max (v % 240 % 12) (v % 240 % 12) = v % 240 := by omega
      rw [e1, e2] at t3
      exact t3))
  | elem a b =>
    cases a with
    | index u =>
      cases b with
      | index v =>
        have hu : u < 960 := hw.1
        have hv : v < 960 := hw.2
        have hts : ts = pre ++ (2, u) :: (6, 58) :: (2, v) :: suf := hts
        rw [show ts[pre.length]? = some (2, u) by rw [hts]; exact at0]
        refine (show wp_c _ 247 [.long (tok 2 u)] _ _ from t_kindOf hτ (by omega) (by omega) (by omega) ⟨fun _ => ?_, fun z => absurd rfl z⟩)
        rw [hx1.2.1, p44]
        refine t_isRange hτ (by omega) (by omega) hx1.tt (q := (2, u)) (by rw [hts]; exact at0) (by omega) ?_
        rw [show ts[pre.length + 1]? = some (6, 58) by rw [hts]; exact at1, decide_eq_true ⟨rfl, rfl⟩]
        refine t_cellOf hτ (by omega) (by omega) ⟨fun z => absurd z (by decide), fun _ => ?_⟩
        refine e_at hτ hx1 (q := pre.length + 2) (by rw [p44, zn_a pre.length 2 2 rfl]) (by omega) (by omega) ?_
        rw [show ts[pre.length + 2]? = some (2, v) by rw [hts]; exact at2]
        refine (show wp_c _ 186 [.long (tok 2 v)] _ _ from t_cellOf hτ (by omega) (by omega) (t_boxOf hτ (by omega) (by omega) (by omega) fun I7 f7 b7 => ?_))
        exact box9 (u % 240) (v % 240) I7 (by omega) (by omega) (fr0.tr (f7.wi fun a i z => by unfold BW at z; unfold ARW; omega)) b7 (by rw [(f7 _ _ (by unfold BW; omega)).1]; exact p47) (by rw [(f7 _ _ (by unfold BW; omega)).1]; exact p44) 3 (by omega) (fun I3 L3 f3 e3 t3 => h I3 L3 f3 e3 t3)
      | _ => exact absurd hw (by simp [wf])
    | _ => exact absurd hw (by simp [wf])
  | null =>
    have hts : ts = pre ++ (3, 0) :: suf := hts
    rw [show ts[pre.length]? = some (3, 0) by rw [hts]; exact at0]
    refine (show wp_c _ 247 [.long (tok 3 0)] _ _ from t_kindOf hτ (by omega) (by omega) (by omega) ⟨fun z => absurd z (by decide), fun _ => ?_⟩)
    rintro I17 rfl
    rw [p44, zn_a pre.length 1 1 rfl]
    refine (show wp_c _ 247 [.long (tok 3 0)] _ _ from t_kindOf hτ (by omega) (by omega) (by omega) ⟨fun z => absurd z (by decide), fun _ => k177_157 hτ (by omega) (show wp_c _ 247 [.long (tok 3 0)] _ _ from t_kindOf hτ (by omega) (by omega) (by omega) ⟨fun _ => ?_, fun z => absurd rfl z⟩)⟩)
    rintro I18 rfl
    refine k177_200 hτ (by omega) ?_
    rw [u2_same]
    refine ⟨fun z => absurd z (by decide), fun _ => h _ _ (fr1.pI (by unfold ARW; omega) _) (by rw [u2_nj _ _ _ _ _ (by omega), u2_same]; rfl) ⟨by rw [u2_same]; rfl, by omega, by omega⟩⟩
  | length a =>
    cases a with
    | arg v =>
      have ok : okN v := hw
      have vl := okN_lt ok
      have hts : ts = pre ++ (4, v) :: suf := hts
      rw [show ts[pre.length]? = some (4, v) by rw [hts]; exact at0]
      refine (show wp_c _ 247 [.long (tok 4 v)] _ _ from t_kindOf hτ (by omega) (by omega) (by omega) ⟨fun z => absurd z (by decide), fun _ => ?_⟩)
      rintro I17 rfl
      rw [p44, zn_a pre.length 1 1 rfl]
      refine (show wp_c _ 247 [.long (tok 4 v)] _ _ from t_kindOf hτ (by omega) (by omega) (by omega) ⟨fun _ => t_told hτ (by omega) (by omega) (by omega) ?_, fun z => absurd rfl z⟩)
      have hx2 : cx τ (cm_u2 I2 1315 44 (zi ((pre.length + 1 : Nat) : Int))) L B S H V O M W au ev c ts := hx.kept hτ (fr1.wi ARW_EVW)
      have q44 : (cm_u2 I2 1315 44 (zi ((pre.length + 1 : Nat) : Int))) 1315 44 = zi ((pre.length + 1 : Nat) : Int) := by rw [u2_same]
      have q47 : (cm_u2 I2 1315 44 (zi ((pre.length + 1 : Nat) : Int))) 1315 47 = zi 0 := by rw [u2_nj _ _ _ _ _ (by omega)]; exact p47
      generalize hI3 : cm_u2 I2 1315 44 (zi ((pre.length + 1 : Nat) : Int)) = I3 at *
      have err : ∀ (e : Nat) (x : Int32), 1 ≤ e → e ≤ 8 → arV S.2 (.length (.arg v)) = .inl e → ∀ I4, I4 = cm_u2 I3 1315 47 (zi e) → wp_r (d - 1) 177 (200, [.ref 1315, .long (tok 4 v), .retAddr 0, .int x], [], tw τ I4 L) (tv τ Q) := by
        intro e x h1 h8 ea I4 e4
        subst e4
        refine k177_200 hτ (by omega) ?_
        rw [u2_same, zi_eq (by omega) (by omega) (by omega) (by omega)]
        refine ⟨fun z => absurd z (by omega), fun _ => h _ _ (fr1.pI (by unfold ARW; omega) _) (by rw [u2_nj _ _ _ _ _ (by omega)]; exact q44) ?_⟩
        rw [ea]
        exact ⟨by rw [u2_same], h1, h8⟩
      refine t_nameAt hτ hx2.1 (by omega) (by omega) (fun n q e1 hq _ hn => ?_) (fun e1 => ?_)
      · refine k177_157 hτ (by omega) (show wp_c _ 247 [.long (tok 4 v)] _ _ from t_kindOf hτ (by omega) (by omega) (by omega) ⟨fun z => absurd z (by decide), fun _ => ?_⟩)
        rw [zi_lt (by omega) (by omega) (by omega) (by omega)]
        refine ⟨fun z => absurd z (by omega), fun _ => ⟨zn_in (show n < 100 by omega) (by omega), ?_⟩⟩
        rw [zn_ix (by omega)]
        obtain ⟨t1, t2, t3⟩ := hx2.1.nm hq
        have er : nmR S.2 v = some q.2 := nmR_eq e1 hq
        obtain ⟨pc, pr⟩ := q
        cases pr with
        | none =>
          have t3 : I3 1322 n = zi (-1) ∧ I3 1323 n = zi (-1) := t3
          rw [t3.1]
          exact ⟨fun _ => err 4 _ (by omega) (by omega) (by rw [arV_nm, er]), fun z => absurd z (by decide)⟩
        | some ab =>
          obtain ⟨a, b⟩ := ab
          have t3 : I3 1322 n = zi a ∧ I3 1323 n = zi b := t3
          have bx : box a b := t2.2
          unfold box at bx
          rw [t3.1, zi_lt (by omega) (by omega) (by omega) (by omega)]
          refine ⟨fun z => absurd z (by omega), fun _ => k177_200 hτ (by omega) ?_⟩
          rw [q47]
          refine ⟨fun _ => ⟨zn_in (show n < 100 by omega) (by omega), ?_⟩, fun z => absurd rfl z⟩
          rw [zn_ix (by omega)]
          rintro I5 rfl I6 rfl
          refine h _ _ ((fr1.pI (by unfold ARW; omega) _).pI (by unfold ARW; omega) _) (by rw [u2_nj _ _ _ _ _ (by omega), u2_nj _ _ _ _ _ (by omega)]; exact q44) ?_
          have : arV S.2 (.length (.arg v)) = .inr (a, b) := by rw [arV_nm, er]
          rw [this]
          exact ⟨by rw [u2_nj _ _ _ _ _ (by omega), u2_nj _ _ _ _ _ (by omega)]; exact q47, by rw [u2_nj _ _ _ _ _ (by omega), u2_same]; exact t3.1, by rw [u2_same, u2_ne _ _ _ _ (by omega)]; exact t3.2, bx.1, bx.2.1⟩
      · refine k177_157 hτ (by omega) (show wp_c _ 247 [.long (tok 4 v)] _ _ from t_kindOf hτ (by omega) (by omega) (by omega) ⟨fun z => absurd z (by decide), fun _ => ⟨fun _ => err 3 _ (by omega) (by omega) (by rw [arV_nm, nmR_no e1]), fun z => absurd z (by decide)⟩⟩)
    | _ => exact absurd hw (by simp [wf])
  | _ => exact absurd ha (by simp [ar])
end
