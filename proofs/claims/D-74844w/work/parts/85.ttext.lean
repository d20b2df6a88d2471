/-! PURE, and THE TWIN: texts of cells -/
def digF : Nat → Nat → List Nat
  | 0, _ => []
  | n + 1, m => if m < 10 then [m + 48] else digF n (m / 10) ++ [m % 10 + 48]
/-- a number's digits -/
def digs (m : Nat) : List Nat := digF 20 m
theorem digF_eq : ∀ n k m, m < 10 ^ n → m < 10 ^ k → 0 < n → 0 < k → digF n m = digF k m := by
  intro n
  induction n with
  | zero => intro k m _ _ h; omega
  | succ n ih =>
    intro k m h1 h2 _ hk
    obtain ⟨k, rfl⟩ : ∃ j, k = j + 1 := ⟨k - 1, by omega⟩
    rw [digF, digF]
    by_cases h : m < 10
    · rw [if_pos h, if_pos h]
    · rw [if_neg h, if_neg h]
      have hn : n ≠ 0 := fun z => by subst z; simp at h1; omega
      have hk : k ≠ 0 := fun z => by subst z; simp at h2; omega
      rw [Nat.pow_succ] at h1 h2
      rw [ih k (m / 10) (by omega) (by omega) (by omega) (by omega)]
theorem digs_s {m : Nat} (hm : m < 10 ^ 19) : digs m = if m < 10 then [m + 48] else digs (m / 10) ++ [m % 10 + 48] := by
  unfold digs
  rw [digF]
  by_cases h : m < 10
  · rw [if_pos h, if_pos h]
  · rw [if_neg h, if_neg h, digF_eq 19 20 (m / 10) (by omega) (by have : (10 : Nat) ^ 19 ≤ 10 ^ 20 := Nat.pow_le_pow_right (by decide) (by decide); omega) (by decide) (by decide)]
theorem digF_len : ∀ n m, (digF n m).length ≤ n := by
  intro n
  induction n with
  | zero => intro m; exact Nat.le_refl _
  | succ n ih =>
    intro m
    rw [digF]
    split
    · exact Nat.succ_le_succ (Nat.zero_le _)
    · rw [List.length_append]; have := ih (m / 10); simp; omega
theorem digs_len (m : Nat) : (digs m).length ≤ 20 := digF_len 20 m
def numT (n : Int) : List Nat := if n < 0 then 45 :: digs n.natAbs else digs n.natAbs
def refTx (v : Nat) : List Nat := (if v / 240 % 2 = 1 then [36] else []) ++ ([65 + v % 240 % 12] ++ ((if v / 240 / 2 = 1 then [36] else []) ++ digs (v % 240 / 12 + 1)))
def opT (v : Nat) : List Nat := if v = 256 then [60, 62] else if v = 257 then [60, 61] else if v = 258 then [62, 61] else [v]
def tokT (q : Nat × Nat) : List Nat := match q.1 with
  | 1 => digs q.2
  | 2 => refTx q.2
  | 3 => [35, 82, 69, 70]
  | 4 => dec q.2
  | 5 => (fnames[q.2]?).getD []
  | _ => opT q.2
def toksT (l : List (Nat × Nat)) : List Nat := (l.map tokT).flatten
def txC (q : Cn) : List Nat := match q with
  | none => []
  | some (.inl n) => numT n
  | some (.inr t) => 61 :: toksT (tk t)
/-- what was told so far, of which the k-th byte is sought -/
def ttx (I : tw_I) (k : Nat) (l : List Nat) : Prop := I 1315 59 = zi k ∧ I 1315 61 = zi l.length ∧ I 1315 60 = (match l[k]? with
  | some b => zi b
  | none => zi (-1))
def TXW (a i : Nat) : Prop := a = 1315 ∧ (i = 60 ∨ i = 61)
/-- tokens whose text is told -/
def txk (q : Nat × Nat) : Prop := (q.1 = 1 → q.2 < 1000000000) ∧ (q.1 = 2 → q.2 < 960) ∧ (q.1 = 4 → okN q.2) ∧ (q.1 = 5 → q.2 < 9) ∧ (q.1 = 6 → q.2 < 259) ∧ (q.1 = 3 → q.2 = 0) ∧ 0 < q.1 ∧ q.1 < 7
theorem opc_259 (o : Jvm.Binary) : opc o < 259 := by cases o <;> decide
theorem tk_txk : ∀ t : Fm, wf t → ∀ q ∈ tk t, txk q := by
  have k1 : ∀ {v : Nat}, v < 1000000000 → txk (1, v) := fun h => by simp [txk, h]
  have k2 : ∀ {v : Nat}, v < 960 → txk (2, v) := fun h => by simp [txk, h]
  have k3 : txk (3, 0) := by simp [txk]
  have k4 : ∀ {v : Nat}, okN v → txk (4, v) := fun h => by simp [txk, h]
  have k5 : ∀ {v : Nat}, v < 9 → txk (5, v) := fun h => by simp [txk, h]
  have k6 : ∀ {v : Nat}, v < 259 → txk (6, v) := fun h => by simp [txk, h]
  intro t
  induction t using tk.induct with
  | case1 n => intro h q hq; rcases List.mem_singleton.mp hq with rfl; exact k1 h
  | case2 v => intro h q hq; rcases List.mem_singleton.mp hq with rfl; exact k2 h
  | case3 => intro h q hq; rcases List.mem_singleton.mp hq with rfl; exact k3
  | case4 c => intro h q hq; rcases List.mem_singleton.mp hq with rfl; exact k4 h
  | case5 u v =>
    intro h q hq
    simp only [tk, List.mem_cons, List.mem_nil_iff, or_false] at hq
    rcases hq with rfl | rfl | rfl
    · exact k2 h.1
    · exact k6 (by decide)
    · exact k2 h.2
  | case6 o l r ihl ihr =>
    intro h q hq
    simp only [tk, List.mem_append, List.mem_cons] at hq
    rcases hq with hq | rfl | hq
    · exact ihl h.1 q hq
    · exact k6 (opc_259 o)
    · exact ihr h.2.1 q hq
  | case7 o a ih =>
    intro h q hq
    simp only [tk, List.mem_cons] at hq
    rcases hq with rfl | hq
    · exact k6 (by decide)
    · cases o <;> first | exact ih h.1 q hq | exact absurd h (by simp [wf])
  | case8 a ih =>
    intro h q hq
    simp only [tk, List.mem_cons, List.mem_append, List.mem_nil_iff, or_false] at hq
    rcases hq with rfl | hq | rfl
    · exact k6 (by decide)
    · exact ih h.1 q hq
    · exact k6 (by decide)
  | case9 f as ih =>
    intro h q hq
    simp only [tk, List.mem_cons, List.mem_append, List.mem_nil_iff, or_false] at hq
    rcases hq with rfl | rfl | hq | rfl
    · exact k5 (shp_lt h.2.2)
    · exact k6 (by decide)
    · exact ih h.1 q hq
    · exact k6 (by decide)
  | case10 a ih =>
    intro h q hq
    exact ih h.1 q hq
  | case11 a r hr iha ihr =>
    intro h q hq
    have e : tk (.div a r) = tk a ++ (6, 44) :: tk r := by
      cases r <;> first | rfl | exact absurd rfl hr
    rw [e, List.mem_append, List.mem_cons] at hq
    rcases hq with hq | rfl | hq
    · exact iha h.1 q hq
    · exact k6 (by decide)
    · exact ihr h.2.1 q hq
  | case12 t h1 h2 h3 h4 h5 h6 h7 h8 h9 h10 h11 =>
    intro h q hq
    rw [tk] at hq
    · cases hq
    all_goals assumption
section
variable {τ : tw_K} {I : tw_I} {L : tw_L} {d : Nat} {B : List Nat} {S : Sh} {H : List Sh} {V O : Nat → Vl} {M W : Nat → Bool} {au : Bool} {ev : Nat}
theorem t_tb (hτ : tw_ok τ) {k b : Nat} {l : List Nat} (h0 : ttx I k l) (hk : k < 2147483648) (hl : l.length < 100000) {x : Int32} (hx : x = zi b) {Q : tw_I → tw_L → Prop} (hd : 1 ≤ d) (h : ∀ I2, twf TXW I L I2 L → ttx I2 k (l ++ [b]) → Q I2 L) : wp_c d 326 [.ref 1315, .int x] (tw τ I L) (tv τ Q) := by
  subst hx
  obtain ⟨h1, h2, h3⟩ := h0
  refine k326 hτ hd ?_
  rw [h1, h2, zi_eq (by omega) (by omega) (by omega) (by omega)]
  refine ⟨fun z => ?_, fun z => ?_⟩
  · rintro I1 rfl I2 rfl
    rw [u2_nj _ _ _ _ _ (by omega), h2, zn_a _ 1 1 rfl]
    refine h _ ((twf.rf.pI (by unfold TXW; omega) _).pI (by unfold TXW; omega) _) ⟨by rw [u2_nj _ _ _ _ _ (by omega), u2_nj _ _ _ _ _ (by omega)]; exact h1, by rw [u2_same, List.length_append, List.length_singleton], ?_⟩
    rw [u2_nj _ _ _ _ _ (by omega), u2_same, List.getElem?_append_right (by omega), show k - l.length = 0 by omega]
    rfl
  · rintro I1 rfl
    rw [zn_a _ 1 1 rfl]
    refine h _ (twf.rf.pI (by unfold TXW; omega) _) ⟨by rw [u2_nj _ _ _ _ _ (by omega)]; exact h1, by rw [u2_same, List.length_append, List.length_singleton], ?_⟩
    rw [u2_nj _ _ _ _ _ (by omega), h3]
    by_cases e : k < l.length
    · rw [List.getElem?_append_left e]
    · rw [List.getElem?_eq_none (by omega), List.getElem?_eq_none (by rw [List.length_append, List.length_singleton]; omega)]
theorem pw_pos (j : Nat) : 0 < 10 ^ j := Nat.pow_pos (by decide)
theorem t_digits (hτ : tw_ok τ) {k m : Nat} (hk : k < 2147483648) (hm : m < 10000000000) {x1 : Int64} {Q : tw_I → tw_L → Prop} (hd : 1 ≤ d) {l0 : List Nat} (hl0 : l0.length < 90000) (I0 : tw_I) (h : ∀ I2, twf TXW I0 L I2 L → ttx I2 k (l0 ++ digs m) → Q I2 L) :
    ∀ (j : Nat) (I : tw_I), j ≤ 10 → (j = 0 ∨ 1 ≤ m / 10 ^ j) → twf TXW I0 L I L → ttx I k (l0 ++ (if m / 10 ^ (j + 1) = 0 then [] else digs (m / 10 ^ (j + 1)))) → wp_r d 323 (48, [.ref 1315, .long x1, .retAddr 0, .long (zl ((10 ^ j : Nat) : Int)), .retAddr 0, .long (zl m), .retAddr 0], [], tw τ I L) (tv τ Q) := by
  have m19 : ∀ i, m / 10 ^ i < 10 ^ 19 := fun i => by
    have := Nat.div_le_self m (10 ^ i)
    have : (10 : Nat) ^ 19 = 10000000000000000000 := by decide
    omega
  have stp : ∀ i, (if m / 10 ^ (i + 1) = 0 then [] else digs (m / 10 ^ (i + 1))) ++ [m / 10 ^ i % 10 + 48] = digs (m / 10 ^ i) := fun i => by
    rw [digs_s (m19 i), Nat.pow_succ, ← Nat.div_div_eq_div_mul]
    generalize m / 10 ^ i = x
    by_cases z : x < 10
    · rw [if_pos (by omega), if_pos z, Nat.mod_eq_of_lt z]
      rfl
    · rw [if_neg (by omega), if_neg z]
  have pl : ∀ i, (l0 ++ (if m / 10 ^ (i + 1) = 0 then [] else digs (m / 10 ^ (i + 1)))).length < 100000 := fun i => by
    have := digs_len (m / 10 ^ (i + 1))
    rw [List.length_append]
    split
    · simp only [List.length_nil]; omega
    · omega
  intro j
  induction j with
  | zero =>
    intro I hj hc f t
    have p1 : m / 10 ^ 0 = m := by simp
    refine k323_48 hτ hd ⟨fun _ => ⟨by decide, ?_⟩, fun z => absurd (by decide) z⟩
    rw [show zl ((10 ^ 0 : Nat) : Int) = zl 1 from rfl, zl_div (by omega) (by omega) (by omega) (by omega), zl_rem (by omega) (by omega) (by omega) (by omega), zl_i, zi_add]
    refine t_tb (b := m % 10 + 48) hτ t hk (pl 0) (by congr 1; omega) hd fun I2 f2 t2 => ?_
    rw [zl_div (by omega) (by omega) (by omega) (by omega)]
    refine k323_48 hτ hd ⟨fun z => absurd z (by decide), fun _ => h I2 (f.tr f2) ?_⟩
    have s0 := stp 0
    rw [p1] at s0
    rw [List.append_assoc, s0] at t2
    exact t2
  | succ j ih =>
    intro I hj hc f t
    have pj := pw_pos j
    have p10 : (10 : Nat) ^ j ≤ 10 ^ 9 := Nat.pow_le_pow_right (by decide) (by omega)
    have pe : (10 : Nat) ^ 9 = 1000000000 := by decide
    have ps : (10 : Nat) ^ (j + 1) = 10 * 10 ^ j := by rw [Nat.pow_succ, Nat.mul_comm]
    have hd1 := Nat.div_le_self m (10 ^ (j + 1))
    have hc1 : 1 ≤ m / 10 ^ (j + 1) := by rcases hc with z | z; omega; exact z
    refine k323_48 hτ hd ?_
    rw [zl_lt (by omega) (by omega) (by omega) (by omega)]
    refine ⟨fun _ => ⟨fun z => ?_, ?_⟩, fun z => absurd (by omega) z⟩
    · have z : zl ((10 ^ (j + 1) : Nat) : Int) = zl 0 := z
      rw [zl_eq (by omega) (by omega) (by omega) (by omega)] at z
      omega
    rw [zl_div (by omega) (by omega) (by omega) (by omega), show (m : Int) / ((10 ^ (j + 1) : Nat) : Int) = ((m / 10 ^ (j + 1) : Nat) : Int) from (Int.natCast_ediv _ _).symm, zl_rem (by omega) (by omega) (by omega) (by omega), zl_i, zi_add, zl_div (by omega) (by omega) (by omega) (by omega)]
    refine t_tb (b := m / 10 ^ (j + 1) % 10 + 48) hτ t hk (pl (j + 1)) (by congr 1) hd fun I2 f2 t2 => ?_
    rw [List.append_assoc, stp (j + 1)] at t2
    rw [show ((10 ^ (j + 1) : Nat) : Int) / 10 = ((10 ^ j : Nat) : Int) by omega]
    refine ih I2 (by omega) ?_ (f.tr f2) ?_
    · right
      have : m / 10 ^ (j + 1) ≤ m / 10 ^ j := Nat.div_le_div_left (by omega) pj
      omega
    · rw [if_neg (by omega)]
      exact t2
theorem t_tellsNat (hτ : tw_ok τ) {k m : Nat} (hk : k < 2147483648) (hm : m < 10000000000) {x1 : Int64} {Q : tw_I → tw_L → Prop} (hd : 1 ≤ d) {l0 : List Nat} (hl0 : l0.length < 90000) (h0 : ttx I k l0) (h : ∀ I2, twf TXW I L I2 L → ttx I2 k (l0 ++ digs m) → Q I2 L) : wp_r d 323 (28, [.ref 1315, .long x1, .retAddr 0, .long (zl 1), .retAddr 0, .long (zl m), .retAddr 0], [], tw τ I L) (tv τ Q) := by
  have loop : ∀ n j, 10 - j = n → j ≤ 10 → (j = 0 ∨ 1 ≤ m / 10 ^ j) → wp_r d 323 (28, [.ref 1315, .long x1, .retAddr 0, .long (zl ((10 ^ j : Nat) : Int)), .retAddr 0, .long (zl m), .retAddr 0], [], tw τ I L) (tv τ Q) := by
    have pe : (10 : Nat) ^ 10 = 10000000000 := by decide
    have fin : ∀ j, j ≤ 10 → (j = 0 ∨ 1 ≤ m / 10 ^ j) → m / 10 ^ j < 10 → wp_r d 323 (48, [.ref 1315, .long x1, .retAddr 0, .long (zl ((10 ^ j : Nat) : Int)), .retAddr 0, .long (zl m), .retAddr 0], [], tw τ I L) (tv τ Q) := fun j hj hc hlt => by
      refine t_digits hτ hk hm hd hl0 I h j I hj hc twf.rf ?_
      rw [Nat.pow_succ, ← Nat.div_div_eq_div_mul, if_pos (Nat.div_eq_of_lt hlt), List.append_nil]
      exact h0
    intro n
    induction n with
    | zero =>
      intro j hn hj hc
      have : j = 10 := by omega
      subst this
      have : m / 10 ^ 10 = 0 := Nat.div_eq_of_lt (by omega)
      rcases hc with z | z <;> omega
    | succ n ih =>
      intro j hn hj hc
      have pj := pw_pos j
      have p10 : (10 : Nat) ^ j ≤ 10 ^ 10 := Nat.pow_le_pow_right (by decide) hj
      have hd1 := Nat.div_le_self m (10 ^ j)
      have hp0 := Int.natCast_nonneg (m / 10 ^ j)
      refine k323_28 hτ hd ⟨fun z => ?_, ?_⟩
      · have z : zl ((10 ^ j : Nat) : Int) = zl 0 := z
        rw [zl_eq (by omega) (by omega) (by omega) (by omega)] at z
        omega
      rw [zl_div (by omega) (by omega) (by omega) (by omega), show (m : Int) / ((10 ^ j : Nat) : Int) = ((m / 10 ^ j : Nat) : Int) from (Int.natCast_ediv _ _).symm, zl_lt (by omega) (by omega) (by omega) (by omega), zl_mul, show ((10 ^ j : Nat) : Int) * 10 = ((10 ^ (j + 1) : Nat) : Int) by rw [Nat.pow_succ]; omega]
      refine ⟨fun z => fin j hj hc (by omega), fun z => ih (j + 1) (by omega) (by omega) ?_⟩
      right
      rw [Nat.pow_succ, ← Nat.div_div_eq_div_mul]
      omega
  exact loop _ 0 rfl (by omega) (.inl rfl)
theorem t_tellsNumber (hτ : tw_ok τ) {k : Nat} {n : Int} (hk : k < 2147483648) (hn : -10000000000 < n ∧ n < 10000000000) {Q : tw_I → tw_L → Prop} (hd : 2 ≤ d) {l0 : List Nat} (hl0 : l0.length < 80000) (h0 : ttx I k l0) (h : ∀ I2, twf TXW I L I2 L → ttx I2 k (l0 ++ numT n) → Q I2 L) : wp_c d 323 [.ref 1315, .long (zl n)] (tw τ I L) (tv τ Q) := by
  refine k323 hτ hd ?_
  rw [zl_lt (by omega) (by omega) (by omega) (by omega)]
  unfold numT at h
  refine ⟨fun z => ?_, fun z => ?_⟩
  · rw [if_pos z] at h
    refine t_tb (b := 45) hτ h0 hk (by omega) rfl (by omega) fun I2 f2 t2 => ?_
    rw [show -zl n = zl ((n.natAbs : Nat) : Int) by show -Int64.ofInt n = _; rw [← Int64.ofInt_neg]; show zl (-n) = _; congr 1; omega]
    exact t_tellsNat hτ hk (by omega) (by omega) (by rw [List.length_append, List.length_singleton]; omega) t2 fun I3 f3 t3 => h I3 (f2.tr f3) (by rw [List.append_assoc] at t3; exact t3)
  · rw [if_neg z] at h
    rw [show zl n = zl ((n.natAbs : Nat) : Int) by congr 1; omega]
    exact t_tellsNat hτ hk (by omega) (by omega) (by omega) h0 fun I3 f3 t3 => h I3 f3 t3
theorem t_tellsReference (hτ : tw_ok τ) {k v : Nat} (hk : k < 2147483648) (hv : v < 960) {Q : tw_I → tw_L → Prop} (hd : 3 ≤ d) {l0 : List Nat} (hl0 : l0.length < 70000) (h0 : ttx I k l0) (h : ∀ I2, twf TXW I L I2 L → ttx I2 k (l0 ++ refTx v) → Q I2 L) : wp_c d 324 [.ref 1315, .int (zi v)] (tw τ I L) (tv τ Q) := by
  refine k324 hτ (by omega) ?_
  rw [zi_div (by omega) (by omega) (by omega) (by omega), zi_rem (by omega) (by omega) (by omega) (by omega), show (v : Int) / 240 % 2 = ((v / 240 % 2 : Nat) : Int) by omega, zi_eq (by omega) (by omega) (by omega) (by omega)]
  unfold refTx at h
  have second : ∀ (l1 : List Nat) (I1 : tw_I), l1.length < 75000 → twf TXW I L I1 L → ttx I1 k l1 → l1 ++ ([65 + v % 240 % 12] ++ ((if v / 240 / 2 = 1 then [36] else []) ++ digs (v % 240 / 12 + 1))) = l0 ++ ((if v / 240 % 2 = 1 then [36] else []) ++ ([65 + v % 240 % 12] ++ ((if v / 240 / 2 = 1 then [36] else []) ++ digs (v % 240 / 12 + 1)))) → wp_r (d - 1) 324 (17, [.ref 1315, .int (zi v)], [], tw τ I1 L) (tv τ Q) := by
    intro l1 I1 hl1 f1 t1 e
    rw [← e] at h
    refine k324_17 hτ (by omega) ?_
    rw [zi_rem (by omega) (by omega) (by omega) (by omega), zi_div (by omega) (by omega) (by omega) (by omega), show (v : Int) % 240 = ((v % 240 : Nat) : Int) by omega, zi_div (by omega) (by omega) (by omega) (by omega), show (v : Int) / 240 / 2 = ((v / 240 / 2 : Nat) : Int) by omega, zi_eq (by omega) (by omega) (by omega) (by omega)]
    refine t_columnOf hτ (by omega) (by omega) ?_
    rw [zi_add]
    refine t_tb (b := 65 + v % 240 % 12) hτ t1 hk (by omega) (by congr 1) (by omega) fun I2 f2 t2 => ?_
    have num : ∀ (l3 : List Nat) (I3 : tw_I), l3.length < 78000 → twf TXW I L I3 L → ttx I3 k l3 → l3 ++ digs (v % 240 / 12 + 1) = l1 ++ ([65 + v % 240 % 12] ++ ((if v / 240 / 2 = 1 then [36] else []) ++ digs (v % 240 / 12 + 1))) → wp_c (d - 1) 323 [.ref 1315, .long ((zi ((v % 240 / 12 : Nat) : Int) + zi 1).toInt64)] (tw τ I3 L) (tv τ fun I5 L5 => Q I5 L5) := by
      intro l3 I3 hl3 f3 t3 e3
      rw [← e3] at h
      rw [zi_add, zi_l (by omega) (by omega), show ((v % 240 / 12 : Nat) : Int) + 1 = ((v % 240 / 12 + 1 : Nat) : Int) by omega]
      refine t_tellsNumber hτ hk ⟨by omega, by omega⟩ (by omega) (by omega) t3 fun I4 f4 t4 => h I4 (f3.tr f4) ?_
      unfold numT at t4
      rw [if_neg (by omega)] at t4
      exact t4
    refine ⟨fun z => ?_, fun z => ?_⟩
    · refine t_tb (b := 36) hτ t2 hk (by rw [List.length_append, List.length_singleton]; omega) rfl (by omega) fun I3 f3 t3 => ?_
      refine t_rowOf hτ (by omega) (by omega) (num _ I3 (by simp; omega) ((f1.tr f2).tr f3) t3 ?_)
      rw [if_pos (by omega)]
      simp
    · refine t_rowOf hτ (by omega) (by omega) (num _ I2 (by simp; omega) (f1.tr f2) t2 ?_)
      rw [if_neg (by omega)]
      simp
  refine ⟨fun z => ?_, fun z => ?_⟩
  · refine t_tb (b := 36) hτ h0 hk (by omega) rfl (by omega) fun I1 f1 t1 => second _ I1 (by simp; omega) f1 t1 ?_
    rw [if_pos (show v / 240 % 2 = 1 by omega)]
    simp
  · refine second l0 I (by omega) twf.rf h0 ?_
    rw [if_neg (show ¬ v / 240 % 2 = 1 by omega)]
    rfl
theorem t_tellsToken (hτ : tw_ok τ) (h0 : tst τ I L B S H V O M W au ev) {k : Nat} {q : Nat × Nat} (hk : k < 2147483648) (hq : txk q) {Q : tw_I → tw_L → Prop} (hd : 6 ≤ d) {l0 : List Nat} (hl0 : l0.length < 60000) (ht : ttx I k l0) (h : ∀ I2, twf TXW I L I2 L → ttx I2 k (l0 ++ tokT q) → Q I2 L) : wp_c d 325 [.ref 1315, .long (tok q.1 q.2)] (tw τ I L) (tv τ Q) := by
  obtain ⟨kd, v⟩ := q
  obtain ⟨q1, q2, q4, q5, q6, q3, q7, q8⟩ := hq
  simp only at *
  have v48 : v < 281474976710656 := by
    have q : kd = 1 ∨ kd = 2 ∨ kd = 3 ∨ kd = 4 ∨ kd = 5 ∨ kd = 6 := by omega
    rcases q with z | z | z | z | z | z
    · have := q1 z; omega
    · have := q2 z; omega
    · have := q3 z; omega
    · have := okN_lt (q4 z); omega
    · have := q5 z; omega
    · have := q6 z; omega
  refine k325 hτ (by omega) (t_told hτ (by omega) (by omega) (by omega) (t_kindOf hτ (by omega) (by omega) (by omega) ?_))
  rw [zi_toInt (by omega) (by omega)]
  have q : kd = 1 ∨ kd = 2 ∨ kd = 3 ∨ kd = 4 ∨ kd = 5 ∨ kd = 6 := by omega
  rcases q with rfl | rfl | rfl | rfl | rfl | rfl
  · have := q1 rfl
    refine ⟨fun z => absurd z (by omega), fun _ => ⟨fun _ => t_tellsNumber hτ hk ⟨by omega, by omega⟩ (by omega) (by omega) ht fun I2 f2 t2 => h I2 f2 ?_, fun z => absurd rfl z⟩⟩
    unfold numT at t2
    rw [if_neg (by omega)] at t2
    exact t2
  · have := q2 rfl
    rw [zl_i]
    exact ⟨fun z => absurd z (by omega), fun _ => ⟨fun z => absurd z (by omega), fun _ => ⟨fun _ => t_tellsReference hτ hk this (by omega) (by omega) ht h, fun z => absurd rfl z⟩⟩⟩
  · refine ⟨fun z => absurd z (by omega), fun _ => ⟨fun z => absurd z (by omega), fun _ => ⟨fun z => absurd z (by omega), fun _ => ⟨fun _ => ?_, fun z => absurd rfl z⟩⟩⟩⟩
    refine t_tb (b := 35) hτ ht hk (by omega) rfl (by omega) fun I1 f1 t1 => t_tb (b := 82) hτ t1 hk (by simp; omega) rfl (by omega) fun I2 f2 t2 => t_tb (b := 69) hτ t2 hk (by simp; omega) rfl (by omega) fun I3 f3 t3 => t_tb (b := 70) hτ t3 hk (by simp; omega) rfl (by omega) fun I4 f4 t4 => h I4 (((f1.tr f2).tr f3).tr f4) ?_
    simp only [List.append_assoc] at t4
    exact t4
  · have ok := q4 rfl
    obtain ⟨e, d1, d2, d3⟩ := okN_dec ok
    refine ⟨fun z => absurd z (by omega), fun _ => ⟨fun z => absurd z (by omega), fun _ => ⟨fun z => absurd z (by omega), fun _ => ⟨fun z => absurd z (by omega), fun _ => ⟨fun _ => ?_, fun z => absurd rfl z⟩⟩⟩⟩⟩
    have h : ∀ I2, twf TXW I L I2 L → ttx I2 k (l0 ++ dec v) → Q I2 L := h
    have loop : ∀ (i : Nat) (J : tw_I) (K : tw_L), i ≤ (dec v).length → (K = L ∧ twf TXW I L J L ∧ ttx J k (l0 ++ (dec v).take i)) → wp_r (d - 1) 325 (91, [.ref 1315, .long (tok 4 v), .retAddr 0, .long (zl v), .retAddr 0, .int (zi i)], [], tw τ J K) (tv τ Q) := by
      refine up_ind (dec v).length (W := fun i J K => wp_r (d - 1) 325 (91, [.ref 1315, .long (tok 4 v), .retAddr 0, .long (zl v), .retAddr 0, .int (zi i)], [], tw τ J K) (tv τ Q)) (P := fun i J K => K = L ∧ twf TXW I L J L ∧ ttx J k (l0 ++ (dec v).take i)) (fun J K hP => ?_) (fun i J K hi hP ih => ?_)
      · obtain ⟨rfl, f, t⟩ := hP
        refine k325_91 hτ (by omega) (t_sizeOf hτ ok (by omega) ?_)
        rw [zi_lt (by omega) (by omega) (by omega) (by omega)]
        rw [List.take_length] at t
        exact ⟨fun z => absurd z (by omega), fun _ => h J f t⟩
      · obtain ⟨rfl, f, t⟩ := hP
        refine k325_91 hτ (by omega) (t_sizeOf hτ ok (by omega) ?_)
        rw [zi_lt (by omega) (by omega) (by omega) (by omega)]
        refine ⟨fun _ => t_letterOf hτ ok (List.getElem?_eq_getElem hi) (by omega) (t_tb hτ t hk (by rw [List.length_append, List.length_take]; omega) rfl (by omega) fun I3 f3 t3 => ?_), fun z => absurd (by omega) z⟩
        rw [zn_a i 1 1 rfl]
        refine ih I3 _ ⟨rfl, f.tr f3, ?_⟩
        rw [List.take_succ, List.getElem?_eq_getElem hi, ← List.append_assoc]
        exact t3
    exact loop 0 I L (by omega) ⟨rfl, twf.rf, by rw [List.take_zero, List.append_nil]; exact ht⟩
  · have v9 := q5 rfl
    obtain ⟨bs, hbs⟩ : ∃ bs, fnames[v]? = some bs := ⟨fnames[v]'v9, List.getElem?_eq_getElem v9⟩
    obtain ⟨-, b5⟩ := fn_len v bs hbs
    obtain ⟨c1, c2⟩ := h0.1.1 v bs hbs
    refine ⟨fun z => absurd z (by omega), fun _ => ⟨fun z => absurd z (by omega), fun _ => ⟨fun z => absurd z (by omega), fun _ => ⟨fun z => absurd z (by omega), fun _ => ⟨fun z => absurd z (by omega), fun _ => ⟨fun _ => ?_, fun z => absurd rfl z⟩⟩⟩⟩⟩⟩
    have h : ∀ I2, twf TXW I L I2 L → ttx I2 k (l0 ++ (fnames[v]?).getD []) → Q I2 L := h
    rw [hbs] at h
    have h : ∀ I2, twf TXW I L I2 L → ttx I2 k (l0 ++ bs) → Q I2 L := h
    have loop : ∀ (i : Nat) (J : tw_I) (K : tw_L), i ≤ bs.length → (K = L ∧ twf TXW I L J L ∧ ttx J k (l0 ++ bs.take i)) → wp_r (d - 1) 325 (122, [.ref 1315, .long (tok 5 v), .retAddr 0, .long (zl v), .retAddr 0, .int (zi i)], [], tw τ J K) (tv τ Q) := by
      refine up_ind bs.length (W := fun i J K => wp_r (d - 1) 325 (122, [.ref 1315, .long (tok 5 v), .retAddr 0, .long (zl v), .retAddr 0, .int (zi i)], [], tw τ J K) (tv τ Q)) (P := fun i J K => K = L ∧ twf TXW I L J L ∧ ttx J k (l0 ++ bs.take i)) (fun J K hP => ?_) (fun i J K hi hP ih => ?_)
      · obtain ⟨rfl, f, t⟩ := hP
        obtain ⟨-, c2⟩ := (h0.kept hτ (f.wi fun a i z => by unfold TXW at z; unfold XW; omega)).1.1 v bs hbs
        refine k325_122 hτ (by omega) ?_
        rw [zl_i, zn_ix (by omega), c1]
        refine ⟨zn_in v9 (by omega), c2.1, s_length (σ := tw τ J K) c2 (by omega) (ti_k ?_)⟩
        rw [zi_lt (by omega) (by omega) (by omega) (by omega)]
        rw [List.take_length] at t
        exact ⟨fun z => absurd z (by omega), fun _ => h J f t⟩
      · obtain ⟨rfl, f, t⟩ := hP
        obtain ⟨-, c2⟩ := (h0.kept hτ (f.wi fun a i z => by unfold TXW at z; unfold XW; omega)).1.1 v bs hbs
        refine k325_122 hτ (by omega) ?_
        rw [zl_i, zn_ix (by omega), c1]
        refine ⟨zn_in v9 (by omega), c2.1, s_length (σ := tw τ J K) c2 (by omega) (ti_k ?_)⟩
        rw [zi_lt (by omega) (by omega) (by omega) (by omega)]
        refine ⟨fun _ => ⟨c2.1, s_charAt (σ := tw τ J K) c2 (List.getElem?_eq_getElem hi) (by omega) (ti_k (t_tb hτ t hk (by rw [List.length_append, List.length_take]; omega) rfl (by omega) fun I3 f3 t3 => ?_))⟩, fun z => absurd (by omega) z⟩
        rw [zn_a i 1 1 rfl]
        refine ih I3 _ ⟨rfl, f.tr f3, ?_⟩
        rw [List.take_succ, List.getElem?_eq_getElem hi, ← List.append_assoc]
        exact t3
    exact loop 0 I L (by omega) ⟨rfl, twf.rf, by rw [List.take_zero, List.append_nil]; exact ht⟩
  · have v9 := q6 rfl
    have h : ∀ I2, twf TXW I L I2 L → ttx I2 k (l0 ++ opT v) → Q I2 L := h
    refine ⟨fun _ => ?_, fun z => absurd (by omega) z⟩
    unfold opT at h
    rw [zl_eq (by omega) (by omega) (by omega) (by omega), zl_eq (by omega) (by omega) (by omega) (by omega), zl_eq (by omega) (by omega) (by omega) (by omega), zl_lt (by omega) (by omega) (by omega) (by omega), zl_i]
    have two : ∀ (a b : Nat), l0 ++ [a] ++ [b] = l0 ++ [a, b] := fun a b => by simp
    refine ⟨fun z => ?_, fun z1 => ⟨fun z => ?_, fun z2 => ⟨fun z => ?_, fun z3 => ?_⟩⟩⟩
    · rw [if_pos (by omega)] at h
      refine t_tb (b := 60) hτ ht hk (by omega) rfl (by omega) fun I1 f1 t1 => ⟨fun z => absurd z (by omega), fun _ => t_tb (b := 62) hτ t1 hk (by simp; omega) rfl (by omega) fun I2 f2 t2 => h I2 (f1.tr f2) ?_⟩
      rw [two] at t2
      exact t2
    · rw [if_neg (by omega), if_pos (by omega)] at h
      refine t_tb (b := 60) hτ ht hk (by omega) rfl (by omega) fun I1 f1 t1 => ⟨fun z => absurd z (by omega), fun _ => t_tb (b := 61) hτ t1 hk (by simp; omega) rfl (by omega) fun I2 f2 t2 => h I2 (f1.tr f2) ?_⟩
      rw [two] at t2
      exact t2
    · rw [if_neg (by omega), if_neg (by omega), if_pos (by omega)] at h
      refine t_tb (b := 62) hτ ht hk (by omega) rfl (by omega) fun I1 f1 t1 => ⟨fun z => absurd z (by omega), fun _ => t_tb (b := 61) hτ t1 hk (by simp; omega) rfl (by omega) fun I2 f2 t2 => h I2 (f1.tr f2) ?_⟩
      rw [two] at t2
      exact t2
    · rw [if_neg (by omega), if_neg (by omega), if_neg (by omega)] at h
      exact t_tb (b := v) hτ ht hk (by omega) rfl (by omega) fun I1 f1 t1 => ⟨fun _ => h I1 f1 t1, fun z => absurd (by omega) z⟩
end
