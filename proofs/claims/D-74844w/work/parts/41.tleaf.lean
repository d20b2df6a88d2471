/-! THE TWIN: leaves -/
section
variable {τ : tw_K} {I : tw_I} {L : tw_L} {d : Nat}
theorem t_in (hτ : tw_ok τ) {a b c : Int} (ha : -2147483648 ≤ a ∧ a < 2147483648) (hb : -2147483648 ≤ b ∧ b < 2147483648) (hc : -2147483648 ≤ c ∧ c < 2147483648) {Q : Int32 → tw_I → tw_L → Prop} (hd : 1 ≤ d) (h : Q (bz (decide (b ≤ a ∧ a ≤ c))) I L) : wp_c d 225 [.long (zl a), .long (zl b), .long (zl c)] (tw τ I L) (ti τ Q) := by
  refine k225 hτ hd ?_
  rw [zl_lt (by omega) (by omega) (by omega) (by omega), zl_lt (by omega) (by omega) (by omega) (by omega)]
  refine ⟨fun q1 => ?_, fun q1 => ⟨fun q2 => ?_, fun q2 => ?_⟩⟩
  · rwa [decide_eq_false (by omega)] at h
  · rwa [decide_eq_false (by omega)] at h
  · rwa [decide_eq_true (by omega)] at h
theorem t_isCell (hτ : tw_ok τ) {a : Int} (ha : -2147483648 ≤ a ∧ a < 2147483648) {Q : Int32 → tw_I → tw_L → Prop} (hd : 2 ≤ d) (h : Q (bz (decide (0 ≤ a ∧ a ≤ 239))) I L) : wp_c d 233 [.int (zi a)] (tw τ I L) (ti τ Q) := by
  refine k233 hτ hd ?_
  rw [zi_l ha.1 ha.2]
  exact t_in hτ ha (by omega) (by omega) (by omega) ⟨bz_fit _, h⟩
theorem t_columnOf (hτ : tw_ok τ) {a : Nat} (ha : a < 2147483648) {Q : Int32 → tw_I → tw_L → Prop} (hd : 1 ≤ d) (h : Q (zi ((a % 12 : Nat) : Int)) I L) : wp_c d 191 [.int (zi a)] (tw τ I L) (ti τ Q) := by
  refine k191 hτ hd ?_
  rw [zi_rem (by omega) (by omega) (by omega) (by omega)]
  exact h
theorem t_rowOf (hτ : tw_ok τ) {a : Nat} (ha : a < 2147483648) {Q : Int32 → tw_I → tw_L → Prop} (hd : 1 ≤ d) (h : Q (zi ((a / 12 : Nat) : Int)) I L) : wp_c d 305 [.int (zi a)] (tw τ I L) (ti τ Q) := by
  refine k305 hτ hd ?_
  rw [zi_div (by omega) (by omega) (by omega) (by omega)]
  exact h
/-- a token: kind and number -/
def tok (k v : Nat) : Int64 := zl (281474976710656 * k + v)
theorem t_kindOf (hτ : tw_ok τ) {k v : Nat} (hk : k < 8) (hv : v < 281474976710656) {Q : Int32 → tw_I → tw_L → Prop} (hd : 1 ≤ d) (h : Q (zi k) I L) : wp_c d 247 [.long (tok k v)] (tw τ I L) (ti τ Q) := by
  refine k247 hτ hd ?_
  unfold tok
  rw [zl_div (by omega) (by omega) (by omega) (by omega), zl_i, show (281474976710656 * (k : Int) + v) / 281474976710656 = k by omega]
  exact h
theorem t_told (hτ : tw_ok τ) {k v : Nat} (hk : k < 8) (hv : v < 281474976710656) {Q : Int64 → tw_I → tw_L → Prop} (hd : 1 ≤ d) (h : Q (zl v) I L) : wp_c d 329 [.long (tok k v)] (tw τ I L) (tl τ Q) := by
  refine k329 hτ hd ?_
  unfold tok
  rw [zl_rem (by omega) (by omega) (by omega) (by omega), show (281474976710656 * (k : Int) + v) % 281474976710656 = v by omega]
  exact h
theorem t_of (hτ : tw_ok τ) {k v : Nat} (hk : k < 2147483648) {Q : Int64 → tw_I → tw_L → Prop} (hd : 1 ≤ d) (h : Q (tok k v) I L) : wp_c d 278 [.int (zi k), .long (zl v)] (tw τ I L) (tl τ Q) := by
  refine k278 hτ hd ?_
  rw [zi_l (by omega) (by omega), zl_mul, zl_add]
  exact h
theorem tok_inj {k v k2 v2 : Nat} (hk : k < 8) (hv : v < 281474976710656) (hk2 : k2 < 8) (hv2 : v2 < 281474976710656) : tok k v = tok k2 v2 ↔ k = k2 ∧ v = v2 := by
  unfold tok
  rw [zl_eq (by omega) (by omega) (by omega) (by omega)]
  omega
theorem tok_0 {k v : Nat} (hk : k < 8) (hk0 : 0 < k) (hv : v < 281474976710656) : tok k v ≠ zl 0 := by
  unfold tok
  rw [Ne, zl_eq (by omega) (by omega) (by omega) (by omega)]
  omega
/-- the tokens of cell x (of any state): a list -/
def ttk (I : tw_I) (L : tw_L) (x : Nat) (ts : List (Nat × Nat)) : Prop := I 1318 x = zi ts.length ∧ ts.length ≤ 80 ∧ ∀ (i : Nat) (q : Nat × Nat), ts[i]? = some q → L 1319 (80 * x + i) = tok q.1 q.2 ∧ 0 < q.1 ∧ q.1 < 8 ∧ q.2 < 281474976710656
def tko (q : Option (Nat × Nat)) : Int64 := match q with
  | some q => tok q.1 q.2
  | none => zl 0
theorem t_at (hτ : tw_ok τ) {x i : Nat} (hx : x < 2400) (hi : i < 1000) {ts : List (Nat × Nat)} (ht : ttk I L x ts) {Q : Int64 → tw_I → tw_L → Prop} (hd : 1 ≤ d) (h : Q (tko ts[i]?) I L) : wp_c d 178 [.ref 1315, .int (zi x), .int (zi i)] (tw τ I L) (tl τ Q) := by
  obtain ⟨h1, h2, h3⟩ := ht
  refine k178 hτ hd ⟨zn_in hx (by omega), ?_⟩
  rw [zn_ix (by omega), h1, zi_lt (by omega) (by omega) (by omega) (by omega), zi_mul, zi_add]
  refine ⟨fun q => ⟨(zi_in (by omega) (by omega)).mpr ⟨by omega, by omega⟩, ?_⟩, fun q => ?_⟩
  · have q : i < ts.length := by omega
    rw [zi_ix (by omega) (by omega), show ((80 : Int) * x + i).toNat = 80 * x + i by omega, (h3 i ts[i] (List.getElem?_eq_getElem q)).1]
    rwa [List.getElem?_eq_getElem q] at h
  · rwa [List.getElem?_eq_none (by omega)] at h
theorem tko_op {ts : List (Nat × Nat)} {i v : Nat} (hts : ∀ (i : Nat) (q : Nat × Nat), ts[i]? = some q → 0 < q.1 ∧ q.1 < 8 ∧ q.2 < 281474976710656) (hv : v < 281474976710656) {k : Nat} (hk : k < 8) (hk0 : 0 < k) : tko ts[i]? = tok k v ↔ ts[i]? = some (k, v) := by
  cases h : ts[i]? with
  | none =>
    simp only [tko]
    constructor
    · intro e; exact absurd e.symm (tok_0 hk hk0 hv)
    · intro e; cases e
  | some q =>
    obtain ⟨a, b⟩ := q
    obtain ⟨g1, g2, g3⟩ := hts i _ h
    simp only [tko]
    rw [tok_inj g2 g3 hk hv]
    simp
theorem t_isOp (hτ : tw_ok τ) {x i v : Nat} (hx : x < 2400) (hi : i < 1000) (hv : v < 2147483648) {ts : List (Nat × Nat)} (ht : ttk I L x ts) {Q : Int32 → tw_I → tw_L → Prop} (hd : 2 ≤ d) (h : Q (bz (decide (ts[i]? = some (6, v)))) I L) : wp_c d 240 [.ref 1315, .int (zi x), .int (zi i), .int (zi v)] (tw τ I L) (ti τ Q) := by
  refine k240 hτ hd ?_
  refine t_at hτ hx hi ht (by omega) ?_
  rw [zi_l (by omega) (by omega)]
  refine t_of (k := 6) hτ (by omega) (by omega) ?_
  have e := tko_op (v := v) (i := i) (fun i q hq => (ht.2.2 i q hq).2) (by omega) (k := 6) (by omega) (by omega)
  refine ⟨fun q => ?_, fun q => ?_⟩
  · rwa [decide_eq_true (e.mp q)] at h
  · rwa [decide_eq_false (fun z => q (e.mpr z))] at h
/-- the buffer -/
def tbf (I : tw_I) (B : List Nat) : Prop := I 1315 18 = zi B.length ∧ B.length ≤ 80 ∧ ∀ (i x : Nat), B[i]? = some x → I 1330 i = zi x ∧ x < 256
def cb (e : Int) (B : List Nat) (k : Nat) : Int := match B[k]? with
  | some x => x
  | none => e
theorem cb_rng (e : Int) (he : -3 ≤ e ∧ e < 256) {B : List Nat} (hB : ∀ (i x : Nat), B[i]? = some x → x < 256) (k : Nat) : -3 ≤ cb e B k ∧ cb e B k < 256 := by
  unfold cb
  cases h : B[k]? with
  | none => exact he
  | some x => have := hB k x h; simp only; omega
theorem t_byteAt (hτ : tw_ok τ) {k : Nat} (hk : k < 1000000) {B : List Nat} (hB : tbf I B) {Q : Int32 → tw_I → tw_L → Prop} (hd : 1 ≤ d) (h : Q (zi (cb (-2) B k)) I L) : wp_c d 183 [.ref 1315, .int (zi k)] (tw τ I L) (ti τ Q) := by
  obtain ⟨h1, h2, h3⟩ := hB
  refine k183 hτ hd ?_
  rw [h1, zi_lt (by omega) (by omega) (by omega) (by omega)]
  unfold cb at h
  refine ⟨fun q => ⟨zn_in (by omega) (by omega), ?_⟩, fun q => ?_⟩
  · have q : k < B.length := by omega
    rw [zn_ix (by omega), (h3 k B[k] (List.getElem?_eq_getElem q)).1]
    rwa [List.getElem?_eq_getElem q] at h
  · rwa [List.getElem?_eq_none (by omega)] at h
end
