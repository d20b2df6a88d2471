/-! JDK: BitSet.set, clear of one -/
theorem lb_st {w : Int64} {k i : Nat} (hk : k < 256) (hi : i < 64) : lb (w ||| (zl 1 <<< ((zi (k : Int)).toInt64 &&& 63))) i = (lb w i || decide (i = k % 64)) := by
  rw [lb_or, sh_63 k hk, lb_bit _ (Nat.mod_lt _ (by decide)) i hi]
theorem lb_cl {w : Int64} {k i : Nat} (hk : k < 256) (hi : i < 64) : lb (w &&& ((zl 1 <<< ((zi (k : Int)).toInt64 &&& 63)) ^^^ zl (-1))) i = (lb w i && !decide (i = k % 64)) := by
  rw [lb_and, lb_xor, lb_m1 i hi, sh_63 k hk, lb_bit _ (Nat.mod_lt _ (by decide)) i hi, Bool.xor_true]
section
variable {d a w m : Nat} {f : Nat → Bool} {σ : cm_S} {Q : cm_O → Prop}
/-- the last step of set: a bit comes into a word -/
theorem bs_word {k u : Nat} (hk : k < 256) (t1 : cm_tg σ a = 27) (r1 : cm_R σ a 0 = w) (t2 : cm_tg σ w = 102) (l2 : cm_ln σ w = m) (a1 : 322 ≤ a) (w1 : 322 ≤ w) (m4 : m ≤ 6) (i1 : cm_I σ a 1 = zi (u : Nat)) (um : u ≤ m ∧ u ≤ 4) (hu : k / 64 < u)
    (ut : k / 64 + 1 ≠ u → cm_L σ w (u - 1) ≠ zl 0) (u0 : ∀ j, u ≤ j → cm_L σ w j = zl 0) (uf : ∀ k, f k = lb (cm_L σ w (k / 64)) (k % 64)) :
    bs (cm_pL σ w (k / 64) ((cm_L σ w (k / 64)) ||| ((zl 1) <<< ((zi (k : Int)).toInt64 &&& 63)))) a w m (up1 f k true) := by
  refine ⟨⟨t1, r1, t2, l2, a1, w1, m4⟩, u, i1, um, fun _ => ?_, fun j hj => ?_, fun i => ?_⟩
  · show cm_u2 (cm_L σ) w (k / 64) _ w (u - 1) ≠ _
    rw [u2_at]
    by_cases c : u - 1 = k / 64
    · rw [if_pos c]
      intro z
      have := congrArg (fun v => lb v (k % 64)) z
      simp only [lb_st hk (Nat.mod_lt k (by decide : 64 > 0)), lb_0, decide_true, Bool.or_true] at this
      cases this
    · rw [if_neg c]; exact ut (by omega)
  · show cm_u2 (cm_L σ) w (k / 64) _ w j = _
    rw [u2_at, if_neg (by omega)]; exact u0 j hj
  · show up1 f k true i = lb (cm_u2 (cm_L σ) w (k / 64) _ w (i / 64)) (i % 64)
    rw [u2_at]
    unfold up1
    by_cases c : i = k
    · rw [if_pos c, if_pos (by rw [c]), lb_st hk (Nat.mod_lt _ (by decide)), c, decide_eq_true rfl, Bool.or_true]
    · rw [if_neg c, uf i]
      by_cases e : i / 64 = k / 64
      · rw [if_pos e, lb_st hk (Nat.mod_lt _ (by decide)), decide_eq_false (by omega), Bool.or_false, e]
      · rw [if_neg e]
theorem bs_set4 (h0 : bs σ a w 4 f) {k : Nat} (hk : k < 256) (hd : 4 ≤ d) (h : ∀ σ2, bs σ2 a w 4 (up1 f k true) → fr (fun x => x = a ∨ x = w) no_ 0 σ σ2 → Q (false, .int 0, σ2)) : wp_c d 503 [.ref a, .int (zi (k : Int))] σ Q := by
  obtain ⟨⟨t1, r1, t2, l2, a1, w1, m4⟩, u, i1, um, ut, u0, uf⟩ := h0
  have hne : a ≠ w := fun e => by rw [e, t2] at t1; cases t1
  refine k503 (by omega) ⟨fun z => ?_, fun _ => k504 (by omega) ⟨_, _, rfl, ?_⟩⟩
  · rw [zi_lt (by omega) (by omega) (by omega) (by omega)] at z; omega
  simp only [sh_6 k hk]
  refine ⟨t1, k495 (by omega) ⟨t1, fun z => ?_, fun z => ?_⟩⟩
  · rw [i1, zn_a (k / 64) 1 1 rfl, zi_lt (by omega) (by omega) (by omega) (by omega)] at z
    rw [zn_a (k / 64) 1 1 rfl]
    refine k494 (by omega) ⟨t1, by rw [r1, t2]; decide, fun z => ?_, fun _ => ⟨rfl, ?_⟩⟩
    · rw [r1, l2, show Int32.ofNat 4 = zi 4 from rfl, zi_lt (by omega) (by omega) (by omega) (by omega)] at z; omega
    refine ⟨t1, a1, ?_⟩
    rintro _ rfl
    refine ⟨rfl, ?_⟩
    simp only [show ∀ x, cm_R (cm_pI σ a 1 x) a 0 = w from fun _ => r1, zn_ix (show k / 64 < 2147483648 from (by omega))]
    refine ⟨t1, t2, zn_in (by show _ < cm_ln σ w; rw [l2]; omega) (by show cm_ln σ w ≤ _; rw [l2]; omega), w1, ?_⟩
    rintro _ rfl
    refine b_inv (by omega) ⟨rfl, h _ (bs_word hk t1 r1 t2 l2 a1 w1 m4 (u := k / 64 + 1) (u2_same _ _ _ _) (by omega) (by omega) (fun z => absurd rfl z) (fun j hj => u0 j (by omega)) uf) ((fr_pI (Or.inl (Or.inl rfl))).tr_ (fr_pL (Or.inl (Or.inr rfl))))⟩
  · rw [i1, zn_a (k / 64) 1 1 rfl, zi_lt (by omega) (by omega) (by omega) (by omega)] at z
    refine ⟨rfl, ?_⟩
    simp only [r1, zn_ix (show k / 64 < 2147483648 from (by omega))]
    refine ⟨t1, t2, zn_in (by rw [l2]; omega) (by rw [l2]; omega), w1, ?_⟩
    rintro _ rfl
    exact b_inv (by omega) ⟨rfl, h _ (bs_word hk t1 r1 t2 l2 a1 w1 m4 i1 um (by omega) (fun _ => ut (by omega)) u0 uf) (fr_pL (Or.inl (Or.inr rfl)))⟩
end
