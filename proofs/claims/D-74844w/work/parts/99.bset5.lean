/-! JDK: BitSet.clear of one -/
section
variable {d a w m : Nat} {f : Nat → Bool} {σ : cm_S} {Q : cm_O → Prop}
theorem bs_rec {u : Nat} (t1 : cm_tg σ a = 27) (r1 : cm_R σ a 0 = w) (t2 : cm_tg σ w = 102) (l2 : cm_ln σ w = m) (a1 : 322 ≤ a) (w1 : 322 ≤ w) (m4 : m ≤ 6) (i1 : cm_I σ a 1 = zi (u : Nat)) (um : u ≤ m ∧ u ≤ 4) (u0 : ∀ j, u ≤ j → cm_L σ w j = zl 0) (uf : ∀ k, f k = lb (cm_L σ w (k / 64)) (k % 64))
    (hd : 1 ≤ d) (h : ∀ σ2, bs σ2 a w m f → fr (fun x => x = a) no_ 0 σ σ2 → Q (false, .int 0, σ2)) : wp_c d 502 [.ref a] σ Q := by
  have key : ∀ n : Nat, n ≤ u → (∀ j, n ≤ j → cm_L σ w j = zl 0) → wp_r (d - 1) 502 (7, [.ref a, .int (zi ((n : Int) - 1))], [], σ) Q := by
    intro n
    induction n with
    | zero =>
      intro hn h0
      refine k502_7 ⟨fun _ => ⟨t1, a1, ?_⟩, fun z => ?_⟩
      · rintro _ rfl
        exact h _ ⟨⟨t1, r1, t2, l2, a1, w1, m4⟩, 0, u2_same _ _ _ _, (by omega), fun z => absurd rfl z, h0, uf⟩ (fr_pI (Or.inl rfl))
      · exact absurd (by decide) z
    | succ n ih =>
      intro hn h0
      rw [show ((n + 1 : Nat) : Int) - 1 = (n : Int) from (by omega)]
      refine k502_7 ⟨fun z => ?_, fun _ => ⟨t1, by rw [r1]; exact t2, by rw [r1, l2]; exact zn_in (by omega) (by omega), fun z => ?_, fun z => ⟨a1, ?_⟩⟩⟩
      · rw [zi_lt (by omega) (by omega) (by omega) (by omega)] at z; omega
      · rw [r1, zn_ix (by omega)] at z
        rw [zi_add]
        exact ih (by omega) fun j hj => by
          by_cases c : j = n
          · rw [c]; exact z
          · exact h0 j (by omega)
      · rw [r1, zn_ix (by omega)] at z
        rintro _ rfl
        rw [zn_a n 1 1 rfl]
        exact h _ ⟨⟨t1, r1, t2, l2, a1, w1, m4⟩, n + 1, u2_same _ _ _ _, (by omega), fun _ => z, h0, uf⟩ (fr_pI (Or.inl rfl))
  refine k502 hd ⟨t1, ?_⟩
  rw [i1, zi_sub]
  exact key u (Nat.le_refl _) u0
theorem bs_clr (h0 : bs σ a w m f) {k : Nat} (hk : k < 256) (hd : 3 ≤ d) (h : ∀ σ2, bs σ2 a w m (up1 f k false) → fr (fun x => x = a ∨ x = w) no_ 0 σ σ2 → Q (false, .int 0, σ2)) : wp_c d 492 [.ref a, .int (zi (k : Int))] σ Q := by
  obtain ⟨⟨t1, r1, t2, l2, a1, w1, m4⟩, u, i1, um, ut, u0, uf⟩ := id h0
  refine k492 (by omega) ⟨fun z => ?_, fun _ => k504 (by omega) ⟨_, _, rfl, ?_⟩⟩
  · rw [zi_lt (by omega) (by omega) (by omega) (by omega)] at z; omega
  simp only [sh_6 k hk, i1, r1]
  refine ⟨t1, fun z => ?_, fun z => ?_⟩
  · rw [zi_lt (by omega) (by omega) (by omega) (by omega)] at z
    rw [zn_ix (by omega)]
    refine ⟨t2, by rw [l2]; exact zn_in (by omega) (by omega), w1, ?_⟩
    rintro _ rfl
    have hL : ∀ j, cm_L (cm_pL σ w (k / 64) (cm_L σ w (k / 64) &&& ((zl 1 <<< ((zi (k : Int)).toInt64 &&& 63)) ^^^ zl (-1)))) w j = if j = k / 64 then cm_L σ w (k / 64) &&& ((zl 1 <<< ((zi (k : Int)).toInt64 &&& 63)) ^^^ zl (-1)) else cm_L σ w j := fun j => u2_at _ _ _ _ _
    refine bs_rec (w := w) (m := m) (f := up1 f k false) t1 r1 t2 l2 a1 w1 m4 i1 um (fun j hj => ?_) (fun i => ?_) (by omega) (fun σ2 g hf => ⟨rfl, g.1.1, b_inv (by omega) ⟨rfl, h σ2 g ?_⟩⟩)
    · rw [hL, if_neg (by omega)]; exact u0 j hj
    · rw [hL]
      unfold up1
      by_cases c : i = k
      · rw [if_pos c, if_pos (by rw [c]), lb_cl hk (Nat.mod_lt _ (by decide)), c, decide_eq_true rfl, Bool.not_true, Bool.and_false]
      · rw [if_neg c, uf i]
        by_cases e : i / 64 = k / 64
        · rw [if_pos e, lb_cl hk (Nat.mod_lt _ (by decide)), decide_eq_false (by omega), Bool.not_false, Bool.and_true, e]
        · rw [if_neg e]
    · exact fr_tr (n := 0) (m := 0) (fr_pL (Or.inl (Or.inr rfl))) hf (fun _ _ z => Or.inl z) (fun _ _ z => z)
  · rw [zi_lt (by omega) (by omega) (by omega) (by omega)] at z
    refine h σ ?_ fr_0
    have e : up1 f k false = f := by
      funext i
      unfold up1
      by_cases c : i = k
      · rw [if_pos c, c, uf k, u0 _ (by omega), lb_0]
      · rw [if_neg c]
    rw [e]
    exact h0
end
