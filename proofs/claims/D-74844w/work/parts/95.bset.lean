/-! JDK: BitSet. bs σ a w m f: at a lies a set with the words w (m of them), in which k is as f k tells -/
def bs (σ : cm_S) (a w m : Nat) (f : Nat → Bool) : Prop := (cm_tg σ a = 27 ∧ cm_R σ a 0 = w ∧ cm_tg σ w = 102 ∧ cm_ln σ w = m ∧ 322 ≤ a ∧ 322 ≤ w ∧ m ≤ 6) ∧
  ∃ u : Nat, cm_I σ a 1 = zi u ∧ (u ≤ m ∧ u ≤ 4) ∧ (u ≠ 0 → cm_L σ w (u - 1) ≠ zl 0) ∧ (∀ j, u ≤ j → cm_L σ w j = zl 0) ∧ ∀ k, f k = lb (cm_L σ w (k / 64)) (k % 64)
theorem sh_6 : ∀ k : Nat, k < 256 → (zi (k : Int)) >>> ((zi 6) &&& 31) = zi ((k / 64 : Nat) : Int) := by decide +kernel
theorem sh_63 : ∀ k : Nat, k < 256 → (zi (k : Int)).toInt64 &&& 63 = (zi ((k % 64 : Nat) : Int)).toInt64 &&& 63 := by decide +kernel
theorem lb_t {w : Int64} {k : Nat} (hk : k < 256) : (w &&& (zl 1 <<< ((zi (k : Int)).toInt64 &&& 63))) = zl 0 ↔ lb w (k % 64) = false := by
  rw [sh_63 k hk]
  have hj : k % 64 < 64 := Nat.mod_lt _ (by decide)
  generalize k % 64 = j at hj ⊢
  constructor
  · intro h
    have := congrArg (fun v => lb v j) h
    simp only [lb_and, lb_bit j hj j hj, lb_0] at this
    simpa using this
  · intro h
    refine lb_ext fun i hi => ?_
    rw [lb_and, lb_bit j hj i hi, lb_0]
    by_cases e : i = j
    · subst e; rw [h]; rfl
    · rw [decide_eq_false e, Bool.and_false]
theorem wc_out {d m : Nat} {args L : List Value} {σ : cm_S} {Q : cm_O → Prop} (hd : 1 ≤ d) (he : cm_el (cm_nl cp m) args = L) (K : wp_c d m args σ Q) : wp_r (d - 1) m (0, L, [], σ) Q := by
  obtain ⟨e, rfl⟩ : ∃ e, d = e + 1 := ⟨d - 1, (by omega)⟩
  obtain ⟨o, h1, h2⟩ := K
  refine ⟨o, ?_, h2⟩
  have h1 : (if args.all cm_okv = true ∧ (cm_ent args).length ≤ cm_nl cp m then cm_run cp e (cm_call cp e) m (0, cm_el (cm_nl cp m) args, [], σ) else none) = some o := h1
  by_cases c : args.all cm_okv = true ∧ (cm_ent args).length ≤ cm_nl cp m
  · rw [if_pos c, he] at h1; exact h1
  · rw [if_neg c] at h1; cases h1
section
variable {d a w m : Nat} {f : Nat → Bool} {σ : cm_S} {Q : cm_O → Prop}
theorem b_inv (hd : 1 ≤ d) {v : Nat} (h : Q (false, .int 0, σ)) : wp_c d 491 [.ref v] σ Q := k491 hd (k491_37 h)
theorem bs_get (h0 : bs σ a w m f) {k : Nat} (hk : k < 256) (hd : 2 ≤ d) (h : Q (false, .int (bz (f k)), σ)) : wp_c d 496 [.ref a, .int (zi (k : Int))] σ Q := by
  obtain ⟨⟨t1, r1, t2, l2, a1, w1, m4⟩, u, i1, um, ut, u0, uf⟩ := h0
  refine k496 hd ⟨fun z => ?_, fun _ => ⟨t1, b_inv (by omega) ⟨rfl, ?_⟩⟩⟩
  · rw [zi_lt (by omega) (by omega) (by omega) (by omega)] at z; omega
  refine k504 (by omega) ⟨_, _, rfl, ?_⟩
  simp only [sh_6 k hk, i1, r1]
  refine ⟨t1, fun z => ?_, fun z => ?_⟩
  · rw [zi_lt (by omega) (by omega) (by omega) (by omega)] at z
    refine ⟨t2, by rw [l2]; exact zn_in (by omega) (by omega), fun z2 => ?_, fun z2 => ?_⟩
    · rw [zn_ix (by omega), lb_t hk, ← uf] at z2; rw [z2] at h; exact h
    · rw [zn_ix (by omega), lb_t hk, ← uf, Bool.not_eq_false] at z2; rw [z2] at h; exact h
  · rw [zi_lt (by omega) (by omega) (by omega) (by omega)] at z
    have e := uf k
    rw [u0 _ (by omega), lb_0] at e
    rw [e] at h; exact h
/-- emptied -/
theorem bs_clear (h0 : bs σ a w m f) (hd : 1 ≤ d) (h : ∀ σ2, bs σ2 a w m (fun _ => false) → fr (fun x => x = a ∨ x = w) no_ 0 σ σ2 → Q (false, .int 0, σ2)) : wp_c d 493 [.ref a] σ Q := by
  obtain ⟨⟨t1, r1, t2, l2, a1, w1, m4⟩, u, i1, um, ut, u0, uf⟩ := h0
  have key : ∀ u σ1, u ≤ m → cm_tg σ1 a = 27 → cm_R σ1 a 0 = w → cm_tg σ1 w = 102 → cm_ln σ1 w = m → cm_I σ1 a 1 = zi (u : Nat) → (∀ j, u ≤ j → cm_L σ1 w j = zl 0) → fr (fun x => x = a ∨ x = w) no_ 0 σ σ1 → wp_c d 493 [.ref a] σ1 Q := by
    intro u
    induction u with
    | zero =>
      intro σ1 hm t1 r1 t2 l2 i1 u0 hf
      refine k493 (by omega) ⟨t1, fun z => ?_, fun _ => ?_⟩
      · rw [i1, zi_lt (by omega) (by omega) (by omega) (by omega)] at z; omega
      · exact h σ1 ⟨⟨t1, r1, t2, l2, a1, w1, m4⟩, 0, i1, (by omega), fun z => absurd rfl z, u0, fun k => by rw [u0 _ (by omega), lb_0]⟩ hf
    | succ u ih =>
      intro σ1 hm t1 r1 t2 l2 i1 u0 hf
      refine k493 (by omega) ⟨t1, fun z => ?_, fun z => ?_⟩
      · refine ⟨a1, ?_⟩
        rintro _ rfl
        rw [r1, i1, zi_sub, show ((u + 1 : Nat) : Int) - 1 = (u : Int) from (by omega), zn_ix (by omega)]
        refine ⟨t2, zn_in (by show _ < cm_ln σ1 w; rw [l2]; omega) (by show cm_ln σ1 w ≤ _; rw [l2]; omega), w1, ?_⟩
        rintro _ rfl
        have hne : a ≠ w := fun e => by rw [e, t2] at t1; cases t1
        refine wc_out hd rfl (ih _ (by omega) t1 r1 t2 l2 (u2_same _ _ _ _) (fun j hj => ?_) (hf.tr_ ((fr_pI (Or.inl (Or.inl rfl))).tr_ (fr_pL (Or.inl (Or.inr rfl))))))
        show cm_u2 (cm_L σ1) w u (zl 0) w j = zl 0
        rw [u2_at]
        by_cases e : j = u
        · rw [if_pos e]
        · rw [if_neg e]; exact u0 j (by omega)
      · rw [i1, zi_lt (by omega) (by omega) (by omega) (by omega)] at z; omega
  exact key u σ um.1 t1 r1 t2 l2 i1 u0 fr_0
end
