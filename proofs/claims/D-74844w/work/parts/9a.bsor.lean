/-! JDK: BitSet.or -/
theorem or_nz {a b : Int64} (h : a ≠ zl 0 ∨ b ≠ zl 0) : a ||| b ≠ zl 0 := by
  intro z
  have e : ∀ i, (lb a i || lb b i) = false := fun i => by rw [← lb_or, z, lb_0]
  rcases h with h | h
  · exact h (lb_ext fun i _ => by rw [lb_0]; exact (Bool.or_eq_false_iff.mp (e i)).1)
  · exact h (lb_ext fun i _ => by rw [lb_0]; exact (Bool.or_eq_false_iff.mp (e i)).2)
theorem or_0r (a : Int64) : a ||| zl 0 = a := lb_ext fun i _ => by rw [lb_or, lb_0, Bool.or_false]
theorem or_0l (a : Int64) : zl 0 ||| a = a := lb_ext fun i _ => by rw [lb_or, lb_0, Bool.false_or]
section
variable {d a w b v : Nat} {f g : Nat → Bool} {σ : cm_S} {Q : cm_O → Prop}
theorem bs_or (h0 : bs σ a w 4 f) (h1 : bs σ b v 4 g) (hab : a ≠ b) (hwv : w ≠ v) (hw : w < cm_nx σ) (ha : a < cm_nx σ) (hb : b < cm_nx σ) (hv : v < cm_nx σ) (hd : 4 ≤ d) (h : ∀ σ2, bs σ2 a w 4 (fun k => f k || g k) → fr (fun x => x = a ∨ x = w) no_ 0 σ σ2 → Q (false, .int 0, σ2)) : wp_c d 501 [.ref a, .ref b] σ Q := by
  obtain ⟨⟨t1, r1, t2, l2, a1, w1, m4⟩, u, i1, um, ut, u0, uf⟩ := h0
  obtain ⟨⟨s1, q1, s2, n2, b1, v1, _⟩, x, j1, xm, xt, x0, xf⟩ := h1
  have hne : a ≠ w := fun e => by rw [e, t2] at t1; cases t1
  have hnb : b ≠ w := fun e => by rw [e, t2] at s1; cases s1
  have key : ∀ n i : Nat, ∀ σ1 : cm_S, i + n = min u x → cm_tg σ1 a = 27 → cm_R σ1 a 0 = w → cm_tg σ1 w = 102 → cm_ln σ1 w = 4 → cm_I σ1 a 1 = zi ((max u x : Nat) : Int) → cm_tg σ1 b = 27 → cm_R σ1 b 0 = v → cm_tg σ1 v = 102 → cm_ln σ1 v = 4 → cm_I σ1 b 1 = zi (x : Nat) → cm_L σ1 v = cm_L σ v →
      (∀ j, cm_L σ1 w j = if j < i then cm_L σ w j ||| cm_L σ v j else cm_L σ w j) → fr (fun x => x = a ∨ x = w) no_ 0 σ σ1 → wp_r (d - 1) 501 (47, [.ref a, .ref b, .int (zi ((min u x : Nat) : Int)), .int (zi (i : Int))], [], σ1) Q := by
    intro n
    induction n with
    | zero =>
      intro i σ1 e t1 r1 t2 l2 i1 s1 q1 s2 n2 j1 hLv hL hf
      have fin : ∀ σ2 : cm_S, cm_tg σ2 a = 27 → cm_R σ2 a 0 = w → cm_tg σ2 w = 102 → cm_ln σ2 w = 4 → cm_I σ2 a 1 = zi ((max u x : Nat) : Int) → (∀ j, cm_L σ2 w j = cm_L σ w j ||| cm_L σ v j) → bs σ2 a w 4 (fun k => f k || g k) := by
        intro σ2 t1 r1 t2 l2 i1 hL
        refine ⟨⟨t1, r1, t2, l2, a1, w1, (by omega)⟩, max u x, i1, (by omega), fun z => ?_, fun j hj => ?_, fun k => ?_⟩
        · rw [hL]
          by_cases c : x ≤ u
          · exact or_nz (Or.inl (by rw [show max u x - 1 = u - 1 from (by omega)]; exact ut (by omega)))
          · exact or_nz (Or.inr (by rw [show max u x - 1 = x - 1 from (by omega)]; exact xt (by omega)))
        · rw [hL, u0 j (by omega), x0 j (by omega), or_0r]
        · rw [hL, lb_or, ← uf, ← xf]
      refine k501_47 (by omega) ⟨fun z => ?_, fun _ => ⟨s1, fun z => ⟨t1, ?_⟩, fun z => ⟨t1, b_inv (by omega) ⟨rfl, h _ (fin σ1 t1 r1 t2 l2 i1 fun j => ?_) hf⟩⟩⟩⟩
      · rw [zi_lt (by omega) (by omega) (by omega) (by omega)] at z; omega
      · rw [j1, zi_lt (by omega) (by omega) (by omega) (by omega)] at z
        rw [r1, q1, i1, zi_sub]
        have ei : ((max u x : Nat) : Int) - ((min u x : Nat) : Int) = ((x - u : Nat) : Int) := (by omega)
        have em : min u x = u := (by omega)
        rw [ei, em]
        refine ⟨⟨by rw [s2, t2], w1, by rw [zi_toInt (by omega) (by omega)]; omega, by rw [zi_toInt (by omega) (by omega)]; omega, by rw [zi_toInt (by omega) (by omega)]; omega, by rw [n2, zi_toInt (by omega) (by omega), zi_toInt (by omega) (by omega)]; omega, by rw [l2, zi_toInt (by omega) (by omega), zi_toInt (by omega) (by omega)]; omega⟩, ?_⟩
        rw [if_pos t2, zn_ix (show u < 2147483648 from (by omega)), zn_ix (show x - u < 2147483648 from (by omega))]
        refine ⟨t1, b_inv (by omega) ⟨rfl, h _ (fin _ t1 r1 t2 l2 i1 fun j => ?_) (fr_tr (n := 0) (m := 0) hf (fr_wL (X := fun x => x = a ∨ x = w) (Y := no_) (Or.inl (Or.inr rfl))) (fun _ _ z => z) (fun _ _ z => z))⟩⟩
        show cm_u1 (cm_L σ1) w (cm_cpy _ _ _ _ _) w j = _
        rw [u1_at]
        unfold cm_cpy
        by_cases c : u ≤ j ∧ j < u + (x - u)
        · rw [if_pos c, hLv, u0 j c.1, or_0l]; congr 1; omega
        · rw [if_neg c, hL]
          by_cases c2 : j < i
          · rw [if_pos c2]
          · rw [if_neg c2, x0 j (by omega), or_0r]
      · rw [j1, zi_lt (by omega) (by omega) (by omega) (by omega)] at z
        rw [hL]
        by_cases c2 : j < i
        · rw [if_pos c2]
        · rw [if_neg c2, x0 j (by omega), or_0r]
    | succ n ih =>
      intro i σ1 e t1 r1 t2 l2 i1 s1 q1 s2 n2 j1 hLv hL hf
      refine k501_47 (by omega) ⟨fun _ => ?_, fun z => ?_⟩
      · rw [r1, q1, zn_ix (show i < 2147483648 from (by omega))]
        refine ⟨t1, t2, by rw [l2]; exact zn_in (by omega) (by omega), s1, s2, by rw [n2]; exact zn_in (by omega) (by omega), w1, ?_⟩
        rintro _ rfl
        rw [zn_a i 1 1 rfl]
        refine ih (i + 1) _ (by omega) t1 r1 t2 l2 i1 s1 q1 s2 n2 j1 ((u2_row _ _ _ _ (Ne.symm hwv)).trans hLv) (fun j => ?_) (fr_tr (n := 0) (m := 0) hf (fr_pL (X := fun x => x = a ∨ x = w) (Y := no_) (Or.inl (Or.inr rfl))) (fun _ _ z => z) (fun _ _ z => z))
        show cm_u2 (cm_L σ1) w i _ w j = _
        rw [u2_at, hLv, hL i, if_neg (Nat.lt_irrefl i)]
        by_cases c : j = i
        · rw [if_pos c, if_pos (by omega), c]
        · rw [if_neg c, hL]
          by_cases c2 : j < i
          · rw [if_pos c2, if_pos (by omega)]
          · rw [if_neg c2, if_neg (by omega)]
      · rw [zi_lt (by omega) (by omega) (by omega) (by omega)] at z; omega
  refine k501 (by omega) ⟨Or.inr (Or.inr (Or.inr (Or.inl a1))), fun z => absurd z hab, fun _ => ⟨t1, s1, ?_⟩⟩
  rw [i1, j1]
  refine m_min (a := (u : Int)) (b := (x : Int)) ⟨(by omega), (by omega)⟩ ⟨(by omega), (by omega)⟩ (by omega) ⟨_, _, rfl, ?_⟩
  rw [show min (u : Int) (x : Int) = ((min u x : Nat) : Int) from (by omega)]
  simp only [i1, j1]
  refine ⟨t1, s1, fun z => ?_, fun z => ?_⟩
  · rw [zi_lt (by omega) (by omega) (by omega) (by omega)] at z
    refine k494 (by omega) ⟨t1, by rw [r1, t2]; decide, fun y => ?_, fun _ => ⟨rfl, ?_⟩⟩
    · rw [r1, l2, show Int32.ofNat 4 = zi 4 from rfl, zi_lt (by omega) (by omega) (by omega) (by omega)] at y; omega
    refine ⟨s1, t1, a1, ?_⟩
    rintro _ rfl
    refine key (min u x) 0 _ (by omega) t1 r1 t2 l2 ((u2_same _ _ _ _).trans ?_) s1 q1 s2 n2 ((u2_ne _ _ _ _ (Ne.symm hab) _).trans j1) rfl (fun j => by rw [if_neg (Nat.not_lt_zero j)]; rfl) (fr_pI (Or.inl (Or.inl rfl)))
    show cm_I σ b 1 = _
    rw [j1, show max u x = x from (by omega)]
  · rw [zi_lt (by omega) (by omega) (by omega) (by omega)] at z
    exact key (min u x) 0 σ (by omega) t1 r1 t2 l2 (by rw [i1, show max u x = u from (by omega)]) s1 q1 s2 n2 j1 rfl (fun j => by rw [if_neg (Nat.not_lt_zero j)]) fr_0
end
