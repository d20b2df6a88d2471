/-! JDK: Arrays.copyOf of longs; BitSet.set with growth, clear of one -/
section
variable {d a w m : Nat} {f : Nat → Bool} {σ : cm_S} {Q : cm_O → Prop}
theorem j_copyL {n : Nat} (tw : cm_tg σ w = 102) (lw : cm_ln σ w = m) (hw : w < cm_nx σ) (hm : m < n) (hn : n ≤ 12) (hK : 322 ≤ cm_nx σ) (hd : 3 ≤ d) (h : ∀ σ2, (∀ X Y, fr X Y 1 σ σ2) → cm_nx σ2 = cm_nx σ + 1 → cm_tg σ2 (cm_nx σ) = 102 → cm_ln σ2 (cm_nx σ) = n → (∀ j, cm_L σ2 (cm_nx σ) j = if j < m then cm_L σ w j else zl 0) → Q (false, .ref (cm_nx σ), σ2)) : wp_c d 591 [.ref w, .int (zi (n : Int))] σ Q := by
  have hne : w ≠ cm_nx σ := (by omega)
  refine k591 (by omega) ⟨by rw [tw]; decide, fun z => ?_, fun _ => ⟨⟨by rw [zi_toInt (by omega) (by omega)]; omega, by rw [zi_toInt (by omega) (by omega)]; omega⟩, ?_⟩⟩
  · rw [lw] at z
    have z : zi (n : Int) = zi (m : Int) := z
    rw [zi_eq (by omega) (by omega) (by omega) (by omega)] at z; omega
  rintro _ rfl
  rw [zn_ix (show n < 2147483648 from (by omega))]
  have e1 : cm_tg (cm_al σ 102 n) w = 102 := (u1_ne _ _ hne).trans tw
  have e2 : cm_ln (cm_al σ 102 n) w = m := (u1_ne _ _ hne).trans lw
  have e3 : cm_tg (cm_al σ 102 n) (cm_nx σ) = 102 := u1_at _ _ _
  have e4 : cm_ln (cm_al σ 102 n) (cm_nx σ) = n := u1_at _ _ _
  have e5 : cm_L (cm_al σ 102 n) w = cm_L σ w := u1_ne _ _ hne
  have e6 : cm_L (cm_al σ 102 n) (cm_nx σ) = fun _ => 0 := u1_at _ _ _
  refine ⟨by rw [e1]; decide, ?_⟩
  rw [e2]
  refine m_min (a := (m : Int)) (b := (n : Int)) ⟨(by omega), (by omega)⟩ ⟨(by omega), (by omega)⟩ (by omega) ⟨_, _, rfl, ?_⟩
  rw [show min (m : Int) (n : Int) = (m : Int) from (by omega)]
  refine ⟨⟨by rw [e1, e3], hK, by decide, by decide, by rw [zi_toInt (by omega) (by omega)]; omega, by rw [e2, zi_toInt (by omega) (by omega), zi_toInt (by omega) (by omega)]; omega, by rw [e4, zi_toInt (by omega) (by omega), zi_toInt (by omega) (by omega)]; omega⟩, ?_⟩
  rw [if_pos e3, e5, e6, zn_ix (show m < 2147483648 from (by omega))]
  refine h _ (fun X Y => fr_tr (n := 1) (m := 0) (fr_al (by omega) (by omega)) (fr_wL (X := fun x => x = cm_nx σ) (Y := no_) (Or.inl rfl)) (fun b hb z => absurd z (Nat.ne_of_lt hb)) (fun _ _ z => z.elim)) rfl e3 e4 (fun j => ?_)
  · show cm_u1 _ (cm_nx σ) (cm_cpy _ _ _ _ _) (cm_nx σ) j = _
    rw [u1_at]
    unfold cm_cpy
    rw [show cm_ix (zi 0) = 0 from by decide]
    by_cases c : j < m
    · rw [if_pos ⟨(by omega), (by omega)⟩, if_pos c]; congr 1; omega
    · rw [if_neg (fun q => c (by omega)), if_neg c]; rfl
theorem bs_set (h0 : bs σ a w m f) (hm : 1 ≤ m) (ha : a < cm_nx σ) (hw : w < cm_nx σ) {k : Nat} (hk : k < 256) (hd : 6 ≤ d) (h : ∀ σ2 w2 m2, bs σ2 a w2 m2 (up1 f k true) → 1 ≤ m2 → w2 < cm_nx σ2 → (w2 = w ∨ cm_nx σ ≤ w2) → fr (fun x => x = a ∨ x = w) (fun x => x = a) 1 σ σ2 → Q (false, .int 0, σ2)) : wp_c d 503 [.ref a, .int (zi (k : Int))] σ Q := by
  obtain ⟨⟨t1, r1, t2, l2, a1, w1, m4⟩, u, i1, um, ut, u0, uf⟩ := h0
  have hne : a ≠ w := fun e => by rw [e, t2] at t1; cases t1
  refine k503 (by omega) ⟨fun z => ?_, fun _ => k504 (by omega) ⟨_, _, rfl, ?_⟩⟩
  · rw [zi_lt (by omega) (by omega) (by omega) (by omega)] at z; omega
  simp only [sh_6 k hk]
  refine ⟨t1, k495 (by omega) ⟨t1, fun z => ?_, fun z => ?_⟩⟩
  · rw [i1, zn_a (k / 64) 1 1 rfl, zi_lt (by omega) (by omega) (by omega) (by omega)] at z
    rw [zn_a (k / 64) 1 1 rfl]
    refine k494 (by omega) ⟨t1, by rw [r1, t2]; decide, fun z => ?_, fun y => ⟨rfl, ?_⟩⟩
    · rw [r1, l2, show Int32.ofNat m = zi (m : Int) from rfl, zi_lt (by omega) (by omega) (by omega) (by omega)] at z
      rw [r1, l2, show Int32.ofNat m = zi (m : Int) from rfl, zi_mul]
      refine m_max (a := 2 * (m : Int)) (b := ((k / 64 + 1 : Nat) : Int)) ⟨(by omega), (by omega)⟩ ⟨(by omega), (by omega)⟩ (by omega) ⟨_, _, rfl, ?_⟩
      obtain ⟨n, hn⟩ : ∃ n : Nat, n = max (2 * m) (k / 64 + 1) := ⟨_, rfl⟩
      rw [show max (2 * (m : Int)) ((k / 64 + 1 : Nat) : Int) = (n : Int) from (by omega)]
      refine ⟨t1, ?_⟩
      simp only [r1]
      refine j_copyL t2 l2 hw (by omega) (by omega) (by omega) (by omega) fun σ2 hf hx ht hl hL => ⟨_, _, rfl, ?_⟩
      have ht1 : cm_tg σ2 a = 27 := ((hf no_ no_).tg ha).trans t1
      refine ⟨ht1, a1, ?_⟩
      rintro _ rfl
      rintro _ rfl
      refine ⟨rfl, ?_⟩
      refine ⟨ht1, a1, ?_⟩
      rintro _ rfl
      refine ⟨rfl, ?_⟩
      have er : ∀ x y, cm_R (cm_pI (cm_pI (cm_pR σ2 a 0 (cm_nx σ)) a 2 x) a 1 y) a 0 = cm_nx σ := fun _ _ => u2_same _ _ _ _
      simp only [er, zn_ix (show k / 64 < 2147483648 from (by omega))]
      refine ⟨ht1, ht, zn_in (by show _ < cm_ln σ2 (cm_nx σ); rw [hl]; omega) (by show cm_ln σ2 (cm_nx σ) ≤ _; rw [hl]; omega), (show 322 ≤ cm_nx σ from (by omega)), ?_⟩
      rintro _ rfl
      have hLj : ∀ j, cm_L σ2 (cm_nx σ) j = cm_L σ w j := fun j => by
        rw [hL]
        by_cases c : j < m
        · rw [if_pos c]
        · rw [if_neg c, u0 j (by omega)]
      refine b_inv (by omega) ⟨rfl, h _ (cm_nx σ) n (bs_word hk ht1 (er _ _) ht hl a1 (by omega) (by omega) (u := k / 64 + 1) (u2_same _ _ _ _) (by omega) (by omega) (fun z => absurd rfl z) (fun j hj => ?_) (fun i => ?_)) (by omega) ?_ (Or.inr (Nat.le_refl _)) ?_⟩
      · exact (hLj j).trans (u0 j (by omega))
      · rw [uf i]; exact congrArg (fun v => lb v (i % 64)) (hLj (i / 64)).symm
      · show cm_nx σ < cm_nx σ2
        omega
      · refine fr_tr (n := 1) (m := 0) (hf _ _) (X2 := fun x => x = a ∨ x = cm_nx σ) (Y2 := fun x => x = a) ?_ (fun b hb z => z.elim (fun z => Or.inl z) (fun z => absurd z (Nat.ne_of_lt hb))) (fun _ _ z => z)
        exact (((fr_pR (X := fun x => x = a ∨ x = cm_nx σ) (Y := fun x => x = a) (Or.inl rfl)).tr_ (fr_pI (Or.inl (Or.inl rfl)))).tr_ (fr_pI (Or.inl (Or.inl rfl)))).tr_ (fr_pL (Or.inl (Or.inr rfl)))
    rw [r1, l2, show Int32.ofNat m = zi (m : Int) from rfl, zi_lt (by omega) (by omega) (by omega) (by omega)] at y
    refine ⟨t1, a1, ?_⟩
    rintro _ rfl
    refine ⟨rfl, ?_⟩
    simp only [show ∀ x, cm_R (cm_pI σ a 1 x) a 0 = w from fun _ => r1, zn_ix (show k / 64 < 2147483648 from (by omega))]
    refine ⟨t1, t2, zn_in (by show _ < cm_ln σ w; rw [l2]; omega) (by show cm_ln σ w ≤ _; rw [l2]; omega), w1, ?_⟩
    rintro _ rfl
    refine b_inv (by omega) ⟨rfl, h _ w m (bs_word hk t1 r1 t2 l2 a1 w1 m4 (u := k / 64 + 1) (u2_same _ _ _ _) (by omega) (by omega) (fun z => absurd rfl z) (fun j hj => u0 j (by omega)) uf) hm hw (Or.inl rfl) (((fr_pI (Or.inl (Or.inl rfl))).tr_ (fr_pL (Or.inl (Or.inr rfl)))).le_ (by omega))⟩
  · rw [i1, zn_a (k / 64) 1 1 rfl, zi_lt (by omega) (by omega) (by omega) (by omega)] at z
    refine ⟨rfl, ?_⟩
    simp only [r1, zn_ix (show k / 64 < 2147483648 from (by omega))]
    refine ⟨t1, t2, zn_in (by rw [l2]; omega) (by rw [l2]; omega), w1, ?_⟩
    rintro _ rfl
    exact b_inv (by omega) ⟨rfl, h _ w m (bs_word hk t1 r1 t2 l2 a1 w1 m4 i1 um (by omega) (fun _ => ut (by omega)) u0 uf) hm hw (Or.inl rfl) ((fr_pL (Or.inl (Or.inr rfl))).le_ (by omega))⟩
end
