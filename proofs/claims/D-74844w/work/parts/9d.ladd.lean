/-! JDK: Arrays.copyOf of objects; ArrayList.add -/
section
variable {d l b c n : Nat} {xs : List Nat} {σ : cm_S} {Q : cm_O → Prop}
theorem j_copyR {m : Nat} (tb : cm_tg σ b = 105) (lb : cm_ln σ b = m) (hb : b < cm_nx σ) (hm : m < n) (hn : n ≤ 24) (hK : 322 ≤ cm_nx σ) (hel : ∀ i, i < m → cm_R σ b i = 0 ∨ (0 < cm_tg σ (cm_R σ b i) ∧ cm_tg σ (cm_R σ b i) < 32 ∧ cm_R σ b i < cm_nx σ)) (hd : 4 ≤ d) (h : ∀ σ2, (∀ X Y, fr X Y 2 σ σ2) → cm_nx σ2 = cm_nx σ + 1 → cm_tg σ2 (cm_nx σ) = 105 → cm_ln σ2 (cm_nx σ) = n → (∀ j, cm_R σ2 (cm_nx σ) j = if j < m then cm_R σ b j else 0) → Q (false, .ref (cm_nx σ), σ2)) : wp_c d 589 [.ref b, .int (zi (n : Int))] σ Q := by
  have hne : b ≠ cm_nx σ := (by omega)
  refine k589 (by omega) ⟨tb, k590 (by omega) ⟨Or.inl rfl, fun _ => ⟨⟨by rw [zi_toInt (by omega) (by omega)]; omega, by rw [zi_toInt (by omega) (by omega)]; omega⟩, ?_⟩, fun z => absurd rfl z⟩⟩
  rintro _ rfl
  rw [zn_ix (show n < 2147483648 from (by omega))]
  have e1 : cm_tg (cm_al σ 105 n) b = 105 := (u1_ne _ _ hne).trans tb
  have e2 : cm_ln (cm_al σ 105 n) b = m := (u1_ne _ _ hne).trans lb
  have e3 : cm_tg (cm_al σ 105 n) (cm_nx σ) = 105 := u1_at _ _ _
  have e4 : cm_ln (cm_al σ 105 n) (cm_nx σ) = n := u1_at _ _ _
  have e5 : cm_R (cm_al σ 105 n) b = cm_R σ b := u1_ne _ _ hne
  have e6 : cm_R (cm_al σ 105 n) (cm_nx σ) = fun _ => 0 := u1_at _ _ _
  refine ⟨by rw [e1]; decide, ?_⟩
  rw [e2, zi_ofNat]
  refine m_min (a := (m : Int)) (b := (n : Int)) ⟨(by omega), (by omega)⟩ ⟨(by omega), (by omega)⟩ (by omega) ⟨_, _, rfl, ?_⟩
  rw [show min (m : Int) (n : Int) = (m : Int) from (by omega)]
  refine ⟨⟨by rw [e1, e3], hK, by decide, by decide, by rw [zi_toInt (by omega) (by omega)]; omega, by rw [e2, zi_toInt (by omega) (by omega), zi_toInt (by omega) (by omega)]; omega, by rw [e4, zi_toInt (by omega) (by omega), zi_toInt (by omega) (by omega)]; omega⟩, ?_⟩
  rw [if_neg (by rw [e3]; decide), if_neg (by rw [e3]; decide), e5, e6, e3, zn_ix (show m < 2147483648 from (by omega)), show cm_ix (zi 0) = 0 from by decide]
  refine ⟨⟨by decide, fun i hi => ?_⟩, ⟨_, _, rfl, h _ (fun X Y => fr_tr (n := 2) (m := 0) (fr_al (by omega) (by omega)) (fr_wR (X := no_) (Y := fun x => x = cm_nx σ) (Or.inl rfl)) (fun _ _ z => z.elim) (fun _ hb z => absurd z (Nat.ne_of_lt hb))) rfl e3 e4 (fun j => ?_)⟩⟩
  · rw [Nat.zero_add]
    rcases hel i hi with g | ⟨g1, g2, g3⟩
    · exact Or.inl g
    · refine Or.inr ?_
      rw [show cm_tg (cm_al σ 105 n) (cm_R σ b i) = cm_tg σ (cm_R σ b i) from u1_ne _ _ (Nat.ne_of_lt g3)]
      generalize cm_tg σ (cm_R σ b i) = t at g1 g2
      unfold cp_asg
      rw [Nat.blt_eq.mpr g1, Nat.blt_eq.mpr g2]; rfl
  · show cm_u1 _ (cm_nx σ) (cm_cpy _ _ _ _ _) (cm_nx σ) j = _
    rw [u1_at]
    unfold cm_cpy
    by_cases q : j < m
    · rw [if_pos ⟨(by omega), (by omega)⟩, if_pos q]; congr 1; omega
    · rw [if_neg (fun z => q (by omega)), if_neg q]
end
