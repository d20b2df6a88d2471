/-! JDK: the iterator of an ArrayList -/
def itr (σ : cm_S) (t l n : Nat) : Prop := cm_tg σ t = 31 ∧ cm_R σ t 3 = l ∧ cm_I σ t 0 = zi (n : Nat) ∧ cm_I σ t 2 = cm_I σ l 0 ∧ 322 ≤ t
section
variable {d l b c t n : Nat} {xs : List Nat} {σ : cm_S} {Q : cm_O → Prop}
theorem l_iter (h0 : ls σ l b c xs) (hl : l < cm_nx σ) (hd : 4 ≤ d) (h : ∀ σ2, (∀ X Y, fr X Y 1 σ σ2) → cm_nx σ2 = cm_nx σ + 1 → itr σ2 (cm_nx σ) l 0 → Q (false, .ref (cm_nx σ), σ2)) : wp_c d 467 [.ref l] σ Q := by
  have h322 := h0.1.2.2.2.2.1
  have hne : l ≠ cm_nx σ := (by omega)
  refine k467 (by omega) ?_
  rintro _ rfl
  have e1 : cm_tg (cm_al σ 31 4) (cm_nx σ) = 31 := u1_at _ _ _
  have e2 : cm_tg (cm_al σ 31 4) l = 25 := (u1_ne _ _ hne).trans h0.1.1
  refine k603 (by omega) ⟨e1, (show 322 ≤ cm_nx σ from (by omega)), ?_⟩
  rintro _ rfl
  rintro _ rfl
  have er : ∀ σ', cm_R (cm_pI (cm_pR σ' (cm_nx σ) 3 l) (cm_nx σ) 1 (zi (-1))) (cm_nx σ) 3 = l := fun _ => u2_same _ _ _ _
  rw [er]
  refine ⟨e2, ?_⟩
  rintro _ rfl
  refine ⟨rfl, h _ (fun X Y => fr_tr (n := 1) (m := 0) (fr_al (by omega) (by omega)) (((fr_pR (X := fun x => x = cm_nx σ) (Y := fun x => x = cm_nx σ) (Or.inl rfl)).tr_ (fr_pI (Or.inl rfl))).tr_ (fr_pI (Or.inl rfl))) (fun _ hb z => absurd z (Nat.ne_of_lt hb)) (fun _ hb z => absurd z (Nat.ne_of_lt hb))) rfl ⟨e1, er _, ?_, ?_, (by omega)⟩⟩
  · show cm_u2 (cm_u2 (cm_I (cm_al σ 31 4)) _ 1 _) _ 2 _ (cm_nx σ) 0 = _
    rw [u2_nj _ _ _ _ _ (by decide), u2_nj _ _ _ _ _ (by decide)]
    exact congrFun (u1_at _ _ _) 0
  · show cm_u2 (cm_u2 (cm_I (cm_al σ 31 4)) _ 1 _) _ 2 _ (cm_nx σ) 2 = cm_u2 (cm_u2 (cm_I (cm_al σ 31 4)) _ 1 _) _ 2 _ l 0
    rw [u2_same, u2_ne _ _ _ _ hne]; rfl
theorem i_has (h0 : ls σ l b c xs) (hi : itr σ t l n) (hn : n ≤ xs.length) (hd : 1 ≤ d) (h : Q (false, .int (bz (decide (n < xs.length))), σ)) : wp_c d 602 [.ref t] σ Q := by
  obtain ⟨g1, g2, g3, g4, g5⟩ := hi
  have hc := h0.1.2.2.2.2.2.2
  have hx := h0.2.2.1
  refine k602 hd ⟨g1, by rw [g2]; exact h0.1.1, fun z => ?_, fun z => ?_⟩
  · rw [g2, g3, h0.2.1, zi_eq (by omega) (by omega) (by omega) (by omega)] at z
    rw [decide_eq_false (by omega)] at h; exact h
  · rw [g2, g3, h0.2.1, zi_eq (by omega) (by omega) (by omega) (by omega)] at z
    rw [decide_eq_true (by omega)] at h; exact h
theorem i_next (h0 : ls σ l b c xs) (hi : itr σ t l n) {x : Nat} (hx : xs[n]? = some x) (hd : 3 ≤ d) (h : ∀ σ2, fr (fun x => x = t) no_ 0 σ σ2 → itr σ2 t l (n + 1) → ls σ2 l b c xs → Q (false, .ref x, σ2)) : wp_c d 604 [.ref t] σ Q := by
  obtain ⟨g1, g2, g3, g4, g5⟩ := hi
  obtain ⟨⟨t1, r1, t2, l2, a1, b1, c1⟩, i1, hn, hr⟩ := h0
  have hi : n < xs.length := (List.getElem?_eq_some_iff.mp hx).1
  have hlt : l ≠ t := fun e => by rw [e, g1] at t1; cases t1
  refine k604 (by omega) ⟨g1, k601 (by omega) ⟨g1, by rw [g2]; exact t1, fun _ => ⟨rfl, ?_⟩, fun z => ?_⟩⟩
  · simp only [g2, g3, r1, i1]
    refine ⟨g1, t1, fun _ => ⟨by rw [t2]; decide, fun _ => ⟨g5, ?_⟩, fun z => ?_⟩, fun z => ?_⟩
    · rintro _ rfl
      rintro _ rfl
      rw [zn_ix (by omega)]
      refine ⟨by show 104 < cm_tg σ b; rw [t2]; decide, zn_in (by show _ < cm_ln σ b; rw [l2]; omega) (by show cm_ln σ b ≤ _; rw [l2]; omega), ?_⟩
      have hf : fr (fun x => x = t) no_ 0 σ (cm_pI (cm_pI σ t 0 (zi (n : Int) + zi 1)) t 1 (zi (n : Int))) := (fr_pI (X := fun x => x = t) (Y := no_) (Or.inl rfl)).tr_ (fr_pI (Or.inl rfl))
      have := h _ hf ⟨g1, g2, ?_, ?_, g5⟩ ⟨⟨t1, r1, t2, l2, a1, b1, c1⟩, ?_, hn, hr⟩
      · rw [← hr.1 n x hx] at this; exact this
      · show cm_u2 (cm_u2 (cm_I σ) t 0 _) t 1 _ t 0 = _
        rw [u2_nj _ _ _ _ _ (by decide), u2_same, zn_a n 1 1 rfl]
      · show cm_u2 (cm_u2 (cm_I σ) t 0 _) t 1 _ t 2 = cm_u2 (cm_u2 (cm_I σ) t 0 _) t 1 _ l 0
        rw [u2_nj _ _ _ _ _ (by decide), u2_nj _ _ _ _ _ (by decide), u2_ne _ _ _ _ hlt, u2_ne _ _ _ _ hlt]
        exact g4
      · show cm_u2 (cm_u2 (cm_I σ) t 0 _) t 1 _ l 2 = _
        rw [u2_ne _ _ _ _ hlt, u2_ne _ _ _ _ hlt]
        exact i1
    · rw [l2, zi_ofNat, zi_lt (by omega) (by omega) (by omega) (by omega)] at z; omega
    · rw [zi_lt (by omega) (by omega) (by omega) (by omega)] at z; omega
  · rw [g2] at z; exact z g4.symm
end
