/-! JDK: ArrayList.add -/
section
variable {d l b c : Nat} {xs : List Nat} {σ : cm_S} {Q : cm_O → Prop}
theorem get_app {α : Type} {xs : List α} {x y : α} {i : Nat} (h : (xs ++ [x])[i]? = some y) : xs[i]? = some y ∨ (i = xs.length ∧ y = x) := by
  by_cases q : i < xs.length
  · rw [List.getElem?_append_left q] at h; exact Or.inl h
  · rw [List.getElem?_append_right (by omega)] at h
    by_cases e : i - xs.length = 0
    · rw [e] at h
      exact Or.inr ⟨(by omega), (Option.some.inj h).symm⟩
    · rw [List.getElem?_eq_none (by simp; omega)] at h; cases h
/-- room is there -/
theorem l_add1 (h0 : ls σ l b c xs) {x : Nat} (hx : 0 < cm_tg σ x ∧ cm_tg σ x < 32) (hc : xs.length < c) (hd : 3 ≤ d) (h : ∀ σ2, ls σ2 l b c (xs ++ [x]) → fr (fun x => x = l) (fun x => x = b) 0 σ σ2 → Q (false, .int (zi 1), σ2)) : wp_c d 457 [.ref l, .ref x] σ Q := by
  obtain ⟨⟨t1, r1, t2, l2, a1, b1, c1⟩, i1, hn, hr, hz⟩ := h0
  have hlb : l ≠ b := fun e => by rw [e, t2] at t1; cases t1
  refine k457 (by omega) ⟨t1, a1, ?_⟩
  rintro _ rfl
  have e2 : ∀ v, cm_I (cm_pI σ l 0 v) l 2 = zi (xs.length : Nat) := fun v => (u2_nj _ _ _ _ _ (by decide)).trans i1
  rw [e2, show ∀ v, cm_R (cm_pI σ l 0 v) l 1 = b from fun _ => r1]
  refine k459 (by omega) ⟨by show 100 < cm_tg σ b; rw [t2]; decide, fun z => ?_, fun _ => ⟨by show 104 < cm_tg σ b; rw [t2]; decide, zn_in (by show _ < cm_ln σ b; rw [l2]; omega) (by show cm_ln σ b ≤ _; rw [l2]; omega), b1, Or.inr ?_, ?_⟩⟩
  · have z : zi (xs.length : Nat) = Int32.ofNat (cm_ln σ b) := z
    rw [l2, zi_ofNat, zi_eq (by omega) (by omega) (by omega) (by omega)] at z; omega
  · show cp_asg (cm_tg σ b) (cm_tg σ x) = true
    rw [t2]
    generalize cm_tg σ x = t at hx
    unfold cp_asg
    rw [Nat.blt_eq.mpr hx.1, Nat.blt_eq.mpr hx.2]; rfl
  · rintro _ rfl
    refine ⟨t1, a1, ?_⟩
    rintro _ rfl
    rw [zn_ix (by omega), zn_a xs.length 1 1 rfl]
    refine ⟨rfl, h _ ⟨⟨t1, (u2_ne _ _ _ _ hlb _).trans r1, t2, l2, a1, b1, c1⟩, (u2_same _ _ _ _).trans (by rw [List.length_append]; rfl), by rw [List.length_append]; exact hc, fun i y hy => ?_, fun i hi => ?_⟩ ?_⟩
    · show cm_u2 (cm_R σ) b xs.length x b i = y
      rw [u2_at]
      rcases get_app hy with g | ⟨g1, g2⟩
      · rw [if_neg (Nat.ne_of_lt (List.getElem?_eq_some_iff.mp g).1)]; exact hr i y g
      · rw [if_pos g1]; exact g2.symm
    · show cm_u2 (cm_R σ) b xs.length x b i = 0
      rw [List.length_append] at hi
      have hi : xs.length + 1 ≤ i := hi
      rw [u2_at, if_neg (by omega)]
      exact hz i (by omega)
    · exact ((fr_pI (X := fun x => x = l) (Y := fun x => x = b) (Or.inl rfl)).tr_ (fr_pR (Or.inl rfl))).tr_ (fr_pI (Or.inl rfl))
end
