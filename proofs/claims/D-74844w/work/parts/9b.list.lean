/-! JDK: ArrayList. ls σ l b c xs: at l lies the list xs, with the array b of c places -/
def ls (σ : cm_S) (l b c : Nat) (xs : List Nat) : Prop := (cm_tg σ l = 25 ∧ cm_R σ l 1 = b ∧ cm_tg σ b = 105 ∧ cm_ln σ b = c ∧ 322 ≤ l ∧ 322 ≤ b ∧ c ≤ 20) ∧ cm_I σ l 2 = zi (xs.length : Nat) ∧ xs.length ≤ c ∧ (∀ (i x : Nat), xs[i]? = some x → cm_R σ b i = x) ∧ ∀ i, xs.length ≤ i → cm_R σ b i = 0
section
variable {d l b c : Nat} {xs : List Nat} {σ : cm_S} {Q : cm_O → Prop}
theorem l_size (h0 : ls σ l b c xs) (hd : 1 ≤ d) (h : Q (false, .int (zi (xs.length : Nat)), σ)) : wp_c d 470 [.ref l] σ Q :=
  k470 hd ⟨h0.1.1, by rw [h0.2.1]; exact h⟩
theorem l_at (h0 : ls σ l b c xs) {i x : Nat} (hx : xs[i]? = some x) (hd : 1 ≤ d) (h : Q (false, .ref x, σ)) : wp_c d 461 [.ref l, .int (zi (i : Int))] σ Q := by
  obtain ⟨⟨t1, r1, t2, l2, a1, b1, c1⟩, i1, hn, hr⟩ := h0
  have hi : i < xs.length := (List.getElem?_eq_some_iff.mp hx).1
  refine k461 hd ⟨t1, by rw [r1, t2]; decide, by rw [r1, l2]; exact zn_in (by omega) (by omega), ?_⟩
  rw [r1, zn_ix (by omega), hr.1 i x hx]
  exact h
theorem l_get (h0 : ls σ l b c xs) {i x : Nat} (hx : xs[i]? = some x) (hd : 4 ≤ d) (h : Q (false, .ref x, σ)) : wp_c d 463 [.ref l, .int (zi (i : Int))] σ Q := by
  have hi : i < xs.length := (List.getElem?_eq_some_iff.mp hx).1
  have hn := h0.2.2.1
  have hc := h0.1.2.2.2.2.2.2
  refine k463 (by omega) ⟨h0.1.1, ?_⟩
  rw [h0.2.1]
  exact k605 (by omega) (s_pre hi (by omega) (by omega) ⟨_, _, rfl, _, _, rfl, h0.1.1, l_at h0 hx (by omega) ⟨_, _, rfl, h⟩⟩)
end
