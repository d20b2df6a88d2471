/-! JDK: String.equals -/
section
variable {d a b : Nat} {xs ys : List Nat} {σ : cm_S} {Q : cm_O → Prop}
theorem by_inj {v w : Nat} (hl : xs.length = ys.length) (hx : ∀ (i x : Nat), xs[i]? = some x → cm_I σ v i = sb x ∧ x < 256) (hy : ∀ (i x : Nat), ys[i]? = some x → cm_I σ w i = sb x ∧ x < 256) (he : ∀ i, i < xs.length → cm_I σ v i = cm_I σ w i) : xs = ys := by
  refine List.ext_getElem? fun i => ?_
  by_cases q : i < xs.length
  · obtain ⟨x, ex⟩ : ∃ x, xs[i]? = some x := ⟨_, List.getElem?_eq_getElem q⟩
    obtain ⟨y, ey⟩ : ∃ y, ys[i]? = some y := ⟨_, List.getElem?_eq_getElem (show i < ys.length from (by omega))⟩
    obtain ⟨g1, g2⟩ := hx i x ex
    obtain ⟨k1, k2⟩ := hy i y ey
    have := he i q
    rw [g1, k1] at this
    rw [ex, ey, sb_inj x g2 y k2 this]
  · rw [List.getElem?_eq_none (by omega), List.getElem?_eq_none (by omega)]
theorem str_inj (h : isStr σ a xs) (h2 : isStr σ a ys) : xs = ys := by
  obtain ⟨_, _, _, l1, _, e1⟩ := h
  obtain ⟨_, _, _, l2, _, e2⟩ := h2
  exact by_inj (l1.symm.trans l2) e1 e2 (fun _ _ => rfl)
theorem s_eq8 (h0 : isStr σ a xs) (h1 : isStr σ b ys) (hd : 1 ≤ d) (h : Q (false, .int (bz (decide (xs = ys))), σ)) : wp_c d 523 [.ref (cm_R σ a 0), .ref (cm_R σ b 0)] σ Q := by
  obtain ⟨_, _, t1, l1, n1, e1⟩ := h0
  obtain ⟨_, _, t2, l2, n2, e2⟩ := h1
  have key : ∀ n i : Nat, i + n = xs.length → xs.length = ys.length → (∀ j, j < i → cm_I σ (cm_R σ a 0) j = cm_I σ (cm_R σ b 0) j) → wp_r (d - 1) 523 (9, [.ref (cm_R σ a 0), .ref (cm_R σ b 0), .int (zi (i : Int))], [], σ) Q := by
    intro n
    induction n with
    | zero =>
      intro i e hl hj
      refine k523_9 ⟨by rw [t1]; decide, fun z => ?_, fun _ => ?_⟩
      · rw [l1, zi_ofNat, zi_lt (by omega) (by omega) (by omega) (by omega)] at z; omega
      · rw [decide_eq_true (by_inj hl e1 e2 fun i hi => hj i (by omega))] at h; exact h
    | succ n ih =>
      intro i e hl hj
      refine k523_9 ⟨by rw [t1]; decide, fun _ => ⟨t1, by rw [l1]; exact zn_in (by omega) (by omega), t2, by rw [l2]; exact zn_in (by omega) (by omega), fun z => ?_, fun z => ?_⟩, fun z => ?_⟩
      · rw [zn_ix (by omega)] at z
        rw [zn_a i 1 1 rfl]
        exact ih (i + 1) (by omega) hl fun j hj2 => by
          by_cases q : j = i
          · rw [q]; exact z
          · exact hj j (by omega)
      · rw [zn_ix (by omega)] at z
        have : xs ≠ ys := fun q => by
          subst q
          obtain ⟨x, ex⟩ : ∃ x, xs[i]? = some x := ⟨_, List.getElem?_eq_getElem (show i < xs.length from (by omega))⟩
          exact z ((e1 i x ex).1.trans (e2 i x ex).1.symm)
        rw [decide_eq_false this] at h; exact h
      · rw [l1, zi_ofNat, zi_lt (by omega) (by omega) (by omega) (by omega)] at z; omega
  refine k523 hd ⟨by rw [t1]; decide, by rw [t2]; decide, fun z => ?_, fun z => ?_⟩
  · rw [l1, l2, zi_ofNat, zi_ofNat, zi_eq (by omega) (by omega) (by omega) (by omega)] at z
    exact key xs.length 0 (by omega) (by omega) (fun j hj => absurd hj (Nat.not_lt_zero j))
  · have : xs ≠ ys := fun q => z (by rw [l1, l2, q])
    rw [decide_eq_false this] at h; exact h
theorem s_equals (h0 : isStr σ a xs) (h1 : isStr σ b ys) (hab : cm_ac a b) (hb : b ≠ 0) (hd : 2 ≤ d) (h : Q (false, .int (bz (decide (xs = ys))), σ)) : wp_c d 512 [.ref a, .ref b] σ Q := by
  refine k512 hd ⟨hab, fun z => ?_, fun _ => ⟨fun z => absurd z hb, fun _ => ⟨true, by rw [h1.1]; decide, fun _ => ⟨Or.inr (by rw [h1.1]; decide), h0.1, h1.1, fun _ => ?_, fun z => ?_⟩, fun z => absurd rfl z⟩⟩⟩
  · subst z
    rw [decide_eq_true (str_inj h0 h1)] at h; exact h
  · refine s_eq8 h0 h1 (by omega) ⟨_, _, rfl, fun z => ?_, fun z => ?_⟩
    · rw [bz_0] at z; rw [z] at h; exact h
    · rw [bz_0, Bool.not_eq_false] at z; rw [z] at h; exact h
  · exact absurd (h0.2.1.trans h1.2.1.symm) z
end
