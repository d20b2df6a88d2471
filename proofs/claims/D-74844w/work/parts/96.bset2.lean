/-! JDK: BitSet.nextSetBit, cardinality -/
theorem least_ {P : Nat → Bool} : ∀ n, (∃ i, i < n ∧ P i = true) → ∃ t, t < n ∧ P t = true ∧ ∀ i, i < t → P i = false
  | 0, ⟨_, h, _⟩ => absurd h (Nat.not_lt_zero _)
  | n + 1, ⟨i, h, hp⟩ => by
    by_cases c : ∃ i, i < n ∧ P i = true
    · obtain ⟨t, h1, h2, h3⟩ := least_ n c
      exact ⟨t, (by omega), h2, h3⟩
    · have hn : ∀ j, j < n → P j = false := fun j hj => by
        cases e : P j with
        | false => rfl
        | true => exact absurd ⟨j, hj, e⟩ c
      have : i = n := by
        refine Nat.le_antisymm (by omega) (Nat.le_of_not_lt fun z => ?_)
        rw [hn i z] at hp; cases hp
      exact ⟨i, (by omega), hp, fun j hj => hn j (by omega)⟩
theorem lb_low {w : Int64} (h : w ≠ zl 0) : ∃ t, t < 64 ∧ lb w t = true ∧ ∀ i, i < t → lb w i = false := by
  refine least_ 64 ?_
  by_cases c : ∃ i, i < 64 ∧ lb w i = true
  · exact c
  · refine absurd (lb_ext fun i hi => ?_) h
    rw [lb_0]
    cases e : lb w i with
    | false => rfl
    | true => exact absurd ⟨i, hi, e⟩ c
theorem lb_hm : ∀ j, j < 64 → ∀ i, i < 64 → lb (zl (-1) <<< ((zi (j : Nat)).toInt64 &&& 63)) i = decide (j ≤ i) := by decide +kernel
section
variable {d a w m : Nat} {f : Nat → Bool} {σ : cm_S} {Q : cm_O → Prop}
theorem bs_next (h0 : bs σ a w m f) {k : Nat} (hk : k < 256) (hd : 4 ≤ d) (h1 : ∀ t : Nat, k ≤ t → t < 256 → f t = true → (∀ i, k ≤ i → i < t → f i = false) → Q (false, .int (zi (t : Int)), σ)) (h2 : (∀ i, k ≤ i → f i = false) → Q (false, .int (zi (-1)), σ)) : wp_c d 500 [.ref a, .int (zi (k : Int))] σ Q := by
  obtain ⟨⟨t1, r1, t2, l2, a1, w1, m4⟩, u, i1, um, ut, u0, uf⟩ := h0
  have hz : ∀ i, u ≤ i / 64 → f i = false := fun i hi => by rw [uf, u0 _ hi, lb_0]
  have key : ∀ n j : Nat, ∀ v : Int64, j + n = u → j < u → k / 64 ≤ j → (∀ i, i < 64 → lb v i = (decide (k ≤ 64 * j + i) && lb (cm_L σ w j) i)) → (∀ i, k ≤ i → i < 64 * j → f i = false) → wp_r (d - 1) 500 (63, [.ref a, .int (zi (k : Int)), .int (zi (j : Int)), .long v, .retAddr 0], [], σ) Q := by
    intro n
    induction n with
    | zero => intro j v e hj _ _ _; omega
    | succ n ih =>
      intro j v e hj hkj hv hb
      refine k500_63 (by omega) ⟨fun z => ⟨t1, fun z2 => ?_, fun z2 => ?_⟩, fun z => ?_⟩
      · rw [i1, zn_a j 1 1 rfl, zi_eq (by omega) (by omega) (by omega) (by omega)] at z2
        refine h2 fun i hi => ?_
        by_cases c : i < 64 * j
        · exact hb i hi c
        · by_cases c2 : u ≤ i / 64
          · exact hz i c2
          · have e : i / 64 = j := (by omega)
            have g := hv (i % 64) (Nat.mod_lt _ (by decide))
            rw [z, lb_0, decide_eq_true (by omega), Bool.true_and] at g
            rw [uf, e]; exact g.symm
      · rw [i1, zn_a j 1 1 rfl, zi_eq (by omega) (by omega) (by omega) (by omega)] at z2
        rw [r1, zn_a j 1 1 rfl, zn_ix (by omega)]
        have hj2 : j + 1 < u := (by omega)
        have hb2 : ∀ i, k ≤ i → i < 64 * (j + 1) → f i = false := fun i hi h64 => by
          by_cases c : i < 64 * j
          · exact hb i hi c
          · have e : i / 64 = j := (by omega)
            have g := hv (i % 64) (Nat.mod_lt _ (by decide))
            rw [z, lb_0, decide_eq_true (by omega), Bool.true_and] at g
            rw [uf, e]; exact g.symm
        refine ⟨t2, by rw [l2]; exact zn_in (by omega) (by omega), ih (j + 1) _ (by omega) hj2 (by omega) (fun i hi => ?_) hb2⟩
        rw [decide_eq_true (by omega), Bool.true_and]
      · obtain ⟨t, ht, hl, hn⟩ := lb_low z
        refine j_ntz ht hl hn (by omega) ⟨_, _, rfl, ?_⟩
        show Q (false, .int (zi (j : Int) * zi 64 + zi (t : Int)), σ)
        rw [zi_mul, zi_add, show (j : Int) * 64 + (t : Int) = ((64 * j + t : Nat) : Int) from (by omega)]
        have g := hv t ht
        rw [hl] at g
        have hkt : k ≤ 64 * j + t := by
          refine Nat.le_of_not_lt fun c => ?_
          rw [decide_eq_false (by omega)] at g; cases g
        rw [decide_eq_true hkt, Bool.true_and] at g
        have e1 : (64 * j + t) / 64 = j := (by omega)
        have e2 : (64 * j + t) % 64 = t := (by omega)
        refine h1 _ hkt (by omega) (by rw [uf, e1, e2]; exact g.symm) (fun i hi h64 => ?_)
        by_cases c : i < 64 * j
        · exact hb i hi c
        · have e : i / 64 = j := (by omega)
          have g := hv (i % 64) (Nat.mod_lt _ (by decide))
          rw [hn _ (by omega), decide_eq_true (by omega), Bool.true_and] at g
          rw [uf, e]; exact g.symm
  refine k500 (by omega) ⟨fun z => ?_, fun _ => ⟨t1, b_inv (by omega) ⟨rfl, ?_⟩⟩⟩
  · rw [zi_lt (by omega) (by omega) (by omega) (by omega)] at z; omega
  refine k504 (by omega) ⟨_, _, rfl, ?_⟩
  simp only [sh_6 k hk, i1, r1]
  refine ⟨t1, fun z => ?_, fun z => ?_⟩
  · rw [zi_lt (by omega) (by omega) (by omega) (by omega)] at z
    rw [zn_ix (by omega)]
    refine ⟨t2, by rw [l2]; exact zn_in (by omega) (by omega), key (u - k / 64) (k / 64) _ (by omega) (by omega) (Nat.le_refl _) (fun i hi => ?_) (fun i h1 h2 => (by omega))⟩
    rw [lb_and, sh_63 k hk, lb_hm _ (Nat.mod_lt _ (by decide)) i hi, Bool.and_comm]
    congr 1
    exact decide_eq_decide.mpr ⟨fun _ => (by omega), fun _ => (by omega)⟩
  · rw [zi_lt (by omega) (by omega) (by omega) (by omega)] at z
    exact h2 fun i hi => hz i (by omega)
/-- how many -/
theorem bs_card (h0 : bs σ a w m f) (hd : 3 ≤ d) (h : Q (false, .int (zi ((cnt f 256 : Nat) : Int)), σ)) : wp_c d 490 [.ref a] σ Q := by
  obtain ⟨⟨t1, r1, t2, l2, a1, w1, m4⟩, u, i1, um, ut, u0, uf⟩ := h0
  have key : ∀ n j : Nat, j + n = u → wp_r (d - 1) 490 (4, [.ref a, .int (zi ((cnt f (64 * j) : Nat) : Int)), .int (zi (j : Int))], [], σ) Q := by
    intro n
    induction n with
    | zero =>
      intro j e
      refine k490_4 (by omega) ⟨t1, fun z => ?_, fun _ => ?_⟩
      · rw [i1, zi_lt (by omega) (by omega) (by omega) (by omega)] at z; omega
      · have : cnt f 256 = cnt f (64 * j) := by
          rw [show 256 = 64 * j + (256 - 64 * j) from (by omega), cnt_split]
          have e0 : ∀ n, cnt (fun i => f (64 * j + i)) n = 0 := fun n => by
            induction n with
            | zero => rfl
            | succ n ih =>
              show cnt _ n + (if f (64 * j + n) = true then 1 else 0) = 0
              rw [ih, uf, u0 _ (by omega), lb_0]; rfl
          rw [e0]; rfl
        rw [this] at h; exact h
    | succ n ih =>
      intro j e
      refine k490_4 (by omega) ⟨t1, fun z => ?_, fun z => ?_⟩
      · rw [r1, zn_ix (by omega)]
        refine ⟨t2, by rw [l2]; exact zn_in (by omega) (by omega), j_popc _ (by omega) ⟨_, _, rfl, ?_⟩⟩
        have hc : cnt f (64 * (j + 1)) = cnt f (64 * j) + cnt (lb (cm_L σ w j)) 64 := by
          rw [show 64 * (j + 1) = 64 * j + 64 from (by omega), cnt_split]
          congr 1
          refine cnt_cg 64 fun i hi => ?_
          rw [uf, show (64 * j + i) / 64 = j from (by omega), show (64 * j + i) % 64 = i from (by omega)]
        have := ih (j + 1) (by omega)
        rw [hc] at this
        show wp_r (d - 1) 490 (4, [.ref a, .int (zi _ + zi _), .int (zi (j : Int) + zi 1)], [], σ) Q
        rw [zi_add, zn_a j 1 1 rfl]
        exact this
      · rw [i1, zi_lt (by omega) (by omega) (by omega) (by omega)] at z; omega
  exact k490 (by omega) (key u 0 (by omega))
end
