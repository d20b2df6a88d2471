/-! ENGINE: row change and renamer, their leaves -/
section
variable {G : Nat → Prop} {σ : cm_S} {v d : Nat} {Q : cm_O → Prop}
def rcS (v : Nat) (ins : Bool) (b : Nat) (σ : cm_S) (k : Nat) : Prop := cm_tg σ v = 21 ∧ cm_I σ v 0 = zi (b : Int) ∧ cm_I σ v 1 = bz ins ∧ cm_I σ v 2 = zi (k : Int) ∧ b < 20
theorem rcS_k (ins : Bool) (b : Nat) : vsk G v (rcS v ins b) := fun σ σ2 k n X Y h hn hf hx hy _ _ => by
  obtain ⟨a1, a2, a3, a4, a5⟩ := h
  have e := hf.I hn hx
  exact ⟨(hf.tg hn).trans a1, by rw [e]; exact a2, by rw [e]; exact a3, by rw [e]; exact a4, a5⟩
/-- rows of a range: first and last -/
theorem e_changes {ins : Bool} {b k f g : Nat} (hv : rcS v ins b σ k) (v46 : 322 ≤ v) (hf : f ≤ g) (hg : g < 20) (hd : 1 ≤ d)
    (h1 : rng ins b f g = none → ∀ σ2, fr (fun x => x = v) no_ 0 σ σ2 → rcS v ins b σ2 k → Q (false, .int (zi 0), σ2))
    (h2 : ∀ lo up, rng ins b f g = some (lo, up) → lo ≤ up → up < 20 → ∀ σ2, fr (fun x => x = v) no_ 0 σ σ2 → rcS v ins b σ2 k → cm_I σ2 v 3 = zi (lo : Int) → cm_I σ2 v 4 = zi (up : Int) → Q (false, .int (zi 1), σ2)) : wp_c d 439 [.ref v, .int (zi (f : Int)), .int (zi (g : Int))] σ Q := by
  obtain ⟨t0, i0, i1, i2, hb⟩ := hv
  have fin : ∀ (lo up : Int) (x : Int32), x = bz (decide (rng ins b f g ≠ none)) → (∀ l u, rng ins b f g = some (l, u) → lo = l ∧ up = u) → ∀ σ2, fr (fun x => x = v) no_ 0 σ σ2 → cm_tg σ2 v = 21 → cm_I σ2 v 0 = zi (b : Int) → cm_I σ2 v 1 = bz ins → cm_I σ2 v 2 = zi (k : Int) → cm_I σ2 v 3 = zi lo → cm_I σ2 v 4 = zi up → Q (false, .int x, σ2) := fun lo up x ex hl σ2 f2 c1 c2 c3 c4 c5 c6 => by
    cases q : rng ins b f g with
    | none =>
      rw [q] at ex
      rw [ex]
      exact h1 q σ2 f2 ⟨c1, c2, c3, c4, hb⟩
    | some lu =>
      obtain ⟨l, u⟩ := lu
      rw [q] at ex
      obtain ⟨e1, e2⟩ := hl l u q
      have := rng_lt hb hf hg q
      rw [ex]
      exact h2 l u q this.1 this.2 σ2 f2 ⟨c1, c2, c3, c4, hb⟩ (by rw [c5, e1]) (by rw [c6, e2])
  have rd : ∀ x y, cm_I (cm_pI (cm_pI (cm_pI (cm_pI σ v 3 (zi (f : Int))) v 4 (zi (g : Int))) v 3 x) v 4 y) v 0 = zi (b : Int) ∧ cm_I (cm_pI (cm_pI (cm_pI (cm_pI σ v 3 (zi (f : Int))) v 4 (zi (g : Int))) v 3 x) v 4 y) v 1 = bz ins ∧ cm_I (cm_pI (cm_pI (cm_pI (cm_pI σ v 3 (zi (f : Int))) v 4 (zi (g : Int))) v 3 x) v 4 y) v 2 = zi (k : Int) ∧ cm_I (cm_pI (cm_pI (cm_pI (cm_pI σ v 3 (zi (f : Int))) v 4 (zi (g : Int))) v 3 x) v 4 y) v 3 = x ∧ cm_I (cm_pI (cm_pI (cm_pI (cm_pI σ v 3 (zi (f : Int))) v 4 (zi (g : Int))) v 3 x) v 4 y) v 4 = y := fun x y => by
    simp only [pI_at, pI_nj _ _ _ _ (show 0 ≠ 3 by decide), pI_nj _ _ _ _ (show 0 ≠ 4 by decide), pI_nj _ _ _ _ (show 1 ≠ 3 by decide), pI_nj _ _ _ _ (show 1 ≠ 4 by decide), pI_nj _ _ _ _ (show 2 ≠ 3 by decide), pI_nj _ _ _ _ (show 2 ≠ 4 by decide), pI_nj _ _ _ _ (show 3 ≠ 4 by decide), pI_nj _ _ _ _ (show 4 ≠ 3 by decide), i0, i1, i2, zi_add, zi_sub]
    exact ⟨trivial, trivial, trivial, trivial, trivial⟩
  have fr4 : ∀ x y, fr (fun x => x = v) no_ 0 σ (cm_pI (cm_pI (cm_pI (cm_pI σ v 3 (zi (f : Int))) v 4 (zi (g : Int))) v 3 x) v 4 y) := fun x y => ((((fr_pI (X := fun x => x = v) (Y := no_) (Or.inl rfl)).tr_ (fr_pI (Or.inl rfl))).tr_ (fr_pI (Or.inl rfl))).tr_ (fr_pI (Or.inl rfl)))
  have done : ∀ (lo up : Int) (x : Int32), x = bz (decide (rng ins b f g ≠ none)) → (∀ l u, rng ins b f g = some (l, u) → lo = l ∧ up = u) → Q (false, .int x, cm_pI (cm_pI (cm_pI (cm_pI σ v 3 (zi (f : Int))) v 4 (zi (g : Int))) v 3 (zi lo)) v 4 (zi up)) := fun lo up x ex hl => by
    obtain ⟨c1, c2, c3, c4, c5⟩ := rd (zi lo) (zi up)
    exact fin lo up x ex hl _ (fr4 _ _) t0 c1 c2 c3 c4 c5
  have nn0 : ∀ {x : Option (Nat × Nat)}, x = none → zi 0 = bz (decide (x ≠ none)) := fun e => by rw [e]; rfl
  have nn1 : ∀ {x : Option (Nat × Nat)}, x ≠ none → zi 1 = bz (decide (x ≠ none)) := fun e => by rw [decide_eq_true e]; rfl
  cases ins with
  | false =>
    have p3 : ∀ s s2 : Int, (s = if b < f then 1 else 0) → (s2 = if g < b then 0 else 1) → wp_r (d - 1) 439 (137, [.ref v, .int (zi (f : Int)), .int (zi (g : Int))], [.int (zi s2), .int (zi (g : Int)), .ref v], cm_pI (cm_pI (cm_pI σ v 3 (zi (f : Int))) v 4 (zi (g : Int))) v 3 (zi ((f : Int) - s))) Q := fun s s2 es e2 => by
      have er : rng false b f g = (if (if g < b then (g : Int) else (g : Int) - 1) < (if b < f then (f : Int) - 1 else f) then none else some (if b < f then f - 1 else f, if g < b then g else g - 1)) := rfl
      have key : ∃ L U : Nat, rng false b f g = (if (g : Int) - s2 < (f : Int) - s then none else some (L, U)) ∧ (¬ ((g : Int) - s2 < (f : Int) - s) → (f : Int) - s = L ∧ (g : Int) - s2 = U) ∧ (s = 0 ∨ s = 1) ∧ (s2 = 0 ∨ s2 = 1) := by
        by_cases c1 : b < f
        · rw [if_pos c1] at es
          by_cases c2 : g < b
          · rw [if_pos c2] at e2
            exact ⟨f - 1, g, by rw [er, if_pos c2, if_pos c1, if_pos c1, if_pos c2, es, e2, Int.sub_zero], fun _ => (by omega), Or.inr es, Or.inl e2⟩
          · rw [if_neg c2] at e2
            exact ⟨f - 1, g - 1, by rw [er, if_neg c2, if_pos c1, if_pos c1, if_neg c2, es, e2], fun _ => (by omega), Or.inr es, Or.inr e2⟩
        · rw [if_neg c1] at es
          by_cases c2 : g < b
          · rw [if_pos c2] at e2
            exact ⟨f, g, by rw [er, if_pos c2, if_neg c1, if_neg c1, if_pos c2, es, e2, Int.sub_zero, Int.sub_zero], fun _ => (by omega), Or.inl es, Or.inl e2⟩
          · rw [if_neg c2] at e2
            exact ⟨f, g - 1, by rw [er, if_neg c2, if_neg c1, if_neg c1, if_neg c2, es, e2, Int.sub_zero], fun _ => (by omega), Or.inl es, Or.inr e2⟩
      obtain ⟨L, U, ek, el, hs, hs2⟩ := key
      refine k439_137 ⟨t0, v46, ?_⟩
      rintro _ rfl
      simp only [pI_at, pI_nj _ _ _ _ (show 0 ≠ 3 by decide), pI_nj _ _ _ _ (show 0 ≠ 4 by decide), pI_nj _ _ _ _ (show 1 ≠ 3 by decide), pI_nj _ _ _ _ (show 1 ≠ 4 by decide), pI_nj _ _ _ _ (show 2 ≠ 3 by decide), pI_nj _ _ _ _ (show 2 ≠ 4 by decide), pI_nj _ _ _ _ (show 3 ≠ 4 by decide), pI_nj _ _ _ _ (show 4 ≠ 3 by decide), i0, i1, i2, zi_add, zi_sub]
      refine ⟨t0, fun z => ?_, fun z => ?_⟩
      · rw [zi_lt (by omega) (by omega) (by omega) (by omega)] at z
        rw [if_pos z] at ek
        exact done _ _ _ (nn0 ek) (fun l u q => by rw [ek] at q; cases q)
      · rw [zi_lt (by omega) (by omega) (by omega) (by omega)] at z
        rw [if_neg z] at ek
        exact done _ _ _ (nn1 (by rw [ek]; exact fun q => by cases q)) (fun l u q => by rw [ek] at q; cases q; exact el z)
    have p2 : ∀ s : Int, (s = if b < f then 1 else 0) → wp_r (d - 1) 439 (112, [.ref v, .int (zi (f : Int)), .int (zi (g : Int))], [.int (zi s), .int (zi (f : Int)), .ref v], cm_pI (cm_pI σ v 3 (zi (f : Int))) v 4 (zi (g : Int))) Q := fun s es => by
      refine k439_112 ⟨t0, v46, ?_⟩
      rintro _ rfl
      simp only [pI_at, pI_nj _ _ _ _ (show 0 ≠ 3 by decide), pI_nj _ _ _ _ (show 0 ≠ 4 by decide), pI_nj _ _ _ _ (show 1 ≠ 3 by decide), pI_nj _ _ _ _ (show 1 ≠ 4 by decide), pI_nj _ _ _ _ (show 2 ≠ 3 by decide), pI_nj _ _ _ _ (show 2 ≠ 4 by decide), pI_nj _ _ _ _ (show 3 ≠ 4 by decide), pI_nj _ _ _ _ (show 4 ≠ 3 by decide), i0, i1, i2, zi_add, zi_sub]
      refine ⟨t0, fun z => ?_, fun z => ?_⟩
      · rw [zi_lt (by omega) (by omega) (by omega) (by omega)] at z
        exact p3 s 0 es (by rw [if_pos (by omega)])
      · rw [zi_lt (by omega) (by omega) (by omega) (by omega)] at z
        exact p3 s 1 es (by rw [if_neg (by omega)])
    refine k439 hd ⟨t0, v46, ?_⟩
    rintro _ rfl
    rintro _ rfl
    simp only [pI_at, pI_nj _ _ _ _ (show 0 ≠ 3 by decide), pI_nj _ _ _ _ (show 0 ≠ 4 by decide), pI_nj _ _ _ _ (show 1 ≠ 3 by decide), pI_nj _ _ _ _ (show 1 ≠ 4 by decide), pI_nj _ _ _ _ (show 2 ≠ 3 by decide), pI_nj _ _ _ _ (show 2 ≠ 4 by decide), pI_nj _ _ _ _ (show 3 ≠ 4 by decide), pI_nj _ _ _ _ (show 4 ≠ 3 by decide), i0, i1, i2, zi_add, zi_sub]
    refine ⟨fun _ => ⟨fun z => ?_, fun z => ?_⟩, fun z => absurd rfl z⟩
    · rw [zi_lt (by omega) (by omega) (by omega) (by omega)] at z
      exact p2 1 (by rw [if_pos (by omega)])
    · rw [zi_lt (by omega) (by omega) (by omega) (by omega)] at z
      exact p2 0 (by rw [if_neg (by omega)])
  | true =>
    have p3 : ∀ s s2 : Int, (s = if f < b then 0 else 1) → (s2 = if g < b then 0 else if g < 19 then 1 else 0) → wp_r (d - 1) 439 (72, [.ref v, .int (zi (f : Int)), .int (zi (g : Int))], [.int (zi s2), .int (zi (g : Int)), .ref v], cm_pI (cm_pI (cm_pI σ v 3 (zi (f : Int))) v 4 (zi (g : Int))) v 3 (zi ((f : Int) + s))) Q := fun s s2 es e2 => by
      have er : rng true b f g = (if (if f < b then f else f + 1) < 20 then some (if f < b then f else f + 1, min 19 (if g < b then g else g + 1)) else none) := rfl
      have key : ∃ L U : Nat, rng true b f g = (if L < 20 then some (L, U) else none) ∧ ((f : Int) + s = L ∧ (g : Int) + s2 = U) ∧ (s = 0 ∨ s = 1) ∧ (s2 = 0 ∨ s2 = 1) := by
        by_cases c1 : f < b
        · rw [if_pos c1] at es
          by_cases c2 : g < b
          · rw [if_pos c2] at e2
            exact ⟨f, min 19 g, by rw [er, if_pos c1, if_pos c2], (by omega), Or.inl es, Or.inl e2⟩
          · rw [if_neg c2] at e2
            by_cases c3 : g < 19
            · rw [if_pos c3] at e2
              exact ⟨f, min 19 (g + 1), by rw [er, if_pos c1, if_neg c2], (by omega), Or.inl es, Or.inr e2⟩
            · rw [if_neg c3] at e2
              exact ⟨f, min 19 (g + 1), by rw [er, if_pos c1, if_neg c2], (by omega), Or.inl es, Or.inl e2⟩
        · rw [if_neg c1] at es
          by_cases c2 : g < b
          · omega
          · rw [if_neg c2] at e2
            by_cases c3 : g < 19
            · rw [if_pos c3] at e2
              exact ⟨f + 1, min 19 (g + 1), by rw [er, if_neg c1, if_neg c2], (by omega), Or.inr es, Or.inr e2⟩
            · rw [if_neg c3] at e2
              exact ⟨f + 1, min 19 (g + 1), by rw [er, if_neg c1, if_neg c2], (by omega), Or.inr es, Or.inl e2⟩
      obtain ⟨L, U, ek, el, hs, hs2⟩ := key
      refine k439_72 ⟨t0, v46, ?_⟩
      rintro _ rfl
      simp only [pI_at, pI_nj _ _ _ _ (show 0 ≠ 3 by decide), pI_nj _ _ _ _ (show 0 ≠ 4 by decide), pI_nj _ _ _ _ (show 1 ≠ 3 by decide), pI_nj _ _ _ _ (show 1 ≠ 4 by decide), pI_nj _ _ _ _ (show 2 ≠ 3 by decide), pI_nj _ _ _ _ (show 2 ≠ 4 by decide), pI_nj _ _ _ _ (show 3 ≠ 4 by decide), pI_nj _ _ _ _ (show 4 ≠ 3 by decide), i0, i1, i2, zi_add, zi_sub]
      refine ⟨t0, fun z => ?_, fun z => ?_⟩
      · rw [zi_lt (by omega) (by omega) (by omega) (by omega)] at z
        rw [if_pos (by omega)] at ek
        exact done _ _ _ (nn1 (by rw [ek]; exact fun q => by cases q)) (fun l u q => by rw [ek] at q; cases q; exact el)
      · rw [zi_lt (by omega) (by omega) (by omega) (by omega)] at z
        rw [if_neg (by omega)] at ek
        exact done _ _ _ (nn0 ek) (fun l u q => by rw [ek] at q; cases q)
    have p2 : ∀ s : Int, (s = if f < b then 0 else 1) → wp_r (d - 1) 439 (38, [.ref v, .int (zi (f : Int)), .int (zi (g : Int))], [.int (zi s), .int (zi (f : Int)), .ref v], cm_pI (cm_pI σ v 3 (zi (f : Int))) v 4 (zi (g : Int))) Q := fun s es => by
      refine k439_38 ⟨t0, v46, ?_⟩
      rintro _ rfl
      simp only [pI_at, pI_nj _ _ _ _ (show 0 ≠ 3 by decide), pI_nj _ _ _ _ (show 0 ≠ 4 by decide), pI_nj _ _ _ _ (show 1 ≠ 3 by decide), pI_nj _ _ _ _ (show 1 ≠ 4 by decide), pI_nj _ _ _ _ (show 2 ≠ 3 by decide), pI_nj _ _ _ _ (show 2 ≠ 4 by decide), pI_nj _ _ _ _ (show 3 ≠ 4 by decide), pI_nj _ _ _ _ (show 4 ≠ 3 by decide), i0, i1, i2, zi_add, zi_sub]
      refine ⟨t0, fun z => ?_, fun z => ⟨fun y => ?_, fun y => ?_⟩⟩
      · rw [zi_lt (by omega) (by omega) (by omega) (by omega)] at z
        exact p3 s 0 es (by rw [if_pos (by omega)])
      · rw [zi_lt (by omega) (by omega) (by omega) (by omega)] at z y
        exact p3 s 1 es (by rw [if_neg (by omega), if_pos (by omega)])
      · rw [zi_lt (by omega) (by omega) (by omega) (by omega)] at z y
        exact p3 s 0 es (by rw [if_neg (by omega), if_neg (by omega)])
    refine k439 hd ⟨t0, v46, ?_⟩
    rintro _ rfl
    rintro _ rfl
    simp only [pI_at, pI_nj _ _ _ _ (show 0 ≠ 3 by decide), pI_nj _ _ _ _ (show 0 ≠ 4 by decide), pI_nj _ _ _ _ (show 1 ≠ 3 by decide), pI_nj _ _ _ _ (show 1 ≠ 4 by decide), pI_nj _ _ _ _ (show 2 ≠ 3 by decide), pI_nj _ _ _ _ (show 2 ≠ 4 by decide), pI_nj _ _ _ _ (show 3 ≠ 4 by decide), pI_nj _ _ _ _ (show 4 ≠ 3 by decide), i0, i1, i2, zi_add, zi_sub]
    refine ⟨fun z => absurd z (by decide), fun _ => ⟨fun z => ?_, fun z => ?_⟩⟩
    · rw [zi_lt (by omega) (by omega) (by omega) (by omega)] at z
      exact p2 0 (by rw [if_pos (by omega)])
    · rw [zi_lt (by omega) (by omega) (by omega) (by omega)] at z
      exact p2 1 (by rw [if_neg (by omega)])
end
