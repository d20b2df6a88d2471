/-! PURE: what is read is well formed -/
theorem lp_rn {α : Type} (P : Nat → Bool) (g : Nat → Nat → α → α) (B : List Nat) (R : Nat → α → Prop) (hs : ∀ k a, atB P B k = true → R k a → R (k + 1) (g k (by_ B k) a)) : ∀ (n k : Nat) (a : α), B.length - k = n → R k a → R (rn P B k) (lp P g B k a) := by
  intro n
  induction n with
  | zero =>
    intro k a hn h
    rw [lp_step, rn_step]
    cases q : atB P B k with
    | true => have := atB_lt q; omega
    | false => exact h
  | succ n ih =>
    intro k a hn h
    rw [lp_step, rn_step]
    cases q : atB P B k with
    | false => exact h
    | true => exact ih (k + 1) _ (by omega) (hs k a q h)
theorem cod_snoc (l : List Nat) (x : Nat) : cod (l ++ [x]) = 27 * cod l + (x - 96) := by
  unfold cod
  rw [List.foldl_append]
  rfl
theorem nc_okN {B : List Nat} {b : Nat} (h : atB isSm B b = true) (h8 : rn isSm B b - b ≤ 8) : okN (nc B b) := by
  have key := lp_rn isSm (ncg b) B (fun k v => b ≤ k ∧ (k - b ≤ 8 → ∃ l : List Nat, l.length = k - b ∧ (∀ x ∈ l, 97 ≤ x ∧ x ≤ 122) ∧ v = cod l)) (fun k v q hk => by
    obtain ⟨g1, g2, -, -⟩ := atB_rng (lo := 97) (hi := 122) (fun x => rfl) q
    refine ⟨by omega, fun hk8 => ?_⟩
    obtain ⟨l, l1, l2, l3⟩ := hk.2 (by omega)
    refine ⟨l ++ [by_ B k], by rw [List.length_append, List.length_singleton]; omega, fun x hx => ?_, ?_⟩
    · rcases List.mem_append.mp hx with hx | hx
      · exact l2 x hx
      · rw [List.mem_singleton] at hx; omega
    · rw [cod_snoc, ← l3]
      unfold ncg
      rw [if_pos (by omega)]
      omega) _ b 0 rfl ⟨Nat.le_refl _, fun _ => ⟨[], by simp, fun x hx => by simp at hx, rfl⟩⟩
  obtain ⟨l, l1, l2, l3⟩ := key.2 h8
  have := rn_gt h
  exact ⟨l, by omega, by omega, l2, l3⟩
theorem lk_nm {B : List Nat} (hB : bok B) {p : Nat} : tkk (lk B p) = 4 → okN (tkv (lk B p)) := by
  unfold lk
  simp only
  by_cases c0 : by_ B (skip B p) = 300
  · rw [if_pos c0]; intro h; cases h
  rw [if_neg c0]
  by_cases c1 : isDg (by_ B (skip B p)) = true
  · rw [if_pos c1]; unfold tkk; split <;> (intro h; cases h)
  rw [if_neg c1]
  by_cases c2 : isSm (by_ B (skip B p)) = true
  · rw [if_pos c2]
    have ha : atB isSm B (skip B p) = true := by rw [atB_by hB (by decide)]; exact c2
    by_cases h9 : 8 < rn isSm B (skip B p) - skip B p
    · rw [if_pos h9]; intro h; cases h
    · rw [if_neg h9]; intro _; exact nc_okN ha (by omega)
  rw [if_neg c2]
  split
  · unfold lkCap
    simp only
    split
    · split <;> (intro h; cases h)
    · obtain ⟨k1', k3, m1, m2, e, -⟩ := lkRef_eq B (skip B p)
      rw [e]
      unfold refT
      split <;> (intro h; cases h)
  split
  · unfold tkk; split <;> (intro h; cases h)
  unfold lkSign
  simp only
  split
  · intro h; cases h
  split
  · intro h; cases h
  split
  · intro h; cases h
  · unfold tkk; simp only; split <;> (intro h; cases h)
def psP (nt n p : Nat) (acc t : Fm) (p2 : Nat) : Prop := match nt with
  | 0 => wf t ∧ 1 ≤ lv t ∧ p + (tk t).length ≤ p2
  | 1 => wf t ∧ 2 ≤ lv t ∧ p + (tk t).length ≤ p2
  | 2 => wf t ∧ 3 ≤ lv t ∧ p + (tk t).length ≤ p2
  | 3 => wf t ∧ 4 ≤ lv t ∧ p + (tk t).length ≤ p2
  | 4 => wf t ∧ 4 ≤ lv t ∧ p + (tk t).length ≤ p2
  | 5 => wf acc → 2 ≤ lv acc → wf t ∧ 2 ≤ lv t ∧ p + (tk t).length ≤ p2 + (tk acc).length
  | 6 => wf acc → 3 ≤ lv acc → wf t ∧ 3 ≤ lv t ∧ p + (tk t).length ≤ p2 + (tk acc).length
  | 7 => n ≤ 8 → wf t ∧ isL t ∧ 1 ≤ (ags t).length ∧ (ags t).length + n ≤ 8 ∧ (∀ a ∈ ags t, ar a ∨ 1 ≤ lv a) ∧ p + (tk t).length ≤ p2
  | 8 => n ≤ 8 → wf t ∧ isL t ∧ 1 ≤ (ags t).length ∧ (ags t).length + n ≤ 8 ∧ (∀ a ∈ ags t, ar a) ∧ p + (tk t).length ≤ p2
  | _ => wf t ∧ (ar t ∨ 1 ≤ lv t) ∧ p + (tk t).length ≤ p2
theorem pArea_wf {B : List Nat} (hB : bok B) {p : Nat} (hp : p ≤ B.length) {t : Fm} {p2 : Nat} (h : pArea B p = .inr (t, p2)) : wf t ∧ ar t ∧ p + (tk t).length ≤ p2 := by
  unfold pArea at h
  by_cases h2 : tkk (lk B p) = 2
  · rw [if_pos h2] at h
    have o := lk_ok hB hp (by omega) (by omega)
    by_cases q : isT (lk B (tke (lk B p))) 58 = true
    · rw [if_pos q] at h
      have g2 := isT_ok hB o.2.2.1 q
      by_cases q2 : tkk (lk B (tke (lk B (tke (lk B p))))) = 2
      · rw [if_pos q2] at h
        have o2 := lk_ok hB g2.2.1 (by omega) (by omega)
        obtain ⟨e1, e2⟩ := inr_p h
        subst e1
        refine ⟨⟨o.2.2.2.2.2.2.2.1 h2, o2.2.2.2.2.2.2.2.1 q2⟩, trivial, ?_⟩
        show p + 3 ≤ p2
        omega
      · rw [if_neg q2] at h; cases h
    · rw [if_neg q] at h
      obtain ⟨e1, e2⟩ := inr_p h
      subst e1
      refine ⟨o.2.2.2.2.2.2.2.1 h2, trivial, ?_⟩
      show p + 1 ≤ p2
      omega
  rw [if_neg h2] at h
  by_cases h3 : tkk (lk B p) = 3
  · rw [if_pos h3] at h
    have o := lk_ok hB hp (by omega) (by omega)
    obtain ⟨e1, e2⟩ := inr_p h
    subst e1
    refine ⟨trivial, trivial, ?_⟩
    show p + 1 ≤ p2
    omega
  rw [if_neg h3] at h
  by_cases h4 : tkk (lk B p) = 4
  · rw [if_pos h4] at h
    have o := lk_ok hB hp (by omega) (by omega)
    obtain ⟨e1, e2⟩ := inr_p h
    subst e1
    refine ⟨lk_nm hB h4, trivial, ?_⟩
    show p + 1 ≤ p2
    omega
  rw [if_neg h4] at h; cases h
theorem tk_op2 (o : Jvm.Binary) (l r : Fm) : (tk (.op2 o l r)).length = (tk l).length + (tk r).length + 1 := by
  show (tk l ++ (6, opc o) :: tk r).length = _
  rw [List.length_append, List.length_cons]; omega
theorem tk_old (a : Fm) : (tk (.old a)).length = (tk a).length + 2 := by
  show ((6, 40) :: (tk a ++ [(6, 41)])).length = _
  rw [List.length_cons, List.length_append, List.length_singleton]
theorem tk_op1 (o : Jvm.Unary) (a : Fm) : (tk (.op1 o a)).length = (tk a).length + 1 := by
  show ((6, 45) :: tk a).length = _
  rw [List.length_cons]
theorem tk_mul (f : Nat) (as : Fm) : (tk (.mul (.arg f) as)).length = (tk as).length + 3 := by
  show ((5, f) :: (6, 40) :: (tk as ++ [(6, 41)])).length = _
  rw [List.length_cons, List.length_cons, List.length_append, List.length_singleton]
theorem tk_d1 (a : Fm) : (tk (.div a .result)).length = (tk a).length := rfl
theorem tk_d2 (a b r : Fm) : (tk (.div a (.div b r))).length = (tk a).length + 1 + (tk (.div b r)).length := by
  show (tk a ++ (6, 44) :: tk (.div b r)).length = _
  rw [List.length_append, List.length_cons]; omega
theorem wf_op2 {o : Jvm.Binary} {l r : Fm} (h1 : wf l) (h2 : wf r) (h3 : ocl o ≠ 0) (h4 : (if ocl o = 1 then 2 else ocl o) ≤ lv l) (h5 : ocl o + 1 ≤ lv r) : wf (.op2 o l r) := ⟨h1, h2, h3, h4, h5⟩
section
variable {B : List Nat}
theorem pCall_wf (hB : bok B) {E : Nat → PR} {N : Nat → Nat → PR} (gE : ∀ p t p2, p ≤ B.length → E p = .inr (t, p2) → p ≤ p2 ∧ p2 ≤ B.length) (gN : ∀ nt p t p2, nt = 7 ∨ nt = 8 → p ≤ B.length → N nt p = .inr (t, p2) → p ≤ p2 ∧ p2 ≤ B.length)
    (hE : ∀ p t p2, p ≤ B.length → E p = .inr (t, p2) → psP 0 0 p .null t p2) (hN : ∀ nt p t p2, nt = 7 ∨ nt = 8 → p ≤ B.length → N nt p = .inr (t, p2) → psP nt 0 p .null t p2)
    {p0 v : Nat} (hv : v < 9) (hp : p0 ≤ B.length) {t : Fm} {p2 : Nat} (h : pCall E N B p0 v = .inr (t, p2)) : wf t ∧ 4 ≤ lv t ∧ p0 + (tk t).length ≤ p2 + 1 := by
  unfold pCall at h
  obtain ⟨q1, h⟩ := need_i h
  have g1 := isT_ok hB hp q1
  split at h
  · obtain ⟨a, p3, e1, h⟩ := bnd_i h
    have g2 := gN _ _ _ _ (by split <;> omega) g1.2.1 e1
    have w := hN _ _ _ _ (by split <;> omega) g1.2.1 e1
    obtain ⟨q2, h⟩ := need_i h
    have g3 := isT_ok hB g2.2 q2
    obtain ⟨e1, e2⟩ := inr_p h
    subst e1
    by_cases hv4 : v = 4
    · rw [if_pos hv4] at w
      have w := w (by omega)
      refine ⟨⟨w.1, w.2.1, ?_⟩, Nat.le_refl _, ?_⟩
      · subst hv4
        exact ⟨w.2.2.1, w.2.2.2.1, w.2.2.2.2.1⟩
      · rw [tk_mul]; have := w.2.2.2.2.2; omega
    · rw [if_neg hv4] at w
      have w := w (by omega)
      refine ⟨⟨w.1, w.2.1, ?_⟩, Nat.le_refl _, ?_⟩
      · have : v = 0 ∨ v = 1 ∨ v = 2 ∨ v = 3 := by omega
        rcases this with rfl | rfl | rfl | rfl <;> exact ⟨by omega, w.2.2.1, w.2.2.2.1, w.2.2.2.2.1⟩
      · rw [tk_mul]; have := w.2.2.2.2.2; omega
  split at h
  · obtain ⟨a, p3, e1, h⟩ := bnd_i h
    have g2 := pArea_gt hB g1.2.1 e1
    have w2 := pArea_wf hB g1.2.1 e1
    obtain ⟨q2, h⟩ := need_i h
    have g3 := isT_ok hB g2.2 q2
    obtain ⟨b, p4, e2, h⟩ := bnd_i h
    have g4 := gE _ _ _ g3.2.1 e2
    have w4 := hE _ _ _ g3.2.1 e2
    obtain ⟨q3, h⟩ := need_i h
    have g5 := isT_ok hB g4.2 q3
    obtain ⟨e1, e2⟩ := inr_p h
    subst e1
    refine ⟨⟨⟨w2.1, ⟨w4.1, trivial, trivial, .inr w4.2.1⟩, trivial, .inl w2.2.1⟩, trivial, ⟨a, b, rfl, w2.2.1, w4.2.1⟩⟩, Nat.le_refl _, ?_⟩
    rw [tk_mul, tk_d2, tk_d1]
    have := w2.2.2
    have := w4.2.2
    omega
  split at h
  · obtain ⟨a, p3, e1, h⟩ := bnd_i h
    have g2 := gE _ _ _ g1.2.1 e1
    have w2 := hE _ _ _ g1.2.1 e1
    obtain ⟨q2, h⟩ := need_i h
    have g3 := isT_ok hB g2.2 q2
    obtain ⟨b, p4, e2, h⟩ := bnd_i h
    have g4 := pArea_gt hB g3.2.1 e2
    have w4 := pArea_wf hB g3.2.1 e2
    obtain ⟨q3, h⟩ := need_i h
    have g5 := isT_ok hB g4.2 q3
    obtain ⟨e1, e2⟩ := inr_p h
    subst e1
    refine ⟨⟨⟨w2.1, ⟨w4.1, trivial, trivial, .inl w4.2.1⟩, trivial, .inr w2.2.1⟩, trivial, ⟨a, b, rfl, w2.2.1, w4.2.1⟩⟩, Nat.le_refl _, ?_⟩
    rw [tk_mul, tk_d2, tk_d1]
    have := w2.2.2
    have := w4.2.2
    omega
  split at h
  · obtain ⟨a, p3, e1, h⟩ := bnd_i h
    have g2 := gE _ _ _ g1.2.1 e1
    have w2 := hE _ _ _ g1.2.1 e1
    obtain ⟨q2, h⟩ := need_i h
    have g3 := isT_ok hB g2.2 q2
    obtain ⟨b, p4, e2, h⟩ := bnd_i h
    have g4 := gE _ _ _ g3.2.1 e2
    have w4 := hE _ _ _ g3.2.1 e2
    obtain ⟨q3, h⟩ := need_i h
    have g5 := isT_ok hB g4.2 q3
    obtain ⟨c, p5, e3, h⟩ := bnd_i h
    have g6 := gE _ _ _ g5.2.1 e3
    have w6 := hE _ _ _ g5.2.1 e3
    obtain ⟨q4, h⟩ := need_i h
    have g7 := isT_ok hB g6.2 q4
    obtain ⟨e1, e2⟩ := inr_p h
    subst e1
    refine ⟨⟨⟨w2.1, ⟨w4.1, ⟨w6.1, trivial, trivial, .inr w6.2.1⟩, trivial, .inr w4.2.1⟩, trivial, .inr w2.2.1⟩, trivial, ⟨rfl, fun x hx => ?_⟩⟩, Nat.le_refl _, ?_⟩
    · have hx : x = a ∨ x = b ∨ x = c := by simpa [ags] using hx
      rcases hx with rfl | rfl | rfl
      · exact w2.2.1
      · exact w4.2.1
      · exact w6.2.1
    rw [tk_mul, tk_d2, tk_d2, tk_d1]
    have := w2.2.2
    have := w4.2.2
    have := w6.2.2
    omega
  · have hv6 : v = 6 := by omega
    obtain ⟨a, p3, e1, h⟩ := bnd_i h
    have g2 := gE _ _ _ g1.2.1 e1
    have w2 := hE _ _ _ g1.2.1 e1
    obtain ⟨q2, h⟩ := need_i h
    have g3 := isT_ok hB g2.2 q2
    obtain ⟨e1, e2⟩ := inr_p h
    subst e1
    refine ⟨⟨⟨w2.1, trivial, trivial, .inr w2.2.1⟩, trivial, ⟨rfl, fun x hx => ?_⟩⟩, Nat.le_refl _, ?_⟩
    · have hx : x = a := by simpa [ags] using hx
      subst hx
      exact w2.2.1
    rw [tk_mul, tk_d1]
    have := w2.2.2
    omega
theorem ps_wf (hB : bok B) : ∀ (f nt n dp p : Nat) (acc t : Fm) (p2 : Nat), psD nt n acc → p ≤ B.length → ps B f nt n dp p acc = .inr (t, p2) → psP nt n p acc t p2 := by
  intro f
  induction f with
  | zero => intro nt n dp p acc t p2 _ _ h; cases h
  | succ f ih =>
    intro nt n dp p acc t p2 hD hp h
    have d0 : ∀ nt, nt < 5 → psD nt 0 .null := fun nt h => .inl ⟨h, rfl, rfl⟩
    have gt : ∀ nt dp p t p2, nt < 5 → p ≤ B.length → ps B f nt 0 dp p .null = .inr (t, p2) → p < p2 ∧ p2 ≤ B.length := fun nt dp p t p2 hn a b => ⟨(ps_gt hB f nt 0 dp p .null t p2 (d0 nt hn) a b).1 (by omega) (by omega), (ps_gt hB f nt 0 dp p .null t p2 (d0 nt hn) a b).2.2⟩
    rcases hD with ⟨hn, rfl, rfl⟩ | ⟨rfl, rfl, rfl⟩ | ⟨hn, rfl⟩ | ⟨hn, rfl⟩
    · match nt, hn with
      | 0, _ =>
        rw [ps0] at h
        obtain ⟨l, p1, e1, h⟩ := bnd_i h
        have g1 := gt _ _ _ _ _ (by omega) hp e1
        have w1 := ih 1 0 dp p .null l p1 (d0 1 (by omega)) hp e1
        cases q : cmpT (lk B p1) with
        | none =>
          rw [q] at h
          obtain ⟨e1, e2⟩ := inr_p h
          subst e1
          exact ⟨w1.1, by have := w1.2.1; omega, by have := w1.2.2; omega⟩
        | some o =>
          rw [q] at h
          obtain ⟨r, p3, e2, h⟩ := bnd_i h
          have k6 : tkk (lk B p1) = 6 := by
            unfold cmpT at q
            by_cases z : tkk (lk B p1) = 6
            · exact z
            · rw [if_neg z] at q; cases q
          have ho : ocl o = 1 := by
            unfold cmpT at q
            rw [if_pos k6] at q
            split at q
            · cases q; rfl
            split at q
            · cases q; rfl
            split at q
            · cases q; rfl
            split at q
            · cases q; rfl
            split at q
            · cases q; rfl
            split at q
            · cases q; rfl
            · cases q
          have g2 := lk_gt hB g1.2 k6 (by omega) (by omega)
          have w3 := ih 1 0 dp _ .null r p3 (d0 1 (by omega)) g2.2 e2
          obtain ⟨e1, e2⟩ := inr_p h
          subst e1
          refine ⟨wf_op2 w1.1 w3.1 (by omega) (by rw [if_pos ho]; exact w1.2.1) (by rw [ho]; exact w3.2.1), ?_, ?_⟩
          · show 1 ≤ ocl o
            omega
          · rw [tk_op2]
            have := w1.2.2
            have := w3.2.2
            omega
      | 1, _ =>
        rw [ps1] at h
        obtain ⟨l, p1, e1, h⟩ := bnd_i h
        have g1 := gt _ _ _ _ _ (by omega) hp e1
        have w1 := ih 2 0 dp p .null l p1 (d0 2 (by omega)) hp e1
        have w2 := ih 5 0 dp p1 l t p2 (.inr (.inr (.inl ⟨by omega, rfl⟩))) g1.2 h w1.1 (by have := w1.2.1; omega)
        exact ⟨w2.1, w2.2.1, by have := w1.2.2; have := w2.2.2; omega⟩
      | 2, _ =>
        rw [ps2] at h
        obtain ⟨l, p1, e1, h⟩ := bnd_i h
        have g1 := gt _ _ _ _ _ (by omega) hp e1
        have w1 := ih 3 0 dp p .null l p1 (d0 3 (by omega)) hp e1
        have w2 := ih 6 0 dp p1 l t p2 (.inr (.inr (.inl ⟨by omega, rfl⟩))) g1.2 h w1.1 (by have := w1.2.1; omega)
        exact ⟨w2.1, w2.2.1, by have := w1.2.2; have := w2.2.2; omega⟩
      | 3, _ =>
        rw [ps3] at h
        split at h
        · rename_i q
          have g1 := isT_ok hB hp q
          split at h
          · cases h
          · obtain ⟨r, p3, e2, h⟩ := bnd_i h
            have w1 := ih 3 0 _ _ .null r p3 (d0 3 (by omega)) g1.2.1 e2
            obtain ⟨e1, e2⟩ := inr_p h
            subst e1
            exact ⟨⟨w1.1, w1.2.1⟩, Nat.le_refl _, by rw [tk_op1]; have := w1.2.2; omega⟩
        · exact ih 4 0 dp p .null t p2 (d0 4 (by omega)) hp h
      | 4, _ =>
        rw [ps4] at h
        split at h
        · rename_i q
          have o := lk_ok hB hp (by omega) (by omega)
          obtain ⟨e1, e2⟩ := inr_p h
          subst e1
          exact ⟨o.2.2.2.2.2.2.2.2.1 q, Nat.le_refl _, by show p + 1 ≤ p2; omega⟩
        split at h
        · rename_i q
          have o := lk_ok hB hp (by omega) (by omega)
          obtain ⟨e1, e2⟩ := inr_p h
          subst e1
          exact ⟨o.2.2.2.2.2.2.2.1 q, Nat.le_refl _, by show p + 1 ≤ p2; omega⟩
        split at h
        · rename_i q
          have o := lk_ok hB hp (by omega) (by omega)
          obtain ⟨e1, e2⟩ := inr_p h
          subst e1
          exact ⟨trivial, Nat.le_refl _, by show p + 1 ≤ p2; omega⟩
        split at h
        · rename_i q
          have o := lk_ok hB hp (by omega) (by omega)
          obtain ⟨e1, e2⟩ := inr_p h
          subst e1
          exact ⟨lk_nm hB q, Nat.le_refl _, by show p + 1 ≤ p2; omega⟩
        split at h
        · rename_i q
          have o := lk_ok hB hp (by omega) (by omega)
          split at h
          · cases h
          · have := pCall_wf hB (fun p t p2 a b => ⟨by have := gt 0 _ _ _ _ (by omega) a b; omega, (gt 0 _ _ _ _ (by omega) a b).2⟩) (fun nt p t p2 c a b => (ps_gt hB f nt 0 _ p .null t p2 (.inr (.inr (.inr ⟨c, rfl⟩))) a b).2) (fun p t p2 a b => ih 0 0 _ p .null t p2 (d0 0 (by omega)) a b) (fun nt p t p2 c a b => ih nt 0 _ p .null t p2 (.inr (.inr (.inr ⟨c, rfl⟩))) a b) (o.2.2.2.2.2.2.1 q) o.2.2.1 h
            exact ⟨this.1, this.2.1, by omega⟩
        split at h
        · rename_i q
          have g := isT_ok hB hp q
          split at h
          · cases h
          · obtain ⟨e, p3, e1, h⟩ := bnd_i h
            have g1 := gt _ _ _ _ _ (by omega) g.2.1 e1
            have w1 := ih 0 0 _ _ .null e p3 (d0 0 (by omega)) g.2.1 e1
            obtain ⟨q2, h⟩ := need_i h
            have g2 := isT_ok hB g1.2 q2
            obtain ⟨e1, e2⟩ := inr_p h
            subst e1
            exact ⟨⟨w1.1, w1.2.1⟩, Nat.le_refl _, by rw [tk_old]; have := w1.2.2; omega⟩
        · cases h
    · rw [ps9] at h
      split at h
      · have := pArea_wf hB hp h
        exact ⟨this.1, .inl this.2.1, this.2.2⟩
      · have := ih 0 0 dp p .null t p2 (d0 0 (by omega)) hp h
        exact ⟨this.1, .inr this.2.1, this.2.2⟩
    · rcases hn with rfl | rfl
      · intro ha hl
        rw [ps5] at h
        have stp : ∀ o, ocl o = 2 → ∀ c, isT (lk B p) c = true → (bnd (ps B f 2 0 dp (tke (lk B p)) .null) fun r p2 => ps B f 5 0 dp p2 (.op2 o acc r)) = .inr (t, p2) → wf t ∧ 2 ≤ lv t ∧ p + (tk t).length ≤ p2 + (tk acc).length := by
          intro o ho c q h
          have g := isT_ok hB hp q
          obtain ⟨e, p3, e1, h⟩ := bnd_i h
          have g1 := gt _ _ _ _ _ (by omega) g.2.1 e1
          have w1 := ih 2 0 dp _ .null e p3 (d0 2 (by omega)) g.2.1 e1
          have w2 := ih 5 0 dp p3 (.op2 o acc e) t p2 (.inr (.inr (.inl ⟨by omega, rfl⟩))) g1.2 h (wf_op2 ha w1.1 (by omega) (by rw [if_neg (by omega), ho]; exact hl) (by rw [ho]; exact w1.2.1)) (by show 2 ≤ ocl o; omega)
          rw [tk_op2] at w2
          exact ⟨w2.1, w2.2.1, by have := w1.2.2; have := w2.2.2; omega⟩
        split at h
        · rename_i q
          exact stp .ladd rfl _ q h
        split at h
        · rename_i q
          exact stp .lsub rfl _ q h
        · obtain ⟨e1, e2⟩ := inr_p h
          subst e1
          exact ⟨ha, hl, by omega⟩
      · intro ha hl
        rw [ps6] at h
        have stp : ∀ o, ocl o = 3 → ∀ c, isT (lk B p) c = true → (bnd (ps B f 3 0 dp (tke (lk B p)) .null) fun r p2 => ps B f 6 0 dp p2 (.op2 o acc r)) = .inr (t, p2) → wf t ∧ 3 ≤ lv t ∧ p + (tk t).length ≤ p2 + (tk acc).length := by
          intro o ho c q h
          have g := isT_ok hB hp q
          obtain ⟨e, p3, e1, h⟩ := bnd_i h
          have g1 := gt _ _ _ _ _ (by omega) g.2.1 e1
          have w1 := ih 3 0 dp _ .null e p3 (d0 3 (by omega)) g.2.1 e1
          have w2 := ih 6 0 dp p3 (.op2 o acc e) t p2 (.inr (.inr (.inl ⟨by omega, rfl⟩))) g1.2 h (wf_op2 ha w1.1 (by omega) (by rw [if_neg (by omega), ho]; exact hl) (by rw [ho]; exact w1.2.1)) (by show 3 ≤ ocl o; omega)
          rw [tk_op2] at w2
          exact ⟨w2.1, w2.2.1, by have := w1.2.2; have := w2.2.2; omega⟩
        split at h
        · rename_i q
          exact stp .lmul rfl _ q h
        split at h
        · rename_i q
          exact stp .ldiv rfl _ q h
        split at h
        · rename_i q
          exact stp .lrem rfl _ q h
        · obtain ⟨e1, e2⟩ := inr_p h
          subst e1
          exact ⟨ha, hl, by omega⟩
    · rcases hn with rfl | rfl
      · intro hn8
        rw [ps7] at h
        split at h
        · cases h
        rename_i n8
        obtain ⟨a, p3, e1, h⟩ := bnd_i h
        have g1 := (ps_gt hB f 9 0 dp p .null a p3 (.inr (.inl ⟨rfl, rfl, rfl⟩)) hp e1).2
        have w1 := ih 9 0 dp p .null a p3 (.inr (.inl ⟨rfl, rfl, rfl⟩)) hp e1
        split at h
        · rename_i q
          have g := isT_ok hB g1.2 q
          obtain ⟨r, p4, e2, h⟩ := bnd_i h
          have w2 := ih 7 (n + 1) dp _ .null r p4 (.inr (.inr (.inr ⟨by omega, rfl⟩))) g.2.1 e2 (by omega)
          obtain ⟨x, y, hr⟩ := ps_div (.inl rfl) e2
          obtain ⟨e1, e2⟩ := inr_p h
          subst e1
          refine ⟨⟨w1.1, w2.1, w2.2.1, w1.2.1⟩, w2.2.1, ?_, ?_, fun b hb => ?_, ?_⟩
          · show 1 ≤ (a :: ags r).length
            rw [List.length_cons]; omega
          · show (a :: ags r).length + n ≤ 8
            rw [List.length_cons]; have := w2.2.2.2.1; omega
          · rcases List.mem_cons.mp hb with rfl | hb
            · exact w1.2.1
            · exact w2.2.2.2.2.1 b hb
          · have := w1.2.2
            have := w2.2.2.2.2.2
            subst hr
            rw [tk_d2]; omega
        · obtain ⟨e1, e2⟩ := inr_p h
          subst e1
          refine ⟨⟨w1.1, trivial, trivial, w1.2.1⟩, trivial, Nat.le_refl _, ?_, fun b hb => ?_, ?_⟩
          · show 1 + n ≤ 8
            omega
          · rcases List.mem_cons.mp hb with rfl | hb
            · exact w1.2.1
            · cases hb
          · have := w1.2.2
            rw [tk_d1]; omega
      · intro hn8
        rw [ps8] at h
        split at h
        · cases h
        rename_i n8
        obtain ⟨a, p3, e1, h⟩ := bnd_i h
        have g1 := pArea_gt hB hp e1
        have w1 := pArea_wf hB hp e1
        split at h
        · rename_i q
          have g := isT_ok hB g1.2 q
          obtain ⟨r, p4, e2, h⟩ := bnd_i h
          have w2 := ih 8 (n + 1) dp _ .null r p4 (.inr (.inr (.inr ⟨by omega, rfl⟩))) g.2.1 e2 (by omega)
          obtain ⟨x, y, hr⟩ := ps_div (.inr rfl) e2
          obtain ⟨e1, e2⟩ := inr_p h
          subst e1
          refine ⟨⟨w1.1, w2.1, w2.2.1, .inl w1.2.1⟩, w2.2.1, ?_, ?_, fun b hb => ?_, ?_⟩
          · show 1 ≤ (a :: ags r).length
            rw [List.length_cons]; omega
          · show (a :: ags r).length + n ≤ 8
            rw [List.length_cons]; have := w2.2.2.2.1; omega
          · rcases List.mem_cons.mp hb with rfl | hb
            · exact w1.2.1
            · exact w2.2.2.2.2.1 b hb
          · have := w1.2.2
            have := w2.2.2.2.2.2
            subst hr
            rw [tk_d2]; omega
        · obtain ⟨e1, e2⟩ := inr_p h
          subst e1
          refine ⟨⟨w1.1, trivial, trivial, .inl w1.2.1⟩, trivial, Nat.le_refl _, ?_, fun b hb => ?_, ?_⟩
          · show 1 + n ≤ 8
            omega
          · rcases List.mem_cons.mp hb with rfl | hb
            · exact w1.2.1
            · cases hb
          · have := w1.2.2
            rw [tk_d1]; omega
theorem psF_cok (hB : bok B) (hl : B.length ≤ 80) (h1 : 1 ≤ B.length) {t : Fm} {p : Nat} (h : psF B = .inr (t, p)) : cok (some (.inr t)) := by
  unfold psF at h
  obtain ⟨u, p1, e, h⟩ := bnd_i h
  split at h
  · obtain ⟨e1, e2⟩ := inr_p h
    subst e1
    have w := ps_wf hB 1000 0 0 0 1 .null u p1 (.inl ⟨by omega, rfl, rfl⟩) h1 e
    have g := ps_gt hB 1000 0 0 0 1 .null u p1 (.inl ⟨by omega, rfl, rfl⟩) h1 e
    exact ⟨w.1, w.2.1, by have := w.2.2; omega⟩
  · cases h
end
