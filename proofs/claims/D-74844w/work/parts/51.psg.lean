/-! PURE: the reading goes ahead -/
theorem bnd_i {r : PR} {k : Fm → Nat → PR} {x : Fm × Nat} (h : bnd r k = .inr x) : ∃ t p, r = .inr (t, p) ∧ k t p = .inr x := by
  match r, h with
  | .inl e, h => cases h
  | .inr (t, p), h => exact ⟨t, p, rfl, h⟩
theorem need_i {B : List Nat} {c p : Nat} {k : Nat → PR} {x : Fm × Nat} (h : need B c p k = .inr x) : isT (lk B p) c = true ∧ k (tke (lk B p)) = .inr x := by
  unfold need at h
  by_cases q : isT (lk B p) c = true
  · rw [if_pos q] at h; exact ⟨q, h⟩
  · rw [if_neg q] at h; cases h
theorem lk_gt {B : List Nat} (hB : bok B) {p k : Nat} (hp : p ≤ B.length) (h : tkk (lk B p) = k) (h0 : 0 < k) (h7 : k < 7) : p < tke (lk B p) ∧ tke (lk B p) ≤ B.length := by
  have := lk_ok hB hp (by omega) (by omega)
  exact ⟨this.2.1, this.2.2.1⟩
theorem inr_p {t t2 : Fm} {p p2 : Nat} (h : (.inr (t, p) : PR) = .inr (t2, p2)) : t = t2 ∧ p = p2 := by cases h; exact ⟨rfl, rfl⟩
theorem pArea_gt {B : List Nat} (hB : bok B) {p : Nat} (hp : p ≤ B.length) {t : Fm} {p2 : Nat} (h : pArea B p = .inr (t, p2)) : p < p2 ∧ p2 ≤ B.length := by
  unfold pArea at h
  by_cases h2 : tkk (lk B p) = 2
  · rw [if_pos h2] at h
    have g := lk_gt hB hp h2 (by omega) (by omega)
    by_cases q : isT (lk B (tke (lk B p))) 58 = true
    · rw [if_pos q] at h
      have g2 := isT_ok hB g.2 q
      by_cases q2 : tkk (lk B (tke (lk B (tke (lk B p))))) = 2
      · rw [if_pos q2] at h
        have g3 := lk_gt hB g2.2.1 q2 (by omega) (by omega)
        have := (inr_p h).2
        omega
      · rw [if_neg q2] at h; cases h
    · rw [if_neg q] at h
      have := (inr_p h).2
      omega
  rw [if_neg h2] at h
  by_cases h3 : tkk (lk B p) = 3
  · rw [if_pos h3] at h
    have g := lk_gt hB hp h3 (by omega) (by omega)
    have := (inr_p h).2
    omega
  rw [if_neg h3] at h
  by_cases h4 : tkk (lk B p) = 4
  · rw [if_pos h4] at h
    have g := lk_gt hB hp h4 (by omega) (by omega)
    have := (inr_p h).2
    omega
  rw [if_neg h4] at h; cases h
section
variable {B : List Nat}
theorem ps0 (f dp p : Nat) : ps B (f + 1) 0 0 dp p .null = bnd (ps B f 1 0 dp p .null) fun l p1 => match cmpT (lk B p1) with
      | none => .inr (l, p1)
      | some o => bnd (ps B f 1 0 dp (tke (lk B p1)) .null) fun r p2 => .inr (.op2 o l r, p2) := rfl
theorem ps1 (f dp p : Nat) : ps B (f + 1) 1 0 dp p .null = bnd (ps B f 2 0 dp p .null) fun l p1 => ps B f 5 0 dp p1 l := rfl
theorem ps2 (f dp p : Nat) : ps B (f + 1) 2 0 dp p .null = bnd (ps B f 3 0 dp p .null) fun l p1 => ps B f 6 0 dp p1 l := rfl
theorem ps5 (f dp p : Nat) (acc : Fm) : ps B (f + 1) 5 0 dp p acc = (if isT (lk B p) 43 then bnd (ps B f 2 0 dp (tke (lk B p)) .null) fun r p2 => ps B f 5 0 dp p2 (.op2 .ladd acc r)
       else if isT (lk B p) 45 then bnd (ps B f 2 0 dp (tke (lk B p)) .null) fun r p2 => ps B f 5 0 dp p2 (.op2 .lsub acc r)
       else .inr (acc, p)) := rfl
theorem ps6 (f dp p : Nat) (acc : Fm) : ps B (f + 1) 6 0 dp p acc = (if isT (lk B p) 42 then bnd (ps B f 3 0 dp (tke (lk B p)) .null) fun r p2 => ps B f 6 0 dp p2 (.op2 .lmul acc r)
       else if isT (lk B p) 47 then bnd (ps B f 3 0 dp (tke (lk B p)) .null) fun r p2 => ps B f 6 0 dp p2 (.op2 .ldiv acc r)
       else if isT (lk B p) 37 then bnd (ps B f 3 0 dp (tke (lk B p)) .null) fun r p2 => ps B f 6 0 dp p2 (.op2 .lrem acc r)
       else .inr (acc, p)) := rfl
theorem ps3 (f dp p : Nat) : ps B (f + 1) 3 0 dp p .null = (if isT (lk B p) 45 then (if dp = 10 then .inl (tkb (lk B p)) else bnd (ps B f 3 0 (dp + 1) (tke (lk B p)) .null) fun r p2 => .inr (.op1 .lneg r, p2))
       else ps B f 4 0 dp p .null) := rfl
theorem ps7 (f n dp p : Nat) : ps B (f + 1) 7 n dp p .null = (if n = 8 then .inl (tkb (lk B p))
       else bnd (ps B f 9 0 dp p .null) fun a p2 => if isT (lk B p2) 44 then bnd (ps B f 7 (n + 1) dp (tke (lk B p2)) .null) fun r p3 => .inr (.div a r, p3) else .inr (.div a .result, p2)) := rfl
theorem ps8 (f n dp p : Nat) : ps B (f + 1) 8 n dp p .null = (if n = 8 then .inl (tkb (lk B p))
       else bnd (pArea B p) fun a p2 => if isT (lk B p2) 44 then bnd (ps B f 8 (n + 1) dp (tke (lk B p2)) .null) fun r p3 => .inr (.div a r, p3) else .inr (.div a .result, p2)) := rfl
theorem ps9 (f dp p : Nat) : ps B (f + 1) 9 0 dp p .null = (if (tkk (lk B p) = 2 ∨ tkk (lk B p) = 3 ∨ tkk (lk B p) = 4) ∧ (isT (lk B (tke (lk B p))) 44 = true ∨ isT (lk B (tke (lk B p))) 41 = true ∨ (isT (lk B (tke (lk B p))) 58 = true ∧ tkk (lk B p) = 2)) then pArea B p
       else ps B f 0 0 dp p .null) := rfl
/-- a call, behind its function's token -/
def pCall (E : Nat → PR) (N : Nat → Nat → PR) (B : List Nat) (p0 v : Nat) : PR := need B 40 p0 fun p1 =>
            if v ≤ 4 then bnd (N (if v = 4 then 8 else 7) p1) fun as p2 => need B 41 p2 fun p3 => .inr (.mul (.arg v) as, p3)
            else if v = 8 then bnd (pArea B p1) fun a p2 => need B 44 p2 fun p3 => bnd (E p3) fun e p4 => need B 41 p4 fun p5 => .inr (.mul (.arg 8) (.div a (.div e .result)), p5)
            else if v = 7 then bnd (E p1) fun a p2 => need B 44 p2 fun p3 => bnd (pArea B p3) fun e p4 => need B 41 p4 fun p5 => .inr (.mul (.arg 7) (.div a (.div e .result)), p5)
            else if v = 5 then bnd (E p1) fun a p2 => need B 44 p2 fun p3 => bnd (E p3) fun b p4 => need B 44 p4 fun p5 => bnd (E p5) fun c p6 => need B 41 p6 fun p7 => .inr (.mul (.arg 5) (.div a (.div b (.div c .result))), p7)
            else bnd (E p1) fun a p2 => need B 41 p2 fun p3 => .inr (.mul (.arg 6) (.div a .result), p3)
theorem ps4 (f dp p : Nat) : ps B (f + 1) 4 0 dp p .null = (if tkk (lk B p) = 1 then .inr (.arg (tkv (lk B p)), tke (lk B p))
       else if tkk (lk B p) = 2 then .inr (.index (tkv (lk B p)), tke (lk B p))
       else if tkk (lk B p) = 3 then .inr (.null, tke (lk B p))
       else if tkk (lk B p) = 4 then .inr (.length (.arg (tkv (lk B p))), tke (lk B p))
       else if tkk (lk B p) = 5 then
         (if dp = 10 then .inl (tkb (lk B p))
          else pCall (fun q => ps B f 0 0 (dp + 1) q .null) (fun nt q => ps B f nt 0 (dp + 1) q .null) B (tke (lk B p)) (tkv (lk B p)))
       else if isT (lk B p) 40 then
         (if dp = 10 then .inl (tkb (lk B p)) else bnd (ps B f 0 0 (dp + 1) (tke (lk B p)) .null) fun e p2 => need B 41 p2 fun p3 => .inr (.old e, p3))
       else .inl (tkb (lk B p))) := rfl
theorem pCall_gt (hB : bok B) {E : Nat → PR} {N : Nat → Nat → PR} (hE : ∀ p t p2, p ≤ B.length → E p = .inr (t, p2) → p ≤ p2 ∧ p2 ≤ B.length) (hN : ∀ nt p t p2, nt = 7 ∨ nt = 8 → p ≤ B.length → N nt p = .inr (t, p2) → p ≤ p2 ∧ p2 ≤ B.length)
    {p0 v : Nat} (hp : p0 ≤ B.length) {t : Fm} {p2 : Nat} (h : pCall E N B p0 v = .inr (t, p2)) : p0 < p2 ∧ p2 ≤ B.length := by
  unfold pCall at h
  obtain ⟨q1, h⟩ := need_i h
  have g1 := isT_ok hB hp q1
  split at h
  · obtain ⟨a, p3, e1, h⟩ := bnd_i h
    have g2 := hN _ _ _ _ (by split <;> omega) g1.2.1 e1
    obtain ⟨q2, h⟩ := need_i h
    have g3 := isT_ok hB g2.2 q2
    have := (inr_p h).2
    omega
  split at h
  · obtain ⟨a, p3, e1, h⟩ := bnd_i h
    have g2 := pArea_gt hB g1.2.1 e1
    obtain ⟨q2, h⟩ := need_i h
    have g3 := isT_ok hB g2.2 q2
    obtain ⟨b, p4, e2, h⟩ := bnd_i h
    have g4 := hE _ _ _ g3.2.1 e2
    obtain ⟨q3, h⟩ := need_i h
    have g5 := isT_ok hB g4.2 q3
    have := (inr_p h).2
    omega
  split at h
  · obtain ⟨a, p3, e1, h⟩ := bnd_i h
    have g2 := hE _ _ _ g1.2.1 e1
    obtain ⟨q2, h⟩ := need_i h
    have g3 := isT_ok hB g2.2 q2
    obtain ⟨b, p4, e2, h⟩ := bnd_i h
    have g4 := pArea_gt hB g3.2.1 e2
    obtain ⟨q3, h⟩ := need_i h
    have g5 := isT_ok hB g4.2 q3
    have := (inr_p h).2
    omega
  split at h
  · obtain ⟨a, p3, e1, h⟩ := bnd_i h
    have g2 := hE _ _ _ g1.2.1 e1
    obtain ⟨q2, h⟩ := need_i h
    have g3 := isT_ok hB g2.2 q2
    obtain ⟨b, p4, e2, h⟩ := bnd_i h
    have g4 := hE _ _ _ g3.2.1 e2
    obtain ⟨q3, h⟩ := need_i h
    have g5 := isT_ok hB g4.2 q3
    obtain ⟨b, p4, e2, h⟩ := bnd_i h
    have g6 := hE _ _ _ g5.2.1 e2
    obtain ⟨q3, h⟩ := need_i h
    have g7 := isT_ok hB g6.2 q3
    have := (inr_p h).2
    omega
  · obtain ⟨a, p3, e1, h⟩ := bnd_i h
    have g2 := hE _ _ _ g1.2.1 e1
    obtain ⟨q2, h⟩ := need_i h
    have g3 := isT_ok hB g2.2 q2
    have := (inr_p h).2
    omega
/-- what is asked for and where it was -/
def psD (nt n : Nat) (acc : Fm) : Prop := (nt < 5 ∧ n = 0 ∧ acc = .null) ∨ (nt = 9 ∧ n = 0 ∧ acc = .null) ∨ ((nt = 5 ∨ nt = 6) ∧ n = 0) ∨ ((nt = 7 ∨ nt = 8) ∧ acc = .null)
theorem ps_gt (hB : bok B) : ∀ (f nt n dp p : Nat) (acc t : Fm) (p2 : Nat), psD nt n acc → p ≤ B.length → ps B f nt n dp p acc = .inr (t, p2) → (nt ≠ 5 → nt ≠ 6 → p < p2) ∧ p ≤ p2 ∧ p2 ≤ B.length := by
  intro f
  induction f with
  | zero => intro nt n dp p acc t p2 _ _ h; cases h
  | succ f ih =>
    intro nt n dp p acc t p2 hD hp h
    have i0 : ∀ dp p t p2, p ≤ B.length → ps B f 0 0 dp p .null = .inr (t, p2) → p < p2 ∧ p2 ≤ B.length := fun dp p t p2 a b => ⟨(ih 0 0 dp p .null t p2 (.inl ⟨by omega, rfl, rfl⟩) a b).1 (by omega) (by omega), (ih 0 0 dp p .null t p2 (.inl ⟨by omega, rfl, rfl⟩) a b).2.2⟩
    have i1 : ∀ dp p t p2, p ≤ B.length → ps B f 1 0 dp p .null = .inr (t, p2) → p < p2 ∧ p2 ≤ B.length := fun dp p t p2 a b => ⟨(ih 1 0 dp p .null t p2 (.inl ⟨by omega, rfl, rfl⟩) a b).1 (by omega) (by omega), (ih 1 0 dp p .null t p2 (.inl ⟨by omega, rfl, rfl⟩) a b).2.2⟩
    have i2 : ∀ dp p t p2, p ≤ B.length → ps B f 2 0 dp p .null = .inr (t, p2) → p < p2 ∧ p2 ≤ B.length := fun dp p t p2 a b => ⟨(ih 2 0 dp p .null t p2 (.inl ⟨by omega, rfl, rfl⟩) a b).1 (by omega) (by omega), (ih 2 0 dp p .null t p2 (.inl ⟨by omega, rfl, rfl⟩) a b).2.2⟩
    have i3 : ∀ dp p t p2, p ≤ B.length → ps B f 3 0 dp p .null = .inr (t, p2) → p < p2 ∧ p2 ≤ B.length := fun dp p t p2 a b => ⟨(ih 3 0 dp p .null t p2 (.inl ⟨by omega, rfl, rfl⟩) a b).1 (by omega) (by omega), (ih 3 0 dp p .null t p2 (.inl ⟨by omega, rfl, rfl⟩) a b).2.2⟩
    have i4 : ∀ dp p t p2, p ≤ B.length → ps B f 4 0 dp p .null = .inr (t, p2) → p < p2 ∧ p2 ≤ B.length := fun dp p t p2 a b => ⟨(ih 4 0 dp p .null t p2 (.inl ⟨by omega, rfl, rfl⟩) a b).1 (by omega) (by omega), (ih 4 0 dp p .null t p2 (.inl ⟨by omega, rfl, rfl⟩) a b).2.2⟩
    have i9 : ∀ dp p t p2, p ≤ B.length → ps B f 9 0 dp p .null = .inr (t, p2) → p < p2 ∧ p2 ≤ B.length := fun dp p t p2 a b => ⟨(ih 9 0 dp p .null t p2 (.inr (.inl ⟨rfl, rfl, rfl⟩)) a b).1 (by omega) (by omega), (ih 9 0 dp p .null t p2 (.inr (.inl ⟨rfl, rfl, rfl⟩)) a b).2.2⟩
    have i7 : ∀ nt n dp p t p2, nt = 7 ∨ nt = 8 → p ≤ B.length → ps B f nt n dp p .null = .inr (t, p2) → p < p2 ∧ p2 ≤ B.length := fun nt n dp p t p2 c a b => ⟨(ih nt n dp p .null t p2 (.inr (.inr (.inr ⟨c, rfl⟩))) a b).1 (by omega) (by omega), (ih nt n dp p .null t p2 (.inr (.inr (.inr ⟨c, rfl⟩))) a b).2.2⟩
    have i5 : ∀ nt dp p acc t p2, nt = 5 ∨ nt = 6 → p ≤ B.length → ps B f nt 0 dp p acc = .inr (t, p2) → p ≤ p2 ∧ p2 ≤ B.length := fun nt dp p acc t p2 c a b => (ih nt 0 dp p acc t p2 (.inr (.inr (.inl ⟨c, rfl⟩))) a b).2
    rcases hD with ⟨hn, rfl, rfl⟩ | ⟨rfl, rfl, rfl⟩ | ⟨hn, rfl⟩ | ⟨hn, rfl⟩
    · match nt, hn with
      | 0, _ =>
        rw [ps0] at h
        obtain ⟨l, p1, e1, h⟩ := bnd_i h
        have g1 := i1 _ _ _ _ hp e1
        cases q : cmpT (lk B p1) with
        | none => rw [q] at h; have := (inr_p h).2; omega
        | some o =>
          rw [q] at h
          obtain ⟨r, p3, e2, h⟩ := bnd_i h
          have k6 : tkk (lk B p1) = 6 := by
            unfold cmpT at q
            by_cases z : tkk (lk B p1) = 6
            · exact z
            · rw [if_neg z] at q; cases q
          have g2 := lk_gt hB g1.2 k6 (by omega) (by omega)
          have g3 := i1 _ _ _ _ g2.2 e2
          have := (inr_p h).2
          omega
      | 1, _ =>
        rw [ps1] at h
        obtain ⟨l, p1, e1, h⟩ := bnd_i h
        have g1 := i2 _ _ _ _ hp e1
        have g2 := i5 5 _ _ _ _ _ (by omega) g1.2 h
        omega
      | 2, _ =>
        rw [ps2] at h
        obtain ⟨l, p1, e1, h⟩ := bnd_i h
        have g1 := i3 _ _ _ _ hp e1
        have g2 := i5 6 _ _ _ _ _ (by omega) g1.2 h
        omega
      | 3, _ =>
        rw [ps3] at h
        split at h
        · rename_i q
          have g1 := isT_ok hB hp q
          split at h
          · cases h
          · obtain ⟨r, p3, e2, h⟩ := bnd_i h
            have g3 := i3 _ _ _ _ g1.2.1 e2
            have := (inr_p h).2
            omega
        · have := i4 _ _ _ _ hp h
          omega
      | 4, _ =>
        rw [ps4] at h
        split at h
        · rename_i q; have := lk_gt hB hp q (by omega) (by omega); have := (inr_p h).2; omega
        split at h
        · rename_i q; have := lk_gt hB hp q (by omega) (by omega); have := (inr_p h).2; omega
        split at h
        · rename_i q; have := lk_gt hB hp q (by omega) (by omega); have := (inr_p h).2; omega
        split at h
        · rename_i q; have := lk_gt hB hp q (by omega) (by omega); have := (inr_p h).2; omega
        split at h
        · rename_i q
          have g := lk_gt hB hp q (by omega) (by omega)
          split at h
          · cases h
          · have := pCall_gt hB (fun p t p2 a b => ⟨by have := i0 _ _ _ _ a b; omega, (i0 _ _ _ _ a b).2⟩) (fun nt p t p2 c a b => ⟨by have := i7 nt _ _ _ _ _ c a b; omega, (i7 nt _ _ _ _ _ c a b).2⟩) g.2 h
            omega
        split at h
        · rename_i q
          have g := isT_ok hB hp q
          split at h
          · cases h
          · obtain ⟨e, p3, e1, h⟩ := bnd_i h
            have g1 := i0 _ _ _ _ g.2.1 e1
            obtain ⟨q2, h⟩ := need_i h
            have g2 := isT_ok hB g1.2 q2
            have := (inr_p h).2
            omega
        · cases h
    · rw [ps9] at h
      split at h
      · have := pArea_gt hB hp h
        omega
      · have := i0 _ _ _ _ hp h
        omega
    · rcases hn with rfl | rfl
      · rw [ps5] at h
        split at h
        · rename_i q
          have g := isT_ok hB hp q
          obtain ⟨e, p3, e1, h⟩ := bnd_i h
          have g1 := i2 _ _ _ _ g.2.1 e1
          have g2 := i5 5 _ _ _ _ _ (by omega) g1.2 h
          omega
        split at h
        · rename_i q
          have g := isT_ok hB hp q
          obtain ⟨e, p3, e1, h⟩ := bnd_i h
          have g1 := i2 _ _ _ _ g.2.1 e1
          have g2 := i5 5 _ _ _ _ _ (by omega) g1.2 h
          omega
        · have := (inr_p h).2
          omega
      · rw [ps6] at h
        split at h
        · rename_i q
          have g := isT_ok hB hp q
          obtain ⟨e, p3, e1, h⟩ := bnd_i h
          have g1 := i3 _ _ _ _ g.2.1 e1
          have g2 := i5 6 _ _ _ _ _ (by omega) g1.2 h
          omega
        split at h
        · rename_i q
          have g := isT_ok hB hp q
          obtain ⟨e, p3, e1, h⟩ := bnd_i h
          have g1 := i3 _ _ _ _ g.2.1 e1
          have g2 := i5 6 _ _ _ _ _ (by omega) g1.2 h
          omega
        split at h
        · rename_i q
          have g := isT_ok hB hp q
          obtain ⟨e, p3, e1, h⟩ := bnd_i h
          have g1 := i3 _ _ _ _ g.2.1 e1
          have g2 := i5 6 _ _ _ _ _ (by omega) g1.2 h
          omega
        · have := (inr_p h).2
          omega
    · rcases hn with rfl | rfl
      · rw [ps7] at h
        split at h
        · cases h
        obtain ⟨a, p3, e1, h⟩ := bnd_i h
        have g1 := i9 _ _ _ _ hp e1
        split at h
        · rename_i q
          have g := isT_ok hB g1.2 q
          obtain ⟨r, p4, e2, h⟩ := bnd_i h
          have g2 := i7 7 _ _ _ _ _ (by omega) g.2.1 e2
          have := (inr_p h).2
          omega
        · have := (inr_p h).2
          omega
      · rw [ps8] at h
        split at h
        · cases h
        obtain ⟨a, p3, e1, h⟩ := bnd_i h
        have g1 := pArea_gt hB hp e1
        split at h
        · rename_i q
          have g := isT_ok hB g1.2 q
          obtain ⟨r, p4, e2, h⟩ := bnd_i h
          have g2 := i7 8 _ _ _ _ _ (by omega) g.2.1 e2
          have := (inr_p h).2
          omega
        · have := (inr_p h).2
          omega
theorem ps_div {f nt n dp p : Nat} (hn : nt = 7 ∨ nt = 8) {t : Fm} {p2 : Nat} (h : ps B f nt n dp p .null = .inr (t, p2)) : ∃ a r, t = .div a r := by
  cases f with
  | zero => cases h
  | succ f =>
    rcases hn with rfl | rfl
    · rw [ps7] at h
      split at h
      · cases h
      obtain ⟨a, p3, e1, h⟩ := bnd_i h
      split at h
      · obtain ⟨r, p4, e2, h⟩ := bnd_i h
        exact ⟨_, _, (inr_p h).1.symm⟩
      · exact ⟨_, _, (inr_p h).1.symm⟩
    · rw [ps8] at h
      split at h
      · cases h
      obtain ⟨a, p3, e1, h⟩ := bnd_i h
      split at h
      · obtain ⟨r, p4, e2, h⟩ := bnd_i h
        exact ⟨_, _, (inr_p h).1.symm⟩
      · exact ⟨_, _, (inr_p h).1.symm⟩
end
