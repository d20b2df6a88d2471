/-! PURE: the reading of a formula. Trees are Jvm.Term's: arg n a number, index v a reference (cell + 240 columns' mark + 480 rows'), null a lost one, length (arg c) a name, elem a range, op2 two operands, op1 the negative, old parentheses, mul (arg f) as a call, div a r and result its arguments -/
abbrev Fm : Type := Jvm.Term
def opc (o : Jvm.Binary) : Nat := match o with
  | .ladd => 43
  | .lsub => 45
  | .lmul => 42
  | .ldiv => 47
  | .lrem => 37
  | .land => 61
  | .lor => 256
  | .lxor => 60
  | .lshl => 257
  | .lshr => 62
  | .lushr => 258
  | _ => 0
def tk : Fm → List (Nat × Nat)
  | .arg n => [(1, n)]
  | .index v => [(2, v)]
  | .null => [(3, 0)]
  | .length (.arg c) => [(4, c)]
  | .elem (.index u) (.index v) => [(2, u), (6, 58), (2, v)]
  | .op2 o l r => tk l ++ (6, opc o) :: tk r
  | .op1 _ a => (6, 45) :: tk a
  | .old a => (6, 40) :: (tk a ++ [(6, 41)])
  | .mul (.arg f) as => (5, f) :: (6, 40) :: (tk as ++ [(6, 41)])
  | .div a .result => tk a
  | .div a r => tk a ++ (6, 44) :: tk r
  | _ => []
abbrev PR : Type := Nat ⊕ (Fm × Nat)
def bnd (r : PR) (k : Fm → Nat → PR) : PR := match r with
  | .inl e => .inl e
  | .inr (t, p) => k t p
def tkb (t : Tk) : Nat := t.1
def tkk (t : Tk) : Nat := t.2.1
def tkv (t : Tk) : Nat := t.2.2.1
def tke (t : Tk) : Nat := t.2.2.2
def isT (t : Tk) (c : Nat) : Bool := tkk t == 6 && tkv t == c
def need (B : List Nat) (c p : Nat) (k : Nat → PR) : PR := if isT (lk B p) c then k (tke (lk B p)) else .inl (tkb (lk B p))
def cmpT (t : Tk) : Option Jvm.Binary := if tkk t = 6 then (if tkv t = 61 then some .land else if tkv t = 60 then some .lxor else if tkv t = 62 then some .lshr else if tkv t = 256 then some .lor else if tkv t = 257 then some .lshl else if tkv t = 258 then some .lushr else none) else none
def pArea (B : List Nat) (p : Nat) : PR :=
  if tkk (lk B p) = 2 then
    (if isT (lk B (tke (lk B p))) 58 then
      (if tkk (lk B (tke (lk B (tke (lk B p))))) = 2 then .inr (.elem (.index (tkv (lk B p))) (.index (tkv (lk B (tke (lk B (tke (lk B p))))))), tke (lk B (tke (lk B (tke (lk B p))))))
       else .inl (tkb (lk B (tke (lk B (tke (lk B p)))))))
     else .inr (.index (tkv (lk B p)), tke (lk B p)))
  else if tkk (lk B p) = 3 then .inr (.null, tke (lk B p))
  else if tkk (lk B p) = 4 then .inr (.length (.arg (tkv (lk B p))), tke (lk B p))
  else .inl (tkb (lk B p))
/-- fuel, what is read (0 expression, 1 sum, 2 product, 3 unary, 4 primary, 5 and 6 what follows in sums and products, 7 arguments, 8 areas, 9 an argument), how many there were, depth, place, what stands ahead -/
def ps (B : List Nat) : Nat → Nat → Nat → Nat → Nat → Fm → PR
  | 0, _, _, _, p, _ => .inl p
  | f + 1, nt, n, dp, p, acc =>
    if nt = 0 then bnd (ps B f 1 0 dp p .null) fun l p1 => match cmpT (lk B p1) with
      | none => .inr (l, p1)
      | some o => bnd (ps B f 1 0 dp (tke (lk B p1)) .null) fun r p2 => .inr (.op2 o l r, p2)
    else if nt = 1 then bnd (ps B f 2 0 dp p .null) fun l p1 => ps B f 5 0 dp p1 l
    else if nt = 2 then bnd (ps B f 3 0 dp p .null) fun l p1 => ps B f 6 0 dp p1 l
    else if nt = 5 then
      (if isT (lk B p) 43 then bnd (ps B f 2 0 dp (tke (lk B p)) .null) fun r p2 => ps B f 5 0 dp p2 (.op2 .ladd acc r)
       else if isT (lk B p) 45 then bnd (ps B f 2 0 dp (tke (lk B p)) .null) fun r p2 => ps B f 5 0 dp p2 (.op2 .lsub acc r)
       else .inr (acc, p))
    else if nt = 6 then
      (if isT (lk B p) 42 then bnd (ps B f 3 0 dp (tke (lk B p)) .null) fun r p2 => ps B f 6 0 dp p2 (.op2 .lmul acc r)
       else if isT (lk B p) 47 then bnd (ps B f 3 0 dp (tke (lk B p)) .null) fun r p2 => ps B f 6 0 dp p2 (.op2 .ldiv acc r)
       else if isT (lk B p) 37 then bnd (ps B f 3 0 dp (tke (lk B p)) .null) fun r p2 => ps B f 6 0 dp p2 (.op2 .lrem acc r)
       else .inr (acc, p))
    else if nt = 3 then
      (if isT (lk B p) 45 then (if dp = 10 then .inl (tkb (lk B p)) else bnd (ps B f 3 0 (dp + 1) (tke (lk B p)) .null) fun r p2 => .inr (.op1 .lneg r, p2))
       else ps B f 4 0 dp p .null)
    else if nt = 7 ∨ nt = 8 then
      (if n = 8 then .inl (tkb (lk B p))
       else bnd (if nt = 8 then pArea B p else ps B f 9 0 dp p .null) fun a p2 => if isT (lk B p2) 44 then bnd (ps B f nt (n + 1) dp (tke (lk B p2)) .null) fun r p3 => .inr (.div a r, p3) else .inr (.div a .result, p2))
    else if nt = 9 then
      (if (tkk (lk B p) = 2 ∨ tkk (lk B p) = 3 ∨ tkk (lk B p) = 4) ∧ (isT (lk B (tke (lk B p))) 44 = true ∨ isT (lk B (tke (lk B p))) 41 = true ∨ (isT (lk B (tke (lk B p))) 58 = true ∧ tkk (lk B p) = 2)) then pArea B p
       else ps B f 0 0 dp p .null)
    else
      (if tkk (lk B p) = 1 then .inr (.arg (tkv (lk B p)), tke (lk B p))
       else if tkk (lk B p) = 2 then .inr (.index (tkv (lk B p)), tke (lk B p))
       else if tkk (lk B p) = 3 then .inr (.null, tke (lk B p))
       else if tkk (lk B p) = 4 then .inr (.length (.arg (tkv (lk B p))), tke (lk B p))
       else if tkk (lk B p) = 5 then
         (if dp = 10 then .inl (tkb (lk B p))
          else need B 40 (tke (lk B p)) fun p1 =>
            if tkv (lk B p) ≤ 4 then bnd (ps B f (if tkv (lk B p) = 4 then 8 else 7) 0 (dp + 1) p1 .null) fun as p2 => need B 41 p2 fun p3 => .inr (.mul (.arg (tkv (lk B p))) as, p3)
            else if tkv (lk B p) = 8 then bnd (pArea B p1) fun a p2 => need B 44 p2 fun p3 => bnd (ps B f 0 0 (dp + 1) p3 .null) fun e p4 => need B 41 p4 fun p5 => .inr (.mul (.arg 8) (.div a (.div e .result)), p5)
            else if tkv (lk B p) = 7 then bnd (ps B f 0 0 (dp + 1) p1 .null) fun a p2 => need B 44 p2 fun p3 => bnd (pArea B p3) fun e p4 => need B 41 p4 fun p5 => .inr (.mul (.arg 7) (.div a (.div e .result)), p5)
            else if tkv (lk B p) = 5 then bnd (ps B f 0 0 (dp + 1) p1 .null) fun a p2 => need B 44 p2 fun p3 => bnd (ps B f 0 0 (dp + 1) p3 .null) fun b p4 => need B 44 p4 fun p5 => bnd (ps B f 0 0 (dp + 1) p5 .null) fun c p6 => need B 41 p6 fun p7 => .inr (.mul (.arg 5) (.div a (.div b (.div c .result))), p7)
            else bnd (ps B f 0 0 (dp + 1) p1 .null) fun a p2 => need B 41 p2 fun p3 => .inr (.mul (.arg 6) (.div a .result), p3))
       else if isT (lk B p) 40 then
         (if dp = 10 then .inl (tkb (lk B p)) else bnd (ps B f 0 0 (dp + 1) (tke (lk B p)) .null) fun e p2 => need B 41 p2 fun p3 => .inr (.old e, p3))
       else .inl (tkb (lk B p)))
/-- the buffer as a formula -/
def psF (B : List Nat) : PR := bnd (ps B 1000 0 0 0 1 .null) fun t p => if tkk (lk B p) = 0 then .inr (t, p) else .inl (tkb (lk B p))
/-! what tokens are -/
theorem lp_bound {α : Type} (P : Nat → Bool) (g : Nat → Nat → α → α) (B : List Nat) (R : Nat → α → Prop) (hs : ∀ k a, atB P B k = true → R k a → R (k + 1) (g k (by_ B k) a)) : ∀ (n k : Nat) (a : α), B.length - k = n → R k a → ∃ k2, R k2 (lp P g B k a) := by
  intro n
  induction n with
  | zero =>
    intro k a hn h
    rw [lp_step]
    cases q : atB P B k with
    | true => have := atB_lt q; omega
    | false => exact ⟨k, h⟩
  | succ n ih =>
    intro k a hn h
    rw [lp_step]
    cases q : atB P B k with
    | false => exact ⟨k, h⟩
    | true => exact ih (k + 1) _ (by omega) (hs k a q h)
theorem nv_lt (B : List Nat) (b : Nat) : nv B b < 1000000000 := by
  obtain ⟨k, h⟩ := lp_bound isDg (nvg b) B (fun k v => b ≤ k ∧ (k - b ≤ 9 → v < 10 ^ (k - b)) ∧ v < 1000000000) (fun k v q h => by
    obtain ⟨g1, g2, -, -⟩ := atB_rng (lo := 48) (hi := 57) (fun x => rfl) q
    have := nvg_lt h.1 h.2.1 h.2.2 g1 g2
    exact ⟨by omega, this.1, this.2⟩) _ b 0 rfl ⟨Nat.le_refl _, fun _ => by simp, by omega⟩
  exact h.2.2
theorem nc_lt (B : List Nat) (b : Nat) : nc B b < 282429536481 := by
  obtain ⟨k, h⟩ := lp_bound isSm (ncg b) B (fun k v => b ≤ k ∧ (k - b ≤ 8 → v < 27 ^ (k - b)) ∧ v < 282429536481) (fun k v q h => by
    obtain ⟨g1, g2, -, -⟩ := atB_rng (lo := 97) (hi := 122) (fun x => rfl) q
    have := ncg_lt h.1 h.2.1 h.2.2 g1 g2
    exact ⟨by omega, this.1, this.2⟩) _ b 0 rfl ⟨Nat.le_refl _, fun _ => by simp, by omega⟩
  exact h.2.2
theorem rn_gt {P : Nat → Bool} {B : List Nat} {b : Nat} (h : atB P B b = true) : b < rn P B b := by
  rw [rn_step, h]
  have := rn_ge P B (b + 1)
  show b < rn P B (b + 1)
  omega
theorem by_ne {B : List Nat} (hB : bok B) {k x : Nat} (h : by_ B k = x) (hx : x < 256) : k < B.length := (by_lt hB (by omega)).2
theorem lk_mk {s p len b k v e : Nat} (h1 : b = s) (h2 : p < e) (h3 : e ≤ len) (h4 : 0 < k) (h5 : k < 7) (h6 : v < 281474976710656) (h7 : k = 5 → v < 9) (h8 : k = 2 → v < 960) (h9 : k = 1 → v < 1000000000) (h10 : k = 3 → v = 0) : tkb ((b, k, v, e) : Tk) = s ∧ p < tke ((b, k, v, e) : Tk) ∧ tke ((b, k, v, e) : Tk) ≤ len ∧ 0 < tkk ((b, k, v, e) : Tk) ∧ tkk ((b, k, v, e) : Tk) < 7 ∧ tkv ((b, k, v, e) : Tk) < 281474976710656 ∧ (tkk ((b, k, v, e) : Tk) = 5 → tkv ((b, k, v, e) : Tk) < 9) ∧ (tkk ((b, k, v, e) : Tk) = 2 → tkv ((b, k, v, e) : Tk) < 960) ∧ (tkk ((b, k, v, e) : Tk) = 1 → tkv ((b, k, v, e) : Tk) < 1000000000) ∧ (tkk ((b, k, v, e) : Tk) = 3 → tkv ((b, k, v, e) : Tk) = 0) := ⟨h1, h2, h3, h4, h5, h6, h7, h8, h9, h10⟩
theorem lkRef_eq (B : List Nat) (b : Nat) : ∃ k1 k3 m1 m2, lkRef B b = refT B b k1 k3 m1 m2 ∧ b ≤ k1 ∧ k1 < k3 ∧ k3 ≤ b + 3 ∧ m1 + m2 ≤ 720 := by
  cases q1 : (by_ B b == 36) with
  | true =>
    cases q2 : (by_ B (b + 1 + 1) == 36) with
    | true => exact ⟨b + 1, b + 1 + 1 + 1, 240, 480, by unfold lkRef refT; simp only [q1, q2, if_true], by omega, by omega, by omega, by omega⟩
    | false => exact ⟨b + 1, b + 1 + 1, 240, 0, by unfold lkRef refT; simp only [q1, q2, if_true, Bool.false_eq_true, if_false], by omega, by omega, by omega, by omega⟩
  | false =>
    cases q2 : (by_ B (b + 1) == 36) with
    | true => exact ⟨b, b + 1 + 1, 0, 480, by unfold lkRef refT; simp only [q1, q2, if_true, Bool.false_eq_true, if_false], by omega, by omega, by omega, by omega⟩
    | false => exact ⟨b, b + 1, 0, 0, by unfold lkRef refT; simp only [q1, q2, Bool.false_eq_true, if_false], by omega, by omega, by omega, by omega⟩
/-- a token that is taken: its place and number -/
theorem lk_ok {B : List Nat} (hB : bok B) {p : Nat} (hp : p ≤ B.length) : tkk (lk B p) ≠ 0 → tkk (lk B p) ≠ 7 → tkb (lk B p) = skip B p ∧ p < tke (lk B p) ∧ tke (lk B p) ≤ B.length ∧ 0 < tkk (lk B p) ∧ tkk (lk B p) < 7 ∧ tkv (lk B p) < 281474976710656 ∧ (tkk (lk B p) = 5 → tkv (lk B p) < 9) ∧ (tkk (lk B p) = 2 → tkv (lk B p) < 960) ∧ (tkk (lk B p) = 1 → tkv (lk B p) < 1000000000) ∧ (tkk (lk B p) = 3 → tkv (lk B p) = 0) := by
  have k1 : skip B p ≤ B.length := rn_le isSp B _ p rfl hp
  have k0 : p ≤ skip B p := rn_ge isSp B p
  unfold lk
  simp only
  by_cases c0 : by_ B (skip B p) = 300
  · rw [if_pos c0]; intro h0; exact absurd rfl h0
  rw [if_neg c0]
  obtain ⟨hx, hl⟩ := by_lt hB c0
  by_cases c1 : isDg (by_ B (skip B p)) = true
  · rw [if_pos c1]
    have ha : atB isDg B (skip B p) = true := by rw [atB_by hB (by decide)]; exact c1
    have e1 := rn_gt ha
    have e2 := rn_le isDg B _ _ rfl k1
    have e3 := nv_lt B (skip B p)
    by_cases h9 : 9 < rn isDg B (skip B p) - skip B p
    · rw [if_pos h9]; intro _ h7; exact absurd rfl h7
    rw [if_neg h9]
    intro _ _
    exact lk_mk rfl (by omega) e2 (by omega) (by omega) (by omega) (fun q => by omega) (fun q => by omega) (fun q => e3) (fun q => by omega)
  rw [if_neg c1]
  by_cases c2 : isSm (by_ B (skip B p)) = true
  · rw [if_pos c2]
    have ha : atB isSm B (skip B p) = true := by rw [atB_by hB (by decide)]; exact c2
    have e1 := rn_gt ha
    have e2 := rn_le isSm B _ _ rfl k1
    have e3 := nc_lt B (skip B p)
    by_cases h9 : 8 < rn isSm B (skip B p) - skip B p
    · rw [if_pos h9]; intro _ h7; exact absurd rfl h7
    rw [if_neg h9]
    intro _ _
    exact lk_mk rfl (by omega) e2 (by omega) (by omega) (by omega) (fun q => by omega) (fun q => by omega) (fun q => by omega) (fun q => by omega)
  rw [if_neg c2]
  by_cases c3 : (isCa (by_ B (skip B p)) || by_ B (skip B p) == 36) = true
  · rw [if_pos c3]
    unfold lkCap
    simp only
    have e1 := rn_ge isCa B (skip B p)
    have e2 := rn_le isCa B _ _ rfl k1
    by_cases c4 : skip B p < rn isCa B (skip B p) ∧ by_ B (skip B (rn isCa B (skip B p))) = 40
    · rw [if_pos c4]
      cases hf : fnAt B (skip B p) (rn isCa B (skip B p)) with
      | none => intro _ h7; exact absurd rfl h7
      | some f =>
        have := fnAt_lt hf
        intro _ _
        exact lk_mk rfl (by omega) e2 (by omega) (by omega) (by omega) (fun q => by omega) (fun q => by omega) (fun q => by omega) (fun q => by omega)
    · rw [if_neg c4]
      obtain ⟨k1', k3, m1, m2, e, a1, a2, a3, a4⟩ := lkRef_eq B (skip B p)
      rw [e]
      unfold refT
      by_cases c5 : 65 ≤ by_ B k1' ∧ by_ B k1' ≤ 76 ∧ k3 < rn isDg B k3 ∧ by_ B k3 ≠ 48 ∧ 1 ≤ rw_ B k3 ∧ rw_ B k3 ≤ 20
      · rw [if_pos c5]
        have e10 : rn isDg B k3 ≤ B.length := by
          by_cases hk2 : k3 ≤ B.length
          · exact rn_le isDg B _ k3 rfl hk2
          · have hk := c5.2.2.1
            rw [rn_step] at hk
            cases q : atB isDg B k3 with
            | true => have := atB_lt q; omega
            | false => rw [q] at hk; exact absurd hk (Nat.lt_irrefl _)
        intro _ _
        exact lk_mk rfl (by omega) e10 (by omega) (by omega) (by omega) (fun q => by omega) (fun q => by omega) (fun q => by omega) (fun q => by omega)
      · rw [if_neg c5]
        intro _ h7; exact absurd rfl h7
  rw [if_neg c3]
  by_cases c5 : by_ B (skip B p) = 35
  · rw [if_pos c5]
    by_cases c6 : by_ B (skip B p + 1) = 82 ∧ by_ B (skip B p + 2) = 69 ∧ by_ B (skip B p + 3) = 70
    · have := by_ne hB c6.2.2 (by omega)
      rw [if_pos c6]
      intro _ _
      exact lk_mk rfl (by omega) (by omega) (by omega) (by omega) (by omega) (fun q => by omega) (fun q => by omega) (fun q => by omega) (fun q => rfl)
    · rw [if_neg c6]
      intro _ h7; exact absurd rfl h7
  rw [if_neg c5]
  unfold lkSign
  simp only
  by_cases g1 : by_ B (skip B p) = 60 ∧ by_ B (skip B p + 1) = 62
  · rw [if_pos g1]
    have := by_ne hB g1.2 (by omega)
    intro _ _
    exact lk_mk rfl (by omega) (by omega) (by omega) (by omega) (by omega) (fun q => by omega) (fun q => by omega) (fun q => by omega) (fun q => by omega)
  rw [if_neg g1]
  by_cases g2 : by_ B (skip B p) = 60 ∧ by_ B (skip B p + 1) = 61
  · rw [if_pos g2]
    have := by_ne hB g2.2 (by omega)
    intro _ _
    exact lk_mk rfl (by omega) (by omega) (by omega) (by omega) (by omega) (fun q => by omega) (fun q => by omega) (fun q => by omega) (fun q => by omega)
  rw [if_neg g2]
  by_cases g3 : by_ B (skip B p) = 62 ∧ by_ B (skip B p + 1) = 61
  · rw [if_pos g3]
    have := by_ne hB g3.2 (by omega)
    intro _ _
    exact lk_mk rfl (by omega) (by omega) (by omega) (by omega) (by omega) (fun q => by omega) (fun q => by omega) (fun q => by omega) (fun q => by omega)
  rw [if_neg g3]
  by_cases g4 : isSg (by_ B (skip B p)) = true
  · rw [if_pos g4]
    intro _ _
    exact lk_mk rfl (by omega) (by omega) (by omega) (by omega) (by omega) (fun q => by omega) (fun q => by omega) (fun q => by omega) (fun q => by omega)
  · rw [if_neg g4]
    intro _ h7; exact absurd rfl h7
theorem lk_b (B : List Nat) (p : Nat) : tkb (lk B p) = skip B p := by
  unfold lk
  simp only
  split
  · rfl
  split
  · rfl
  split
  · rfl
  split
  · unfold lkCap
    simp only
    split
    · split <;> rfl
    · obtain ⟨k1, k3, m1, m2, e, -⟩ := lkRef_eq B (skip B p)
      rw [e]
      unfold refT
      split <;> rfl
  split
  · rfl
  unfold lkSign
  simp only
  repeat' split
  all_goals rfl
