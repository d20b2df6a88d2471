/-! PURE: the buffer's tokens, formulas, their reading -/
/-- the first place from p on whose byte isn't of the kind P -/
def rnF (P : Nat → Bool) (B : List Nat) : Nat → Nat → Nat
  | 0, p => p
  | n + 1, p => match B[p]? with
    | some x => if P x then rnF P B n (p + 1) else p
    | none => p
def rn (P : Nat → Bool) (B : List Nat) (p : Nat) : Nat := rnF P B (B.length + 1) p
def isSp (x : Nat) : Bool := x == 32
def isDg (x : Nat) : Bool := Nat.ble 48 x && Nat.ble x 57
def isSm (x : Nat) : Bool := Nat.ble 97 x && Nat.ble x 122
def isCa (x : Nat) : Bool := Nat.ble 65 x && Nat.ble x 90
def atB (P : Nat → Bool) (B : List Nat) (p : Nat) : Bool := match B[p]? with
  | some x => P x
  | none => false
theorem rnF_ge (P : Nat → Bool) (B : List Nat) : ∀ n p, p ≤ rnF P B n p := by
  intro n
  induction n with
  | zero => intro p; exact Nat.le_refl _
  | succ n ih =>
    intro p
    unfold rnF
    split
    · split
      · exact Nat.le_trans (Nat.le_succ _) (ih (p + 1))
      · exact Nat.le_refl _
    · exact Nat.le_refl _
theorem rnF_step (P : Nat → Bool) (B : List Nat) : ∀ n p, B.length < n + p → rnF P B n p = if atB P B p then rnF P B n (p + 1) else p := by
  intro n
  induction n with
  | zero =>
    intro p h
    unfold rnF atB
    rw [List.getElem?_eq_none (by omega)]
    rfl
  | succ n ih =>
    intro p h
    unfold rnF atB
    cases hb : B[p]? with
    | none => rfl
    | some x =>
      have hp : p < B.length := (List.getElem?_eq_some_iff.mp hb).1
      simp only
      by_cases hx : P x = true
      · rw [if_pos hx, if_pos hx]
        rw [ih (p + 1) (by omega)]
        show _ = (match B[p + 1]? with | some x => if P x then rnF P B n (p + 1 + 1) else p + 1 | none => p + 1)
        unfold atB
        cases B[p + 1]? with
        | none => rfl
        | some y => rfl
      · rw [if_neg hx, if_neg hx]
theorem rn_step (P : Nat → Bool) (B : List Nat) (p : Nat) : rn P B p = if atB P B p then rn P B (p + 1) else p := rnF_step P B _ p (by omega)
theorem rn_ge (P : Nat → Bool) (B : List Nat) (p : Nat) : p ≤ rn P B p := rnF_ge P B _ p
theorem atB_lt {P : Nat → Bool} {B : List Nat} {p : Nat} (h : atB P B p = true) : p < B.length := by
  unfold atB at h
  cases hb : B[p]? with
  | none => rw [hb] at h; cases h
  | some x => exact (List.getElem?_eq_some_iff.mp hb).1
theorem rn_le (P : Nat → Bool) (B : List Nat) : ∀ n p, B.length - p = n → p ≤ B.length → rn P B p ≤ B.length := by
  intro n
  induction n with
  | zero =>
    intro p h1 h2
    rw [rn_step]
    split
    · rename_i h; have := atB_lt h; omega
    · exact h2
  | succ n ih =>
    intro p h1 h2
    rw [rn_step]
    split
    · exact ih (p + 1) (by omega) (by omega)
    · exact h2
theorem rn_end (P : Nat → Bool) (B : List Nat) : ∀ n p, B.length - p = n → atB P B (rn P B p) = false := by
  intro n
  induction n with
  | zero =>
    intro p h1
    rw [rn_step]
    split
    · rename_i h; have := atB_lt h; omega
    · rename_i h; simpa using h
  | succ n ih =>
    intro p h1
    rw [rn_step]
    split
    · exact ih (p + 1) (by omega)
    · rename_i h; simpa using h
theorem rn_idem (P : Nat → Bool) (B : List Nat) (p : Nat) : rn P B (rn P B p) = rn P B p := by
  rw [rn_step, rn_end P B _ p rfl]; rfl
def skip (B : List Nat) (p : Nat) : Nat := rn isSp B p
/-- the byte at p; 300: none -/
def by_ (B : List Nat) (p : Nat) : Nat := (B[p]?).getD 300
/-- a loop over the bytes of a kind -/
def lpF {α : Type} (P : Nat → Bool) (g : Nat → Nat → α → α) (B : List Nat) : Nat → Nat → α → α
  | 0, _, a => a
  | n + 1, k, a => if atB P B k then lpF P g B n (k + 1) (g k (by_ B k) a) else a
def lp {α : Type} (P : Nat → Bool) (g : Nat → Nat → α → α) (B : List Nat) (k : Nat) (a : α) : α := lpF P g B (B.length + 1) k a
theorem lpF_step {α : Type} (P : Nat → Bool) (g : Nat → Nat → α → α) (B : List Nat) : ∀ n k a, B.length < n + k → lpF P g B n k a = if atB P B k then lpF P g B n (k + 1) (g k (by_ B k) a) else a := by
  intro n
  induction n with
  | zero =>
    intro k a h
    by_cases hc : atB P B k = true
    · have := atB_lt hc; omega
    · rw [if_neg hc]; rfl
  | succ n ih =>
    intro k a h
    show (if atB P B k then _ else a) = _
    by_cases hc : atB P B k = true
    · rw [if_pos hc, if_pos hc, ih _ _ (by omega)]
      rfl
    · rw [if_neg hc, if_neg hc]
theorem lp_step {α : Type} (P : Nat → Bool) (g : Nat → Nat → α → α) (B : List Nat) (k : Nat) (a : α) : lp P g B k a = if atB P B k then lp P g B (k + 1) (g k (by_ B k) a) else a := lpF_step P g B _ k a (by omega)
/-- a number's value: the first nine digits -/
def nvg (b k x v : Nat) : Nat := if k - b < 9 then 10 * v + x - 48 else v
def nv (B : List Nat) (b : Nat) : Nat := lp isDg (nvg b) B b 0
/-- a name's code -/
def ncg (b k x v : Nat) : Nat := if k - b < 8 then 27 * v + x - 97 + 1 else v
def nc (B : List Nat) (b : Nat) : Nat := lp isSm (ncg b) B b 0
/-- a row's number -/
def rwg (k x v : Nat) : Nat := min 99 (10 * v + x - 48)
def rw_ (B : List Nat) (k : Nat) : Nat := lp isDg rwg B k 0
def fnames : List (List Nat) := [[83, 85, 77], [77, 73, 78], [77, 65, 88], [65, 86, 71], [67, 79, 85, 78, 84], [73, 70], [65, 66, 83], [77, 65, 84, 67, 72], [73, 78, 68, 69, 88]]
/-- the function called by the bytes from b to e -/
def fnAt (B : List Nat) (b e : Nat) : Option Nat := fnames.findIdx? fun f => f == (B.drop b).take (e - b)
/-- a token: begin, kind, number, end -/
abbrev Tk : Type := Nat × Nat × Nat × Nat
def lkRef (B : List Nat) (b : Nat) : Tk :=
  let f1 := by_ B b == 36
  let k1 := if f1 then b + 1 else b
  let k2 := k1 + 1
  let f2 := by_ B k2 == 36
  let k3 := if f2 then k2 + 1 else k2
  let e := rn isDg B k3
  let c := by_ B k1
  let r := rw_ B k3
  if 65 ≤ c ∧ c ≤ 76 ∧ k3 < e ∧ by_ B k3 ≠ 48 ∧ 1 ≤ r ∧ r ≤ 20 then (b, 2, 12 * (r - 1) + (c - 65) + (if f1 then 240 else 0) + (if f2 then 480 else 0), e) else (b, 7, 0, e)
def isSg (a : Nat) : Bool := a == 43 || a == 45 || a == 42 || a == 47 || a == 37 || a == 61 || a == 60 || a == 62 || a == 40 || a == 41 || a == 44 || a == 58
def lkSign (B : List Nat) (b : Nat) : Tk :=
  let a := by_ B b
  let c := by_ B (b + 1)
  if a = 60 ∧ c = 62 then (b, 6, 256, b + 2) else if a = 60 ∧ c = 61 then (b, 6, 257, b + 2) else if a = 62 ∧ c = 61 then (b, 6, 258, b + 2) else (b, if isSg a then 6 else 7, a, b + 1)
def lkCap (B : List Nat) (b : Nat) : Tk :=
  let k := rn isCa B b
  if b < k ∧ by_ B (skip B k) = 40 then (match fnAt B b k with
    | some f => (b, 5, f, k)
    | none => (b, 7, 0, k)) else lkRef B b
def lk (B : List Nat) (p : Nat) : Tk :=
  let b := skip B p
  let x := by_ B b
  if x = 300 then (b, 0, 0, b)
  else if isDg x then (b, if 9 < rn isDg B b - b then 7 else 1, nv B b, rn isDg B b)
  else if isSm x then (b, if 8 < rn isSm B b - b then 7 else 4, nc B b, rn isSm B b)
  else if isCa x || x == 36 then lkCap B b
  else if x = 35 then (b, if by_ B (b + 1) = 82 ∧ by_ B (b + 2) = 69 ∧ by_ B (b + 3) = 70 then 3 else 7, 0, b + 4)
  else lkSign B b
