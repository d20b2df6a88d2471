/-! PURE: what formulas come to: errors (0: none) and numbers -/
abbrev Er : Type := Nat × Int64
def tkV (V : Nat → Vl) (c : Nat) : Er := if (V c).1 = 2 then ((V c).2.toInt.toNat, zl 0) else (0, (V c).2)
def nmR (N : List Nm) (c : Nat) : Option (Option (Nat × Nat)) := ((nmAt N c).bind fun n => N[n]?).map fun q => q.2
/-- an area: its error, or its corners -/
def arV (N : List Nm) (t : Fm) : Nat ⊕ (Nat × Nat) := match t with
  | .index v => .inr (v % 240, v % 240)
  | .elem (.index u) (.index v) => .inr (12 * min (u % 240 / 12) (v % 240 / 12) + min (u % 240 % 12) (v % 240 % 12), 12 * max (u % 240 / 12) (v % 240 / 12) + max (u % 240 % 12) (v % 240 % 12))
  | .length (.arg c) => match nmR N c with
    | none => .inl 3
    | some none => .inl 4
    | some (some ab) => .inr ab
  | _ => .inl 4
def addE (a b : Int64) : Er := if ((a ^^^ (a + b)) &&& (b ^^^ (a + b))) < zl 0 then (5, zl 0) else (0, a + b)
def subE (a b : Int64) : Er := if ((a ^^^ b) &&& (a ^^^ (a - b))) < zl 0 then (5, zl 0) else (0, a - b)
def mulE (a b : Int64) : Er := if -9223372036854775808 ≤ a.toInt * b.toInt ∧ a.toInt * b.toInt < 9223372036854775808 then (0, a * b) else (5, zl 0)
def divE (a b : Int64) : Er := if b = zl 0 then (2, zl 0) else if b = zl (-1) ∧ a = zl (-9223372036854775808) then (5, zl 0) else (0, a / b)
def remE (a b : Int64) : Er := if b = zl 0 then (2, zl 0) else if b = zl (-1) then (0, zl 0) else (0, a - a / b * b)
def blE (c : Bool) : Er := (0, if c then zl 1 else zl 0)
def apE (o : Jvm.Binary) (a b : Int64) : Er := match o with
  | .ladd => addE a b
  | .lsub => subE a b
  | .lmul => mulE a b
  | .ldiv => divE a b
  | .lrem => remE a b
  | .land => blE (decide (a = b))
  | .lor => blE (!decide (a = b))
  | .lxor => blE (decide (a < b))
  | .lshl => blE (!decide (b < a))
  | .lshr => blE (decide (b < a))
  | .lushr => blE (!decide (a < b))
  | _ => (0, zl 0)
def binE (o : Jvm.Binary) (x y : Er) : Er := if x.1 ≠ 0 then (x.1, zl 0) else if y.1 ≠ 0 then y else apE o x.2 y.2
def negE (x : Er) : Er := if x.1 ≠ 0 then x else subE (zl 0) x.2
/-- the cells of a box, the last n of the sheet -/
def celF (f l : Nat) : Nat → List Nat
  | 0 => []
  | n + 1 => if inb (239 - n) f l then (239 - n) :: celF f l n else celF f l n
def mtL (V : Nat → Vl) (w : Int64) : List Nat → Nat → Er
  | [], _ => (7, zl 0)
  | c :: r, k => if (V c).1 = 1 ∧ (V c).2 = w then (0, zl ((k + 1 : Nat) : Int)) else mtL V w r (k + 1)
def ixL (V : Nat → Vl) (w : Int64) : List Nat → Nat → Er
  | [], _ => (4, zl 0)
  | c :: r, k => if zl ((k + 1 : Nat) : Int) = w then tkV V c else ixL V w r (k + 1)
/-- what comes of an area: the values of its cells that aren't empty -/
def arE (V : Nat → Vl) (l : List Nat) : List Er := (l.filter fun c => !decide ((V c).1 = 0)).map (tkV V)
def arB (t : Fm) : Bool := match t with
  | .index _ => true
  | .null => true
  | .length _ => true
  | .elem _ _ => true
  | _ => false
def agE (N : List Nm) (V : Nat → Vl) (t : Fm) (v : Er) : List Er := if arB t then (match arV N t with
  | .inl e => [(e, zl 0)]
  | .inr (f, l) => arE V (celF f l 240)) else [v]
def agsE (N : List Nm) (V : Nat → Vl) : List Fm → List Er → List Er
  | t :: ts, v :: vs => agE N V t v ++ agsE N V ts vs
  | _, _ => []
/-- how many, the sum and whether it went beyond, the least, the greatest -/
abbrev Ac : Type := Nat × Int64 × Bool × Int64 × Int64
def ac0 : Ac := (0, zl 0, false, zl 0, zl 0)
def acS (A : Ac) (v : Int64) : Ac := (A.1 + 1, A.2.1 + v, A.2.2.1 || decide (((A.2.1 ^^^ (A.2.1 + v)) &&& (v ^^^ (A.2.1 + v))) < zl 0), if A.1 = 0 ∨ v < A.2.2.2.1 then v else A.2.2.2.1, if A.1 = 0 ∨ A.2.2.2.2 < v then v else A.2.2.2.2)
def acL : List Er → Ac → Ac
  | [], A => A
  | x :: r, A => acL r (if x.1 = 0 then acS A x.2 else A)
def fer : List Er → Nat
  | [] => 0
  | x :: r => if x.1 = 0 then fer r else x.1
def acF (f : Nat) (A : Ac) : Er := if f = 1 then (0, A.2.2.2.1) else if f = 2 then (0, A.2.2.2.2) else if f = 3 ∧ A.1 = 0 then (2, zl 0) else if A.2.2.1 then (5, zl 0) else if f = 0 then (0, A.2.1) else (0, A.2.1 / zl A.1)
def gaE (f : Nat) (l : List Er) : Er := if fer l = 0 then acF f (acL l ac0) else (fer l, zl 0)
/-- how many numbers in areas; the first error -/
def cnE (N : List Nm) (V : Nat → Vl) : List Fm → Nat × Nat
  | [] => (0, 0)
  | t :: r => match arV N t with
    | .inl e => (e, (cnE N V r).2)
    | .inr (f, l) => ((cnE N V r).1, cnt (fun c => inb c f l && decide ((V c).1 = 1)) 240 + (cnE N V r).2)
def clE (N : List Nm) (V : Nat → Vl) (f : Nat) (ts : List Fm) (vs : List Er) : Er := match f, ts, vs with
  | 4, ts, _ => if (cnE N V ts).1 = 0 then (0, zl ((cnE N V ts).2 : Nat)) else ((cnE N V ts).1, zl 0)
  | 5, _, [x, y, z] => if x.1 ≠ 0 then (x.1, zl 0) else if x.2 = zl 0 then z else y
  | 6, _, [x] => if x.1 ≠ 0 then x else if x.2 < zl 0 then subE (zl 0) x.2 else x
  | 7, [_, a], [x, _] => if x.1 ≠ 0 then (x.1, zl 0) else (match arV N a with
    | .inl e => (e, zl 0)
    | .inr (f, l) => mtL V x.2 (celF f l 240) 0)
  | 8, [a, _], [_, x] => (match arV N a with
    | .inl e => (e, zl 0)
    | .inr (f, l) => if x.1 ≠ 0 then x else ixL V x.2 (celF f l 240) 0)
  | f, ts, vs => gaE f (agsE N V ts vs)
def hd1 (l : List Er) : Er := l.headD (0, zl 0)
/-- a formula's value, alone in its list; of arguments their values -/
def evT (N : List Nm) (V : Nat → Vl) : Fm → List Er
  | .arg n => [(0, zl n)]
  | .index v => [tkV V (v % 240)]
  | .null => [(4, zl 0)]
  | .elem _ _ => [(6, zl 0)]
  | .length (.arg c) => [match nmR N c with
    | none => (3, zl 0)
    | some none => (4, zl 0)
    | some (some (a, b)) => if a = b then tkV V a else (6, zl 0)]
  | .op2 o l r => [binE o (hd1 (evT N V l)) (hd1 (evT N V r))]
  | .op1 _ a => [negE (hd1 (evT N V a))]
  | .old a => [hd1 (evT N V a)]
  | .mul (.arg f) as => [clE N V f (ags as) (evT N V as)]
  | .div a r => evT N V a ++ evT N V r
  | _ => []
def ev1 (N : List Nm) (V : Nat → Vl) (t : Fm) : Er := hd1 (evT N V t)
theorem evT_1 (N : List Nm) (V : Nat → Vl) {t : Fm} (h : wf t) (h2 : ar t ∨ 1 ≤ lv t) : evT N V t = [ev1 N V t] := by
  unfold ev1
  cases t with
  | arg n => rfl
  | index v => rfl
  | null => rfl
  | elem a b => rfl
  | length a => cases a <;> first | rfl | exact absurd h (by simp [wf])
  | op2 o l r => rfl
  | op1 o a => rfl
  | old a => rfl
  | mul a as => cases a <;> first | rfl | exact absurd h (by simp [wf])
  | _ => rcases h2 with z | z <;> simp [ar, lv] at z
theorem evT_L (N : List Nm) (V : Nat → Vl) : ∀ as : Fm, wf as → isL as → evT N V as = (ags as).map (ev1 N V) := by
  intro as
  induction as with
  | div a r iha ihr =>
    intro h hl
    show evT N V a ++ evT N V r = ev1 N V a :: (ags r).map (ev1 N V)
    rw [evT_1 N V h.1 h.2.2.2, ihr h.2.1 hl]
    rfl
  | result => intro _ _; rfl
  | _ => intro h hl; exact absurd hl (by simp [isL])
theorem ags_mem : ∀ (as : Fm), wf as → isL as → ∀ a ∈ ags as, wf a ∧ (ar a ∨ 1 ≤ lv a) := by
  intro as
  induction as with
  | div a r iha ihr =>
    intro h hl x hx
    rcases List.mem_cons.mp hx with rfl | hx
    · exact ⟨h.1, h.2.2.2⟩
    · exact ihr h.2.1 hl x hx
  | result => intro _ _ x hx; cases hx
  | _ => intro h hl; exact absurd hl (by simp [isL])
/-- an error comes with 0 -/
def erk (x : Er) : Prop := x.1 ≤ 8 ∧ (x.1 ≠ 0 → x.2 = zl 0)
theorem erk_n (v : Int64) : erk (0, v) := ⟨Nat.zero_le _, fun z => absurd rfl z⟩
theorem erk_e {e : Nat} (h : e ≤ 8) : erk (e, zl 0) := ⟨h, fun _ => rfl⟩
theorem tkV_k {V : Nat → Vl} {c : Nat} (h : vok (V c)) : erk (tkV V c) := by
  unfold tkV
  split
  · rename_i h2
    rcases h with h | h | ⟨_, e, he, h1, h8⟩
    · omega
    · omega
    · rw [he, zl_toInt (by omega) (by omega)]
      exact erk_e (by omega)
  · exact erk_n _
