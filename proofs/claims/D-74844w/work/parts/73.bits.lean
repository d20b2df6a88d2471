/-! PURE: bits of longs; what rests on what -/
def lb (w : Int64) (j : Nat) : Bool := w.toBitVec.getLsbD j
theorem lb_or (a b : Int64) (i : Nat) : lb (a ||| b) i = (lb a i || lb b i) := by unfold lb; rw [Int64.toBitVec_or, BitVec.getLsbD_or]
theorem lb_and (a b : Int64) (i : Nat) : lb (a &&& b) i = (lb a i && lb b i) := by unfold lb; rw [Int64.toBitVec_and, BitVec.getLsbD_and]
theorem lb_xor (a b : Int64) (i : Nat) : lb (a ^^^ b) i = (lb a i ^^ lb b i) := by unfold lb; rw [Int64.toBitVec_xor, BitVec.getLsbD_xor]
theorem lb_ext {a b : Int64} (h : ∀ i, i < 64 → lb a i = lb b i) : a = b := Int64.toBitVec_inj.mp (BitVec.eq_of_getLsbD_eq (fun i hi => h i hi))
theorem lb_0 (i : Nat) : lb (zl 0) i = false := BitVec.getLsbD_zero
theorem lb_1 : ∀ i, i < 64 → lb (zl 1) i = decide (i = 0) := by decide +kernel
theorem lb_m1 : ∀ i, i < 64 → lb (zl (-1)) i = true := by decide +kernel
theorem lb_bit : ∀ j, j < 64 → ∀ i, i < 64 → lb (zl 1 <<< ((zi (j : Nat)).toInt64 &&& 63)) i = decide (i = j) := by decide +kernel
theorem lb_c : ∀ j, j < 64 → (((zi (j : Nat)).toInt64 &&& 63).toBitVec.smod 64).toNat = j := by decide +kernel
theorem lb_has {w : Int64} {j : Nat} (hj : j < 64) : ((w >>> ((zi (j : Nat)).toInt64 &&& 63)) &&& zl 1 = zl 1) ↔ lb w j = true := by
  have key : lb (w >>> ((zi (j : Nat)).toInt64 &&& 63)) 0 = lb w j := by
    unfold lb
    rw [Int64.toBitVec_shiftRight, BitVec.sshiftRight_eq', BitVec.getLsbD_sshiftRight, lb_c j hj]
    simp [hj]
  constructor
  · intro h
    have := congrArg (fun v => lb v 0) h
    simp only [lb_and, lb_1 0 (by decide)] at this
    simp only [decide_true, Bool.and_true] at this
    rw [← key]
    exact this
  · intro h
    refine lb_ext fun i hi => ?_
    rw [lb_and, lb_1 i hi]
    by_cases e : i = 0
    · subst e; rw [key, h]; rfl
    · rw [decide_eq_false e, Bool.and_false]
theorem lb_nz {a b : Int64} : (a &&& (b ^^^ zl (-1))) = zl 0 ↔ ∀ i, i < 64 → lb a i = true → lb b i = true := by
  constructor
  · intro h i hi ha
    have := congrArg (fun v => lb v i) h
    simp only [lb_and, lb_xor, lb_m1 i hi, lb_0, ha, Bool.true_and] at this
    cases hb : lb b i with
    | true => rfl
    | false => rw [hb] at this; cases this
  · intro h
    refine lb_ext fun i hi => ?_
    rw [lb_and, lb_xor, lb_m1 i hi, lb_0]
    cases ha : lb a i with
    | false => rfl
    | true => rw [h i hi ha]; rfl
/-- a table of bits: four longs a row -/
def tbs (L : tw_L) (a : Nat) (D : Nat → Nat → Bool) : Prop := ∀ c e, c < 240 → e < 256 → lb (L a (4 * c + e / 64)) (e % 64) = D c e
/-- one row of bits -/
def tdn (L : tw_L) (D : Nat → Bool) : Prop := ∀ e, e < 256 → lb (L 1335 (e / 64)) (e % 64) = D e
/-- the cells of a rectangle by two corners -/
def bxd (a b e : Nat) : Bool := decide ((min (a % 12) (b % 12) ≤ e % 12 ∧ e % 12 ≤ max (a % 12) (b % 12)) ∧ min (a / 12) (b / 12) ≤ e / 12 ∧ e / 12 ≤ max (a / 12) (b / 12))
def nmd (N : List Nm) (c e : Nat) : Bool := match (nmAt N c).bind fun n => N[n]? with
  | some (_, some (a, b)) => bxd a b e
  | _ => false
/-- the cells of a formula -/
def dpT (N : List Nm) : Fm → Nat → Bool
  | .index v, e => bxd (v % 240) (v % 240) e
  | .elem (.index u) (.index v), e => bxd (u % 240) (v % 240) e
  | .length (.arg c), e => nmd N c e
  | .op2 _ l r, e => dpT N l e || dpT N r e
  | .op1 _ a, e => dpT N a e
  | .old a, e => dpT N a e
  | .mul (.arg _) as, e => dpT N as e
  | .div a r, e => dpT N a e || dpT N r e
  | _, _ => false
def dp1 (N : List Nm) (q : Nat × Nat) (r : List (Nat × Nat)) (e : Nat) : Bool :=
  if q.1 = 2 then (if r.head? = some (6, 58) then bxd (q.2 % 240) (((r[1]?).getD (0, 0)).2 % 240) e else bxd (q.2 % 240) (q.2 % 240) e) else if q.1 = 4 then nmd N q.2 e else false
def dpL (N : List Nm) : List (Nat × Nat) → Nat → Bool
  | [], _ => false
  | q :: r, e => dp1 N q r e || dpL N r e
theorem dpL_o (N : List Nm) (k c : Nat) (h2 : k ≠ 2) (h4 : k ≠ 4) (r : List (Nat × Nat)) (e : Nat) : dpL N ((k, c) :: r) e = dpL N r e := by
  rw [dpL]
  unfold dp1
  rw [if_neg h2, if_neg h4, Bool.false_or]
theorem bxd_in (a b e : Nat) (h : bxd b b e = true) : bxd a b e = true := by
  unfold bxd at *
  rw [decide_eq_true_eq] at *
  omega
theorem dpL_tk (N : List Nm) (e : Nat) : ∀ t : Fm, wf t → ∀ r : List (Nat × Nat), r.head? ≠ some (6, 58) → dpL N (tk t ++ r) e = (dpT N t e || dpL N r e) := by
  intro t
  induction t using tk.induct with
  | case1 n => intro h r hr; show dpL N ((1, n) :: r) e = _; rw [dpL_o _ _ _ (by omega) (by omega)]; rfl
  | case2 v =>
    intro h r hr
    show dpL N ((2, v) :: r) e = _
    rw [dpL]
    unfold dp1
    rw [if_pos rfl, if_neg hr]
    rfl
  | case3 => intro h r hr; show dpL N ((3, 0) :: r) e = _; rw [dpL_o _ _ _ (by omega) (by omega)]; rfl
  | case4 c =>
    intro h r hr
    show dpL N ((4, c) :: r) e = _
    rw [dpL]
    unfold dp1
    rw [if_neg (by omega), if_pos rfl]
    rfl
  | case5 u v =>
    intro h r hr
    show dpL N ((2, u) :: (6, 58) :: (2, v) :: r) e = _
    rw [dpL, dpL_o _ _ _ (by omega) (by omega), dpL]
    unfold dp1
    rw [if_pos rfl, if_pos rfl, if_pos (show ((6, 58) :: (2, v) :: r).head? = some (6, 58) from rfl), if_neg hr]
    show (bxd (u % 240) (v % 240) e || (bxd (v % 240) (v % 240) e || dpL N r e)) = (bxd (u % 240) (v % 240) e || dpL N r e)
    have := bxd_in (u % 240) (v % 240) e
    cases h1 : bxd (v % 240) (v % 240) e with
    | false => rw [Bool.false_or]
    | true => rw [this h1]; simp
  | case6 o l r ihl ihr =>
    intro h s hs
    show dpL N ((tk l ++ (6, opc o) :: tk r) ++ s) e = ((dpT N l e || dpT N r e) || _)
    rw [List.append_assoc, List.cons_append, ihl h.1 _ (hd_ne _ (opc_ne o) _), dpL_o _ _ _ (by omega) (by omega), ihr h.2.1 s hs, Bool.or_assoc]
  | case7 o a ih =>
    intro h s hs
    show dpL N ((6, 45) :: (tk a ++ s)) e = (dpT N a e || _)
    have ha : wf a := by cases o <;> first | exact h.1 | exact absurd h (by simp [wf])
    rw [dpL_o _ _ _ (by omega) (by omega), ih ha s hs]
  | case8 a ih =>
    intro h s hs
    show dpL N ((6, 40) :: ((tk a ++ [(6, 41)]) ++ s)) e = (dpT N a e || _)
    rw [dpL_o _ _ _ (by omega) (by omega), List.append_assoc, List.cons_append, List.nil_append, ih h.1 _ (hd_ne _ (by omega) _), dpL_o _ _ _ (by omega) (by omega)]
  | case9 f as ih =>
    intro h s hs
    show dpL N ((5, f) :: (6, 40) :: ((tk as ++ [(6, 41)]) ++ s)) e = (dpT N as e || _)
    rw [dpL_o _ _ _ (by omega) (by omega), dpL_o _ _ _ (by omega) (by omega), List.append_assoc, List.cons_append, List.nil_append, ih h.1 _ (hd_ne _ (by omega) _), dpL_o _ _ _ (by omega) (by omega)]
  | case10 a ih =>
    intro h s hs
    show dpL N (tk a ++ s) e = ((dpT N a e || false) || _)
    rw [ih h.1 s hs, Bool.or_false]
  | case11 a r hr iha ihr =>
    intro h s hs
    have hd : ∃ x y, r = .div x y := by
      rcases isL_div h.2.2.1 with z | z
      · exact absurd z hr
      · exact z
    show _ = ((dpT N a e || dpT N r e) || _)
    rw [tk_div a r hd, List.append_assoc, List.cons_append, iha h.1 _ (hd_ne _ (by omega) _), dpL_o _ _ _ (by omega) (by omega), ihr h.2.1 s hs, Bool.or_assoc]
  | case12 t h1 h2 h3 h4 h5 h6 h7 h8 h9 h10 h11 =>
    intro h s hs
    have e1 : tk t = [] := by
      rw [tk]
      all_goals assumption
    have e2 : dpT N t e = false := by
      unfold dpT
      split <;> first | rfl | (exfalso; simp_all)
    rw [e2, e1]
    rfl
theorem dpL_all (N : List Nm) (e : Nat) {t : Fm} (h : wf t) : dpL N (tk t) e = dpT N t e := by
  have := dpL_tk N e t h [] (by simp)
  rw [List.append_nil] at this
  rw [this]
  show (_ || false) = _
  rw [Bool.or_false]
def isF (S : Sh) (c : Nat) : Bool := decide (cty (S.1 c) = 2)
/-- direct dependencies -/
def dir (S : Sh) (c e : Nat) : Bool := match S.1 c with
  | some (.inr t) => dpT S.2 t e
  | _ => false
/-- Warshall's way -/
def war (F : Nat → Bool) (D : Nat → Nat → Bool) : Nat → Nat → Nat → Bool
  | 0 => D
  | n + 1 => fun c e => war F D n c e || (F n && war F D n c n && war F D n n e)
def rch (S : Sh) : Nat → Nat → Bool := war (isF S) (dir S) 240
theorem war_row (F : Nat → Bool) (D : Nat → Nat → Bool) (n e : Nat) : war F D (n + 1) n e = war F D n n e := by
  show (war F D n n e || (F n && war F D n n n && war F D n n e)) = _
  cases war F D n n e <;> simp
theorem dir_n {S : Sh} {c : Nat} (h : cty (S.1 c) ≠ 2) (e : Nat) : dir S c e = false := by
  unfold dir
  match hq : S.1 c with
  | none => rfl
  | some (.inl n) => rfl
  | some (.inr t) => rw [hq] at h; exact absurd rfl h
theorem dir_f {S : Sh} {c : Nat} (hok : cok (S.1 c)) (e : Nat) : dir S c e = dpL S.2 (ctk (S.1 c)) e := by
  unfold dir
  match hq : S.1 c with
  | none => rfl
  | some (.inl n) => rfl
  | some (.inr t) => rw [hq] at hok; exact (dpL_all _ _ hok.1).symm
