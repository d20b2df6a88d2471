/-! THE ABSTRACT STATE: buffer, sheet, history, values, old values, marks, cycles that were, automatic, last evaluated -/
/-- a name's code -/
def cod (l : List Nat) : Nat := l.foldl (fun v x => 27 * v + (x - 96)) 0
def okN (c : Nat) : Prop := ∃ l : List Nat, 0 < l.length ∧ l.length ≤ 8 ∧ (∀ x ∈ l, 97 ≤ x ∧ x ≤ 122) ∧ c = cod l
def ocl (o : Jvm.Binary) : Nat := match o with
  | .ladd => 2
  | .lsub => 2
  | .lmul => 3
  | .ldiv => 3
  | .lrem => 3
  | .land => 1
  | .lor => 1
  | .lxor => 1
  | .lshl => 1
  | .lshr => 1
  | .lushr => 1
  | _ => 0
/-- how tightly a tree holds together -/
def lv : Fm → Nat
  | .arg _ => 4
  | .index _ => 4
  | .null => 4
  | .length _ => 4
  | .op2 o _ _ => ocl o
  | .op1 _ _ => 4
  | .old _ => 4
  | .mul _ _ => 4
  | _ => 0
def ar : Fm → Prop
  | .index _ => True
  | .null => True
  | .length _ => True
  | .elem _ _ => True
  | _ => False
def ags : Fm → List Fm
  | .div a r => a :: ags r
  | _ => []
def isL : Fm → Prop
  | .div _ r => isL r
  | .result => True
  | _ => False
def shp (f : Nat) (l : List Fm) : Prop := match f with
  | 4 => 1 ≤ l.length ∧ l.length ≤ 8 ∧ ∀ a ∈ l, ar a
  | 5 => l.length = 3 ∧ ∀ a ∈ l, 1 ≤ lv a
  | 6 => l.length = 1 ∧ ∀ a ∈ l, 1 ≤ lv a
  | 7 => ∃ a b, l = [a, b] ∧ 1 ≤ lv a ∧ ar b
  | 8 => ∃ a b, l = [a, b] ∧ ar a ∧ 1 ≤ lv b
  | _ => f < 4 ∧ 1 ≤ l.length ∧ l.length ≤ 8 ∧ ∀ a ∈ l, ar a ∨ 1 ≤ lv a
def wf : Fm → Prop
  | .arg n => n < 1000000000
  | .index v => v < 960
  | .null => True
  | .length (.arg c) => okN c
  | .elem (.index u) (.index v) => u < 960 ∧ v < 960
  | .op2 o l r => wf l ∧ wf r ∧ ocl o ≠ 0 ∧ (if ocl o = 1 then 2 else ocl o) ≤ lv l ∧ ocl o + 1 ≤ lv r
  | .op1 .lneg a => wf a ∧ 4 ≤ lv a
  | .old a => wf a ∧ 1 ≤ lv a
  | .mul (.arg f) as => wf as ∧ isL as ∧ shp f (ags as)
  | .div a r => wf a ∧ wf r ∧ isL r ∧ (ar a ∨ 1 ≤ lv a)
  | .result => True
  | _ => False
abbrev Cn : Type := Option (Int ⊕ Fm)
abbrev Nm : Type := Nat × Option (Nat × Nat)
abbrev Sh : Type := (Nat → Cn) × List Nm
abbrev Vl : Type := Nat × Int64
def box (a b : Nat) : Prop := a < 240 ∧ b < 240 ∧ a % 12 ≤ b % 12 ∧ a / 12 ≤ b / 12
/-- a content that may be -/
def cok (q : Cn) : Prop := match q with
  | none => True
  | some (.inl n) => -2147483648 ≤ n ∧ n < 2147483648
  | some (.inr t) => wf t ∧ 1 ≤ lv t ∧ (tk t).length ≤ 80
def nok (q : Nm) : Prop := okN q.1 ∧ match q.2 with
  | none => True
  | some (a, b) => box a b
def cty (q : Cn) : Nat := match q with
  | none => 0
  | some (.inl _) => 1
  | some (.inr _) => 2
def ctk (q : Cn) : List (Nat × Nat) := match q with
  | some (.inr t) => tk t
  | _ => []
/-! THE TWIN's form of it -/
def tcell (I : tw_I) (L : tw_L) (x : Nat) (q : Cn) : Prop := I 1316 x = zi (cty q) ∧ ttk I L x (ctk q) ∧ cok q ∧ ∀ n, q = some (.inl n) → L 1317 x = zl n
def tnm (I : tw_I) (L : tw_L) (x : Nat) (q : Nm) : Prop := L 1321 x = zl q.1 ∧ nok q ∧ match q.2 with
  | none => I 1322 x = zi (-1) ∧ I 1323 x = zi (-1)
  | some (a, b) => I 1322 x = zi a ∧ I 1323 x = zi b
def tsh (I : tw_I) (L : tw_L) (k : Nat) (S : Sh) : Prop := (∀ c, c < 240 → tcell I L (240 * k + c) (S.1 c)) ∧ I 1320 k = zi S.2.length ∧ S.2.length ≤ 10 ∧ ∀ (n : Nat) (q : Nm), S.2[n]? = some q → tnm I L (10 * k + n) q
theorem tcell.kept {W : Nat → Nat → Prop} {I I2 : tw_I} {L L2 : tw_L} {x : Nat} {q : Cn} (h : tcell I L x q) (f : twf W I L I2 L2) (h1 : ¬ W 1316 x) (h2 : ¬ W 1317 x) (h3 : ¬ W 1318 x) (h4 : ∀ i, i < 80 → ¬ W 1319 (80 * x + i)) : tcell I2 L2 x q := by
  obtain ⟨a, ⟨b1, b2, b3⟩, c, e⟩ := h
  refine ⟨by rw [(f _ _ h1).1]; exact a, ⟨by rw [(f _ _ h3).1]; exact b1, b2, fun i q hq => ?_⟩, c, fun n hn => by rw [(f _ _ h2).2]; exact e n hn⟩
  have hi := (List.getElem?_eq_some_iff.mp hq).1
  rw [(f _ _ (h4 i (by omega))).2]
  exact b3 i q hq
theorem tnm.kept {W : Nat → Nat → Prop} {I I2 : tw_I} {L L2 : tw_L} {x : Nat} {q : Nm} (h : tnm I L x q) (f : twf W I L I2 L2) (h1 : ¬ W 1321 x) (h2 : ¬ W 1322 x) (h3 : ¬ W 1323 x) : tnm I2 L2 x q := by
  obtain ⟨a, b, c⟩ := h
  refine ⟨by rw [(f _ _ h1).2]; exact a, b, ?_⟩
  rw [(f _ _ h2).1, (f _ _ h3).1]
  exact c
/-- the places of state k -/
def KW (k a i : Nat) : Prop := ((a = 1316 ∨ a = 1317 ∨ a = 1318) ∧ 240 * k ≤ i ∧ i < 240 * k + 240) ∨ (a = 1319 ∧ 19200 * k ≤ i ∧ i < 19200 * k + 19200) ∨ (a = 1320 ∧ i = k) ∨ ((a = 1321 ∨ a = 1322 ∨ a = 1323) ∧ 10 * k ≤ i ∧ i < 10 * k + 10)
theorem tsh.kept {W : Nat → Nat → Prop} {I I2 : tw_I} {L L2 : tw_L} {k : Nat} {S : Sh} (h : tsh I L k S) (f : twf W I L I2 L2) (hw : ∀ a i, W a i → ¬ KW k a i) : tsh I2 L2 k S := by
  obtain ⟨a, b, c, e⟩ := h
  refine ⟨fun x hx => (a x hx).kept f (fun z => hw _ _ z (by unfold KW; omega)) (fun z => hw _ _ z (by unfold KW; omega)) (fun z => hw _ _ z (by unfold KW; omega)) (fun i hi z => hw _ _ z (by unfold KW; omega)), by rw [(f _ _ (fun z => hw _ _ z (by unfold KW; omega))).1]; exact b, c, fun n q hq => ?_⟩
  have hn := (List.getElem?_eq_some_iff.mp hq).1
  exact (e n q hq).kept f (fun z => hw _ _ z (by unfold KW; omega)) (fun z => hw _ _ z (by unfold KW; omega)) (fun z => hw _ _ z (by unfold KW; omega))
section
variable {τ : tw_K} {I : tw_I} {L : tw_L} {d : Nat} {B : List Nat}
theorem t_clearBuffer (hτ : tw_ok τ) (hB : tbf I B) {Q : Int32 → tw_I → tw_L → Prop} (hd : 1 ≤ d) (h : ∀ I2, twf (fun a i => a = 1315 ∧ i = 18) I L I2 L → tbf I2 [] → Q (zi B.length) I2 L) : wp_c d 190 [.ref 1315] (tw τ I L) (ti τ Q) := by
  refine k190 hτ hd ?_
  rintro I1 rfl
  rw [hB.1]
  exact h _ (twf.rf.pI ⟨rfl, rfl⟩ _) ⟨by rw [u2_same]; rfl, by simp, fun i x hx => by simp at hx⟩
theorem t_appendByte (hτ : tw_ok τ) (hB : tbf I B) (x : Int32) {Q : Int32 → tw_I → tw_L → Prop} (hd : 2 ≤ d)
    (h1 : ¬ (0 ≤ x.toInt ∧ x.toInt ≤ 255) → Q (zi (-1)) I L)
    (h2 : (0 ≤ x.toInt ∧ x.toInt ≤ 255) → B.length = 80 → Q (zi (-3)) I L)
    (h3 : (0 ≤ x.toInt ∧ x.toInt ≤ 255) → B.length < 80 → ∀ I2, twf (fun a i => (a = 1315 ∧ i = 18) ∨ a = 1330) I L I2 L → tbf I2 (B ++ [x.toInt.toNat]) → Q (zi ((B.length + 1 : Nat) : Int)) I2 L) : wp_c d 176 [.ref 1315, .int x] (tw τ I L) (ti τ Q) := by
  have hl := hB.2.1
  have hx := zi_rng x
  refine k176 hτ hd ?_
  rw [← zi_self x, zi_l hx.1 hx.2]
  refine t_in hτ (by omega) (by omega) (by omega) (by omega) ?_
  rw [bz_0, decide_eq_false_iff_not]
  refine ⟨h1, fun q => ?_⟩
  have q : 0 ≤ x.toInt ∧ x.toInt ≤ 255 := Decidable.not_not.mp q
  rw [hB.1, zi_eq (by omega) (by omega) (by omega) (by omega)]
  refine ⟨fun q2 => h2 q (by omega), fun q2 => ⟨zn_in (by omega) (by omega), ?_⟩⟩
  rintro I2 rfl I3 rfl
  rw [u2_same, zn_ix (by omega), u2_ne _ _ _ _ (by omega), hB.1, zn_a B.length 1 1 rfl]
  refine h3 q (by omega) _ ((twf.rf.pI (Or.inr rfl) _).pI (Or.inl ⟨rfl, rfl⟩) _) ⟨by rw [u2_same, List.length_append]; rfl, by rw [List.length_append, List.length_singleton]; omega, fun i y hy => ?_⟩
  rw [u2_ne _ _ _ _ (by omega), u2_at]
  by_cases hi : i < B.length
  · rw [if_neg (by omega)]
    rw [List.getElem?_append_left hi] at hy
    exact hB.2.2 i y hy
  · rw [List.getElem?_append_right (by omega)] at hy
    have hz : i - B.length = 0 := by
      cases z : i - B.length with
      | zero => rfl
      | succ m => rw [z] at hy; simp at hy
    rw [hz] at hy
    have hy : x.toInt.toNat = y := by simpa using hy
    rw [if_pos (by omega), ← hy]
    exact ⟨by congr 1; omega, by omega⟩
end
