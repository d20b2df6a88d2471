/-! PURE: formulas made of formulas -/
section
variable (fr : Nat → Fm) (fg : Nat → Nat → Fm) (fn : Nat → Fm)
def mp : Fm → Fm
  | .index v => fr v
  | .elem (.index u) (.index v) => fg u v
  | .length (.arg c) => fn c
  | .op2 o l r => .op2 o (mp l) (mp r)
  | .op1 o a => .op1 o (mp a)
  | .old a => .old (mp a)
  | .mul (.arg f) as => .mul (.arg f) (mp as)
  | .div a r => .div (mp a) (mp r)
  | t => t
def tm1 (q : Nat × Nat) : List (Nat × Nat) := if q.1 = 2 then tk (fr q.2) else if q.1 = 4 then tk (fn q.2) else [q]
def tmap : List (Nat × Nat) → List (Nat × Nat)
  | q :: a :: b :: r => if q.1 = 2 ∧ a = (6, 58) then tk (fg q.2 b.2) ++ tmap r else tm1 fr fn q ++ tmap (a :: b :: r)
  | [q, a] => tm1 fr fn q ++ tm1 fr fn a
  | [q] => tm1 fr fn q
  | [] => []
/-- what may become of references, ranges, names -/
def mok : Prop := (∀ v, v < 960 → fr v = .null ∨ ∃ w, w < 960 ∧ fr v = .index w) ∧ (∀ u v, u < 960 → v < 960 → fg u v = .null ∨ ∃ w z, w < 960 ∧ z < 960 ∧ fg u v = .elem (.index w) (.index z)) ∧ (∀ c, okN c → ∃ e, okN e ∧ fn c = .length (.arg e))
variable {fr fg fn}
theorem tmap_1 {q : Nat × Nat} {r : List (Nat × Nat)} (h : q.1 = 2 → r.head? ≠ some (6, 58)) : tmap fr fg fn (q :: r) = tm1 fr fn q ++ tmap fr fg fn r := by
  match r with
  | [] => simp [tmap]
  | [a] => rfl
  | a :: b :: r =>
    rw [tmap, if_neg]
    intro z
    exact h z.1 (by rw [z.2]; rfl)
theorem tmap_r (u v : Nat) (r : List (Nat × Nat)) : tmap fr fg fn ((2, u) :: (6, 58) :: (2, v) :: r) = tk (fg u v) ++ tmap fr fg fn r := by
  rw [tmap, if_pos ⟨rfl, rfl⟩]
theorem tmap_o (c : Nat) (r : List (Nat × Nat)) : tmap fr fg fn ((6, c) :: r) = (6, c) :: tmap fr fg fn r := by
  rw [tmap_1 (fun z => by cases z)]
  rfl
theorem mp_L {r : Fm} (h : isL r) : isL (mp fr fg fn r) := by
  induction r using mp.induct with
  | case8 a r iha ihr => exact ihr h
  | case1 v => exact absurd h (by simp [isL])
  | case2 u v => exact absurd h (by simp [isL])
  | case3 c => exact absurd h (by simp [isL])
  | case4 o l r ihl ihr => exact absurd h (by simp [isL])
  | case5 o a ih => exact absurd h (by simp [isL])
  | case6 a ih => exact absurd h (by simp [isL])
  | case7 f as ih => exact absurd h (by simp [isL])
  | case9 t h1 h2 h3 h4 h5 h6 h7 h8 =>
    have e : mp fr fg fn t = t := by
      unfold mp
      split <;> first | rfl | (exfalso; simp_all)
    rw [e]; exact h
theorem isL_div {r : Fm} (h : isL r) : r = .result ∨ ∃ x y, r = .div x y := by
  cases r <;> first | exact .inl rfl | exact .inr ⟨_, _, rfl⟩ | exact absurd h (by simp [isL])
theorem tk_divL (a : Fm) {r : Fm} (h : ∃ x y, r = .div x y) : tk (.div a r) = tk a ++ (6, 44) :: tk r := tk_div a r h
theorem mp_div {r : Fm} (h : ∃ x y, r = .div x y) : ∃ x y, mp fr fg fn r = .div x y := by
  obtain ⟨x, y, rfl⟩ := h
  exact ⟨_, _, rfl⟩
theorem hd_ne (c : Nat) (h : c ≠ 58) (r : List (Nat × Nat)) : ((6, c) :: r).head? ≠ some (6, 58) := by
  simp [h]
theorem opc_ne (o : Jvm.Binary) : opc o ≠ 58 := by cases o <;> decide
theorem tmap_tk (hm : mok fr fg fn) : ∀ t : Fm, wf t → ∀ r : List (Nat × Nat), r.head? ≠ some (6, 58) → tmap fr fg fn (tk t ++ r) = tk (mp fr fg fn t) ++ tmap fr fg fn r := by
  intro t
  induction t using tk.induct with
  | case1 n => intro h r hr; show tmap fr fg fn ((1, n) :: r) = _; rw [tmap_1 (fun z => by cases z)]; rfl
  | case2 v => intro h r hr; show tmap fr fg fn ((2, v) :: r) = _; rw [tmap_1 (fun _ => hr)]; rfl
  | case3 => intro h r hr; show tmap fr fg fn ((3, 0) :: r) = _; rw [tmap_1 (fun z => by cases z)]; rfl
  | case4 c => intro h r hr; show tmap fr fg fn ((4, c) :: r) = _; rw [tmap_1 (fun z => by cases z)]; rfl
  | case5 u v => intro h r hr; show tmap fr fg fn ((2, u) :: (6, 58) :: (2, v) :: r) = _; rw [tmap_r]; rfl
  | case6 o l r ihl ihr =>
    intro h s hs
    show tmap fr fg fn ((tk l ++ (6, opc o) :: tk r) ++ s) = (tk (mp fr fg fn l) ++ (6, opc o) :: tk (mp fr fg fn r)) ++ _
    rw [List.append_assoc, List.cons_append, ihl h.1 _ (hd_ne _ (opc_ne o) _), tmap_o, ihr h.2.1 s hs]
    simp
  | case7 o a ih =>
    intro h s hs
    show tmap fr fg fn ((6, 45) :: (tk a ++ s)) = ((6, 45) :: tk (mp fr fg fn a)) ++ _
    have ha : wf a := by cases o <;> first | exact h.1 | exact absurd h (by simp [wf])
    rw [tmap_o, ih ha s hs]
    rfl
  | case8 a ih =>
    intro h s hs
    show tmap fr fg fn ((6, 40) :: ((tk a ++ [(6, 41)]) ++ s)) = ((6, 40) :: (tk (mp fr fg fn a) ++ [(6, 41)])) ++ _
    rw [tmap_o, List.append_assoc, List.cons_append, List.nil_append, ih h.1 _ (hd_ne _ (by omega) _), tmap_o]
    simp
  | case9 f as ih =>
    intro h s hs
    show tmap fr fg fn ((5, f) :: (6, 40) :: ((tk as ++ [(6, 41)]) ++ s)) = ((5, f) :: (6, 40) :: (tk (mp fr fg fn as) ++ [(6, 41)])) ++ _
    rw [tmap_1 (fun z => by cases z), tmap_o, List.append_assoc, List.cons_append, List.nil_append, ih h.1 _ (hd_ne _ (by omega) _), tmap_o]
    show [(5, f)] ++ _ = _
    simp
  | case10 a ih =>
    intro h s hs
    show tmap fr fg fn (tk a ++ s) = tk (mp fr fg fn a) ++ _
    exact ih h.1 s hs
  | case11 a r hr iha ihr =>
    intro h s hs
    have hd : ∃ x y, r = .div x y := by
      rcases isL_div h.2.2.1 with z | z
      · exact absurd z hr
      · exact z
    rw [tk_div a r hd, show mp fr fg fn (.div a r) = .div (mp fr fg fn a) (mp fr fg fn r) from rfl, tk_div _ _ (mp_div hd), List.append_assoc, List.cons_append, iha h.1 _ (hd_ne _ (by omega) _), tmap_o, ihr h.2.1 s hs]
    simp
  | case12 t h1 h2 h3 h4 h5 h6 h7 h8 h9 h10 h11 =>
    intro h s hs
    have e : tk t = [] := by
      rw [tk]
      all_goals assumption
    have e2 : mp fr fg fn t = t := by
      unfold mp
      split <;> first | rfl | (exfalso; simp_all)
    rw [e2, e]
    rfl
end
