/-! PURE: how many references are lost -/
section
variable (ins : Bool) (b : Nat)
def lr (v : Nat) : Nat := if shR ins b v = none then 1 else 0
def lg (u v : Nat) : Nat := if rng ins b (min (rwo u) (rwo v)) (max (rwo u) (rwo v)) = none then 1 else 0
def lsC : Fm → Nat
  | .index v => lr ins b v
  | .elem (.index u) (.index v) => lg ins b u v
  | .op2 _ l r => lsC l + lsC r
  | .op1 _ a => lsC a
  | .old a => lsC a
  | .mul (.arg _) as => lsC as
  | .div a r => lsC a + lsC r
  | _ => 0
def ls1 (q : Nat × Nat) : Nat := if q.1 = 2 then lr ins b q.2 else 0
def lsL : List (Nat × Nat) → Nat
  | q :: a :: c :: r => if q.1 = 2 ∧ a = (6, 58) then lg ins b q.2 c.2 + lsL r else ls1 ins b q + lsL (a :: c :: r)
  | [q, a] => ls1 ins b q + ls1 ins b a
  | [q] => ls1 ins b q
  | [] => 0
variable {ins b}
theorem lsL_1 {q : Nat × Nat} {r : List (Nat × Nat)} (h : q.1 = 2 → r.head? ≠ some (6, 58)) : lsL ins b (q :: r) = ls1 ins b q + lsL ins b r := by
  match r with
  | [] => rfl
  | [a] => rfl
  | a :: c :: r =>
    rw [lsL, if_neg]
    intro z
    exact h z.1 (by rw [z.2]; rfl)
theorem lsL_r (u v : Nat) (r : List (Nat × Nat)) : lsL ins b ((2, u) :: (6, 58) :: (2, v) :: r) = lg ins b u v + lsL ins b r := by
  rw [lsL, if_pos ⟨rfl, rfl⟩]
theorem lsL_o (k c : Nat) (hk : k ≠ 2) (r : List (Nat × Nat)) : lsL ins b ((k, c) :: r) = lsL ins b r := by
  rw [lsL_1 (fun z => absurd z hk)]
  unfold ls1
  rw [if_neg hk]
  omega
theorem lsL_tk : ∀ t : Fm, wf t → ∀ r : List (Nat × Nat), r.head? ≠ some (6, 58) → lsL ins b (tk t ++ r) = lsC ins b t + lsL ins b r := by
  intro t
  induction t using tk.induct with
  | case1 n => intro h r hr; show lsL ins b ((1, n) :: r) = _; rw [lsL_o _ _ (by omega)]; show _ = 0 + _; omega
  | case2 v => intro h r hr; show lsL ins b ((2, v) :: r) = _; rw [lsL_1 (fun _ => hr)]; rfl
  | case3 => intro h r hr; show lsL ins b ((3, 0) :: r) = _; rw [lsL_o _ _ (by omega)]; show _ = 0 + _; omega
  | case4 c => intro h r hr; show lsL ins b ((4, c) :: r) = _; rw [lsL_o _ _ (by omega)]; show _ = 0 + _; omega
  | case5 u v => intro h r hr; show lsL ins b ((2, u) :: (6, 58) :: (2, v) :: r) = _; rw [lsL_r]; rfl
  | case6 o l r ihl ihr =>
    intro h s hs
    show lsL ins b ((tk l ++ (6, opc o) :: tk r) ++ s) = lsC ins b l + lsC ins b r + _
    rw [List.append_assoc, List.cons_append, ihl h.1 _ (hd_ne _ (opc_ne o) _), lsL_o _ _ (by omega), ihr h.2.1 s hs]
    omega
  | case7 o a ih =>
    intro h s hs
    show lsL ins b ((6, 45) :: (tk a ++ s)) = lsC ins b a + _
    have ha : wf a := by cases o <;> first | exact h.1 | exact absurd h (by simp [wf])
    rw [lsL_o _ _ (by omega), ih ha s hs]
  | case8 a ih =>
    intro h s hs
    show lsL ins b ((6, 40) :: ((tk a ++ [(6, 41)]) ++ s)) = lsC ins b a + _
    rw [lsL_o _ _ (by omega), List.append_assoc, List.cons_append, List.nil_append, ih h.1 _ (hd_ne _ (by omega) _), lsL_o _ _ (by omega)]
  | case9 f as ih =>
    intro h s hs
    show lsL ins b ((5, f) :: (6, 40) :: ((tk as ++ [(6, 41)]) ++ s)) = lsC ins b as + _
    rw [lsL_o _ _ (by omega), lsL_o _ _ (by omega), List.append_assoc, List.cons_append, List.nil_append, ih h.1 _ (hd_ne _ (by omega) _), lsL_o _ _ (by omega)]
  | case10 a ih =>
    intro h s hs
    show lsL ins b (tk a ++ s) = lsC ins b a + 0 + _
    rw [ih h.1 s hs]
    omega
  | case11 a r hr iha ihr =>
    intro h s hs
    have hd : ∃ x y, r = .div x y := by
      rcases isL_div h.2.2.1 with z | z
      · exact absurd z hr
      · exact z
    show _ = lsC ins b a + lsC ins b r + _
    rw [tk_div a r hd, List.append_assoc, List.cons_append, iha h.1 _ (hd_ne _ (by omega) _), lsL_o _ _ (by omega), ihr h.2.1 s hs]
    omega
  | case12 t h1 h2 h3 h4 h5 h6 h7 h8 h9 h10 h11 =>
    intro h s hs
    have e : tk t = [] := by
      rw [tk]
      all_goals assumption
    have e2 : lsC ins b t = 0 := by
      unfold lsC
      split <;> first | rfl | (exfalso; simp_all)
    rw [e2, e]
    show lsL ins b s = 0 + _
    omega
theorem lsL_all {t : Fm} (h : wf t) : lsL ins b (tk t) = lsC ins b t := by
  have := lsL_tk (ins := ins) (b := b) t h [] (by simp)
  rw [List.append_nil] at this
  rw [this]
  rfl
end
