/-! THE TWIN: what rests on what -/
theorem tbs.kept {W : Nat → Nat → Prop} {I I2 : tw_I} {L L2 : tw_L} {a : Nat} {D : Nat → Nat → Bool} (h : tbs L a D) (f : twf W I L I2 L2) (h1 : ∀ i, ¬ W a i) : tbs L2 a D := fun c e hc he => by rw [(f a _ (h1 _)).2]; exact h c e hc he
/-- one bit more -/
theorem lb_set {L : tw_L} {a i j : Nat} (hj : j < 64) (a2 i2 : Nat) {j2 : Nat} (hj2 : j2 < 64) : lb (cm_u2 L a i (L a i ||| (zl 1 <<< ((zi (j : Nat)).toInt64 &&& 63))) a2 i2) j2 = (lb (L a2 i2) j2 || decide (a2 = a ∧ i2 = i ∧ j2 = j)) := by
  unfold cm_u2
  by_cases e : a2 = a ∧ i2 = i
  · rw [if_pos e, lb_or, lb_bit j hj j2 hj2, e.1, e.2]
    congr 1
    simp
  · rw [if_neg e, decide_eq_false (fun z => e ⟨z.1, z.2.1⟩), Bool.or_false]
section
variable {τ : tw_K} {I : tw_I} {L : tw_L} {d : Nat} {B : List Nat} {S : Sh} {H : List Sh} {V O : Nat → Vl} {M W : Nat → Bool} {au : Bool} {ev : Nat}
theorem t_has (hτ : tw_ok τ) {a c e n : Nat} (ht : τ.1 a = 102) (hl : τ.2.1 a = n) (hn : 4 * c + e / 64 < n) (hn9 : n ≤ 960) (he : e < 256) {Q : Int32 → tw_I → tw_L → Prop} (hd : 1 ≤ d) (h : Q (bz (lb (L a (4 * c + e / 64)) (e % 64))) I L) : wp_c d 223 [.ref a, .int (zi c), .int (zi e)] (tw τ I L) (ti τ Q) := by
  refine k223 hτ hd ⟨ht, ?_⟩
  rw [zi_rem (by omega) (by omega) (by omega) (by omega), zi_div (by omega) (by omega) (by omega) (by omega), zi_mul, zi_add, show cm_ln (tw τ I L) a = n from hl]
  refine ⟨(zi_in (by omega) (by omega)).mpr ⟨by omega, by omega⟩, ?_⟩
  rw [zi_ix (by omega) (by omega), show (4 * (c : Int) + (e : Int) / 64).toNat = 4 * c + e / 64 by omega, show (e : Int) % 64 = ((e % 64 : Nat) : Int) by omega, lb_has (by omega)]
  show (lb (L a (4 * c + e / 64)) (e % 64) = true → _) ∧ (¬ lb (L a (4 * c + e / 64)) (e % 64) = true → _)
  cases q : lb (L a (4 * c + e / 64)) (e % 64) with
  | true => rw [q] at h; exact ⟨fun _ => h, fun z => absurd rfl z⟩
  | false => rw [q] at h; exact ⟨fun z => (by cases z), fun _ => h⟩
theorem t_hasB (hτ : tw_ok τ) {a c e : Nat} {D : Nat → Nat → Bool} (hb : tbs L a D) (ha : a = 1333 ∨ a = 1334) (hc : c < 240) (he : e < 240) {Q : Int32 → tw_I → tw_L → Prop} (hd : 1 ≤ d) (h : Q (bz (D c e)) I L) : wp_c d 223 [.ref a, .int (zi c), .int (zi e)] (tw τ I L) (ti τ Q) := by
  rw [← hb c e hc (by omega)] at h
  rcases ha with rfl | rfl
  · exact t_has hτ (tw_t36 hτ) (tw_l36 hτ) (by omega) (by omega) (by omega) hd h
  · exact t_has hτ (tw_t37 hτ) (tw_l37 hτ) (by omega) (by omega) (by omega) hd h
theorem t_cellOf (hτ : tw_ok τ) {v : Nat} (hv : v < 281474976710656) {Q : Int32 → tw_I → tw_L → Prop} (hd : 2 ≤ d) (h : Q (zi ((v % 240 : Nat) : Int)) I L) : wp_c d 186 [.long (tok 2 v)] (tw τ I L) (ti τ Q) := by
  refine k186 hτ (by omega) (t_told hτ (show 2 < 8 by omega) hv (by omega) ?_)
  rw [zl_rem (by omega) (by omega) (by omega) (by omega), zl_i]
  exact h
/-- the rectangle at hand -/
def tbx (I : tw_I) (a b : Nat) : Prop := I 1315 38 = zi ((min (a % 12) (b % 12) : Nat) : Int) ∧ I 1315 39 = zi ((max (a % 12) (b % 12) : Nat) : Int) ∧ I 1315 40 = zi ((min (a / 12) (b / 12) : Nat) : Int) ∧ I 1315 41 = zi ((max (a / 12) (b / 12) : Nat) : Int)
def BW (a i : Nat) : Prop := a = 1315 ∧ 38 ≤ i ∧ i ≤ 41
theorem t_boxOf (hτ : tw_ok τ) {a b : Nat} (ha : a < 240) (hb : b < 240) {Q : tw_I → tw_L → Prop} (hd : 2 ≤ d) (h : ∀ I2, twf BW I L I2 L → tbx I2 a b → Q I2 L) : wp_c d 182 [.ref 1315, .int (zi a), .int (zi b)] (tw τ I L) (tv τ Q) := by
  refine k182 hτ (by omega) (t_columnOf hτ (by omega) (by omega) (t_columnOf hτ (by omega) (by omega) (m_min ⟨by omega, by omega⟩ ⟨by omega, by omega⟩ (by omega) (ti_k ?_))))
  rintro I4 rfl
  refine t_columnOf hτ (by omega) (by omega) (t_columnOf hτ (by omega) (by omega) (m_max ⟨by omega, by omega⟩ ⟨by omega, by omega⟩ (by omega) (ti_k ?_)))
  rintro I8 rfl
  refine t_rowOf hτ (by omega) (by omega) (t_rowOf hτ (by omega) (by omega) (m_min ⟨by omega, by omega⟩ ⟨by omega, by omega⟩ (by omega) (ti_k ?_)))
  rintro I12 rfl
  refine t_rowOf hτ (by omega) (by omega) (t_rowOf hτ (by omega) (by omega) (m_max ⟨by omega, by omega⟩ ⟨by omega, by omega⟩ (by omega) (ti_k ?_)))
  rintro I16 rfl
  refine h _ ((((twf.rf.pI (by unfold BW; omega) _).pI (by unfold BW; omega) _).pI (by unfold BW; omega) _).pI (by unfold BW; omega) _) ⟨?_, ?_, ?_, ?_⟩
  · rw [u2_nj _ _ _ _ _ (by omega), u2_nj _ _ _ _ _ (by omega), u2_nj _ _ _ _ _ (by omega), u2_same]; congr 1; omega
  · rw [u2_nj _ _ _ _ _ (by omega), u2_nj _ _ _ _ _ (by omega), u2_same]; congr 1; omega
  · rw [u2_nj _ _ _ _ _ (by omega), u2_same]; congr 1; omega
  · rw [u2_same]; congr 1; omega
def DW (a i : Nat) : Prop := a = 1333
/-- the cells of a rectangle are put into a row -/
theorem t_puts (hτ : tw_ok τ) {c a b : Nat} {D : Nat → Nat → Bool} (hc : c < 240) (ha : a < 240) (hb : b < 240) (hD : tbs L 1333 D) (hx : tbx I a b) {Q : tw_I → tw_L → Prop} (hd : 1 ≤ d)
    (h : ∀ L2, twf DW I L I L2 → tbs L2 1333 (fun x e => D x e || (decide (x = c) && bxd a b e)) → Q I L2) : wp_c d 285 [.ref 1315, .int (zi c)] (tw τ I L) (tv τ Q) := by
  obtain ⟨x1, x2, x3, x4⟩ := hx
  generalize hl : min (a % 12) (b % 12) = l at *
  generalize hr : max (a % 12) (b % 12) = r at *
  generalize hu : min (a / 12) (b / 12) = u at *
  generalize hw : max (a / 12) (b / 12) = w at *
  have r12 : r < 12 := by omega
  have w20 : w < 20 := by omega
  refine k285 hτ hd ?_
  rw [x3]
  have rows : ∀ y I' L2, y ≤ w + 1 → (I' = I ∧ u ≤ y ∧ twf DW I L I L2 ∧ tbs L2 1333 (fun x e => D x e || (decide (x = c) && decide ((l ≤ e % 12 ∧ e % 12 ≤ r) ∧ u ≤ e / 12 ∧ e / 12 < y)))) → ∀ v3 v4, wp_r (d - 1) 285 (5, [.ref 1315, .int (zi c), .int (zi y), v3, v4], [], tw τ I' L2) (tv τ Q) := by
    refine up_ind (w + 1) (W := fun y I' L2 => ∀ v3 v4, wp_r (d - 1) 285 (5, [.ref 1315, .int (zi c), .int (zi y), v3, v4], [], tw τ I' L2) (tv τ Q)) (P := fun y I' L2 => I' = I ∧ u ≤ y ∧ twf DW I L I L2 ∧ tbs L2 1333 (fun x e => D x e || (decide (x = c) && decide ((l ≤ e % 12 ∧ e % 12 ≤ r) ∧ u ≤ e / 12 ∧ e / 12 < y)))) (fun I' L2 hP v3 v4 => ?_) (fun y I' L2 hy hP ih v3 v4 => ?_)
    · obtain ⟨rfl, p1, p2, p3⟩ := hP
      refine k285_5 hτ ?_
      rw [x4, zi_lt (by omega) (by omega) (by omega) (by omega)]
      refine ⟨fun _ => h L2 p2 fun x e hx he => ?_, fun z => absurd (by omega) z⟩
      rw [p3 x e hx he]
      unfold bxd
      simp only
      rw [hl, hr, hu, hw]
      congr 3
      apply propext
      omega
    · obtain ⟨rfl, p1, p2, p3⟩ := hP
      refine k285_5 hτ ?_
      rw [x4, zi_lt (by omega) (by omega) (by omega) (by omega), x1]
      refine ⟨fun z => absurd z (by omega), fun _ => ?_⟩
      have cols : ∀ z I2 L3, z ≤ r + 1 → (I2 = I' ∧ l ≤ z ∧ twf DW I' L I' L3 ∧ tbs L3 1333 (fun x e => D x e || (decide (x = c) && decide ((l ≤ e % 12 ∧ e % 12 ≤ r) ∧ u ≤ e / 12 ∧ (e / 12 < y ∨ (e / 12 = y ∧ e % 12 < z)))))) → ∀ v4, wp_r (d - 1) 285 (18, [.ref 1315, .int (zi c), .int (zi y), .int (zi z), v4], [], tw τ I2 L3) (tv τ Q) := by
        refine up_ind (r + 1) (W := fun z I2 L3 => ∀ v4, wp_r (d - 1) 285 (18, [.ref 1315, .int (zi c), .int (zi y), .int (zi z), v4], [], tw τ I2 L3) (tv τ Q)) (P := fun z I2 L3 => I2 = I' ∧ l ≤ z ∧ twf DW I' L I' L3 ∧ tbs L3 1333 (fun x e => D x e || (decide (x = c) && decide ((l ≤ e % 12 ∧ e % 12 ≤ r) ∧ u ≤ e / 12 ∧ (e / 12 < y ∨ (e / 12 = y ∧ e % 12 < z)))))) (fun I2 L3 hP v4 => ?_) (fun z I2 L3 hz hP ih2 v4 => ?_)
        · obtain ⟨rfl, q1, q2, q3⟩ := hP
          refine k285_18 hτ ?_
          rw [x2, zi_lt (by omega) (by omega) (by omega) (by omega), zn_a y 1 1 rfl]
          refine ⟨fun _ => ih _ _ ⟨rfl, by omega, q2, fun x e hx he => ?_⟩ _ _, fun z => absurd (by omega) z⟩
          rw [q3 x e hx he]
          simp only
          congr 3
          apply propext
          omega
        · obtain ⟨rfl, q1, q2, q3⟩ := hP
          refine k285_18 hτ ?_
          rw [x2, zi_lt (by omega) (by omega) (by omega) (by omega), zn_a z 1 1 rfl, show zi 12 * zi (y : Int) + zi (z : Int) = zi ((12 * y + z : Nat) : Int) by rw [zi_mul, zi_add]; congr 1, zi_rem (by omega) (by omega) (by omega) (by omega), zi_div (by omega) (by omega) (by omega) (by omega), zi_mul, zi_add, zi_add]
          refine ⟨fun z => absurd z (by omega), fun _ => ⟨(zi_in (by omega) (by omega)).mpr ⟨by omega, by omega⟩, ?_⟩⟩
          rw [zi_ix (by omega) (by omega), show (4 * (c : Int) + ((12 * y + z : Nat) : Int) / 64).toNat = 4 * c + (12 * y + z) / 64 by omega, show ((12 * y + z : Nat) : Int) % 64 = (((12 * y + z) % 64 : Nat) : Int) by omega]
          rintro L4 rfl
          refine ih2 _ _ ⟨rfl, by omega, q2.pL rfl _, fun x e hx he => ?_⟩ _
          rw [lb_set (by omega) _ _ (by omega), q3 x e hx he, Bool.or_assoc]
          congr 1
          by_cases hxc : x = c
          · subst hxc
            rw [decide_eq_true rfl, Bool.true_and, Bool.true_and, ← Bool.decide_or]
            congr 1
            apply propext
            omega
          · rw [decide_eq_false hxc, Bool.false_and, Bool.false_and, Bool.false_or]
            refine decide_eq_false ?_
            omega
      refine cols l _ _ (by omega) ⟨rfl, Nat.le_refl _, p2, fun x e hx he => ?_⟩ _
      rw [p3 x e hx he]
      simp only
      congr 3
      apply propext
      omega
  refine rows u I L (by omega) ⟨rfl, Nat.le_refl _, twf.rf, fun x e hx he => ?_⟩ _ _
  rw [hD x e hx he]
  show D x e = (D x e || (decide (x = c) && decide _))
  rw [decide_eq_false (p := (l ≤ e % 12 ∧ e % 12 ≤ r) ∧ u ≤ e / 12 ∧ e / 12 < u) (by omega), Bool.and_false, Bool.or_false]
/-- rows of tokens, token by token -/
def okm : List (Nat × Nat) → Prop
  | [] => True
  | q :: r => (q.1 = 2 → q.2 < 960 ∧ (r.head? = some (6, 58) → ∃ v s, r = (6, 58) :: (2, v) :: s ∧ v < 960)) ∧ (q.1 = 4 → okN q.2) ∧ okm r
theorem okm_o {k c : Nat} (h2 : k ≠ 2) (h4 : k ≠ 4) {r : List (Nat × Nat)} (h : okm r) : okm ((k, c) :: r) := ⟨fun z => absurd z h2, fun z => absurd z h4, h⟩
theorem okm_tk : ∀ t : Fm, wf t → ∀ r : List (Nat × Nat), r.head? ≠ some (6, 58) → okm r → okm (tk t ++ r) := by
  intro t
  induction t using tk.induct with
  | case1 n => intro h r hr ho; exact okm_o (by omega) (by omega) ho
  | case2 v => intro h r hr ho; exact ⟨fun _ => ⟨h, fun z => absurd z hr⟩, fun z => (by cases z), ho⟩
  | case3 => intro h r hr ho; exact okm_o (by omega) (by omega) ho
  | case4 c => intro h r hr ho; exact ⟨fun z => (by cases z), fun _ => h, ho⟩
  | case5 u v => intro h r hr ho; exact ⟨fun _ => ⟨h.1, fun _ => ⟨v, r, rfl, h.2⟩⟩, fun z => (by cases z), okm_o (by omega) (by omega) ⟨fun _ => ⟨h.2, fun z => absurd z hr⟩, fun z => (by cases z), ho⟩⟩
  | case6 o l r ihl ihr =>
    intro h s hs ho
    show okm ((tk l ++ (6, opc o) :: tk r) ++ s)
    rw [List.append_assoc, List.cons_append]
    exact ihl h.1 _ (hd_ne _ (opc_ne o) _) (okm_o (by omega) (by omega) (ihr h.2.1 s hs ho))
  | case7 o a ih =>
    intro h s hs ho
    have ha : wf a := by cases o <;> first | exact h.1 | exact absurd h (by simp [wf])
    exact okm_o (by omega) (by omega) (ih ha s hs ho)
  | case8 a ih =>
    intro h s hs ho
    show okm ((6, 40) :: ((tk a ++ [(6, 41)]) ++ s))
    rw [List.append_assoc, List.cons_append, List.nil_append]
    exact okm_o (by omega) (by omega) (ih h.1 _ (hd_ne _ (by omega) _) (okm_o (by omega) (by omega) ho))
  | case9 f as ih =>
    intro h s hs ho
    show okm ((5, f) :: (6, 40) :: ((tk as ++ [(6, 41)]) ++ s))
    rw [List.append_assoc, List.cons_append, List.nil_append]
    exact okm_o (by omega) (by omega) (okm_o (by omega) (by omega) (ih h.1 _ (hd_ne _ (by omega) _) (okm_o (by omega) (by omega) ho)))
  | case10 a ih => intro h s hs ho; exact ih h.1 s hs ho
  | case11 a r hr iha ihr =>
    intro h s hs ho
    have hd : ∃ x y, r = .div x y := by
      rcases isL_div h.2.2.1 with z | z
      · exact absurd z hr
      · exact z
    rw [tk_div a r hd, List.append_assoc, List.cons_append]
    exact iha h.1 _ (hd_ne _ (by omega) _) (okm_o (by omega) (by omega) (ihr h.2.1 s hs ho))
  | case12 t h1 h2 h3 h4 h5 h6 h7 h8 h9 h10 h11 =>
    intro h s hs ho
    have e1 : tk t = [] := by
      rw [tk]
      all_goals assumption
    rw [e1]
    exact ho
theorem okm_all {q : Cn} (h : cok q) : okm (ctk q) := by
  match q, h with
  | none, h => exact trivial
  | some (.inl n), h => exact trivial
  | some (.inr t), h =>
    have := okm_tk t h.1 [] (by simp) trivial
    rwa [List.append_nil] at this
def YW (a i : Nat) : Prop := DW a i ∨ BW a i
theorem YW_XW (a i : Nat) (h : YW a i) : XW a i := by unfold YW DW BW at h; unfold XW; omega
theorem t_linksCell (hτ : tw_ok τ) (h0 : tst τ I L B S H V O M W au ev) {c : Nat} {D : Nat → Nat → Bool} (hc : c < 240) (hD : tbs L 1333 D) {Q : tw_I → tw_L → Prop} (hd : 5 ≤ d)
    (h : ∀ I2 L2, twf YW I L I2 L2 → tbs L2 1333 (fun x e => D x e || (decide (x = c) && dpL S.2 (ctk (S.1 c)) e)) → Q I2 L2) : wp_c d 253 [.ref 1315, .int (zi c)] (tw τ I L) (tv τ Q) := by
  have hok := (h0.cell hc).2.2.1
  refine k253 hτ (by omega) ?_
  have loop : ∀ n (pre sf : List (Nat × Nat)) (I2 : tw_I) (L2 : tw_L) (P : Nat → Bool), sf.length ≤ n → ctk (S.1 c) = pre ++ sf → twf YW I L I2 L2 → (∀ e, e < 256 → (P e || dpL S.2 sf e) = dpL S.2 (ctk (S.1 c)) e) → okm sf → tbs L2 1333 (fun x e => D x e || (decide (x = c) && P e)) → ∀ v3 v4 v5, wp_r (d - 1) 253 (2, [.ref 1315, .int (zi c), .int (zi pre.length), v3, v4, v5], [], tw τ I2 L2) (tv τ Q) := by
    intro n
    induction n with
    | zero =>
      intro pre sf I2 L2 P hn hE f hP h960 hb v3 v4 v5
      have : sf = [] := List.length_eq_zero_iff.mp (by omega)
      subst this
      have g := h0.kept hτ (f.wi YW_XW)
      have ht := (g.cell hc).2.1
      rw [hE, List.append_nil] at ht
      have hl := ht.2.1
      refine k253_2 hτ (by omega) ⟨zn_in (show c < 2400 by omega) (by omega), ?_⟩
      rw [zn_ix (by omega), ht.1, zi_lt (by omega) (by omega) (by omega) (by omega)]
      refine ⟨fun z => absurd z (by omega), fun _ => h I2 L2 f fun x e hx he => ?_⟩
      rw [hb x e hx he]
      simp only
      rw [← hP e he]
      show _ = (D x e || (decide (x = c) && (P e || false)))
      rw [Bool.or_false]
    | succ n ih =>
      intro pre sf I2 L2 P hn hE f hP h960 hb v3 v4 v5
      match sf, hn, hE, hP, h960 with
      | [], hn, hE, hP, h960 => exact ih pre [] I2 L2 P (by simp) hE f hP h960 hb v3 v4 v5
      | q :: r, hn, hE, hP, h960 =>
        rw [List.length_cons] at hn
        have g := h0.kept hτ (f.wi YW_XW)
        have ht := (g.cell hc).2.1
        rw [hE] at ht
        have hl := ht.2.1
        rw [List.length_append, List.length_cons] at hl
        have hq := (ht.2.2 pre.length q at0).2
        have go : ∀ (I3 : tw_I) (L3 : tw_L) (v3 v4 v5 : Value), twf YW I2 L2 I3 L3 → tbs L3 1333 (fun x e => D x e || (decide (x = c) && (P e || dp1 S.2 q r e))) → wp_r (d - 1) 253 (2, [.ref 1315, .int (zi c), .int (zi ((pre.length + 1 : Nat) : Int)), v3, v4, v5], [], tw τ I3 L3) (tv τ Q) := by
          intro I3 L3 v3 v4 v5 f3 b3
          have := ih (pre ++ [q]) r I3 L3 (fun e => P e || dp1 S.2 q r e) (by omega) (by rw [hE]; simp) (f.tr f3) (fun e he => by rw [← hP e he]; show _ = (P e || (dp1 S.2 q r e || dpL S.2 r e)); rw [Bool.or_assoc]) h960.2.2 b3 v3 v4 v5
          rw [List.length_append, List.length_singleton] at this
          exact this
        have skip : dp1 S.2 q r = (fun _ => false) → ∀ (v3 v4 v5 : Value), wp_r (d - 1) 253 (2, [.ref 1315, .int (zi c), .int (zi ((pre.length + 1 : Nat) : Int)), v3, v4, v5], [], tw τ I2 L2) (tv τ Q) := by
          intro e0 v3 v4 v5
          refine go I2 L2 v3 v4 v5 twf.rf fun x e hx he => ?_
          rw [hb x e hx he, e0]
          simp only [Bool.or_false]
        have put : ∀ (a b : Nat) (v3 v4 v5 : Value), a < 240 → b < 240 → (∀ e, dp1 S.2 q r e = bxd a b e) → wp_c (d - 1) 182 [.ref 1315, .int (zi a), .int (zi b)] (tw τ I2 L2) (tv τ fun I6 L6 => wp_c (d - 1) 285 [.ref 1315, .int (zi c)] (tw τ I6 L6) (tv τ fun I7 L7 => wp_r (d - 1) 253 (2, [.ref 1315, .int (zi c), .int (zi ((pre.length + 1 : Nat) : Int)), v3, v4, v5], [], tw τ I7 L7) (tv τ Q))) := by
          intro a b v3 v4 v5 ha hb2 e0
          refine t_boxOf hτ ha hb2 (by omega) fun I6 f6 b6 => t_puts hτ hc ha hb2 (hb.kept f6 (fun i => by unfold BW; omega)) b6 (by omega) fun L7 f7 b7 => go _ _ _ _ _ ((f6.wi fun a i z => .inr z).tr (f7.wi fun a i z => .inl z)) fun x e hx he => ?_
          rw [b7 x e hx he]
          simp only
          rw [e0 e, Bool.or_assoc]
          congr 1
          rw [← Bool.and_or_distrib_left]
        refine k253_2 hτ (by omega) ⟨zn_in (show c < 2400 by omega) (by omega), ?_⟩
        rw [zn_ix (by omega), ht.1, List.length_append, List.length_cons, zi_lt (by omega) (by omega) (by omega) (by omega), zn_a pre.length 1 1 rfl]
        refine ⟨fun _ => ?_, fun z => absurd (by omega) z⟩
        refine t_at hτ (by omega) (by omega) ht (by omega) ?_
        rw [tko_some at0]
        refine t_kindOf hτ hq.2.1 hq.2.2 (by omega) ?_
        obtain ⟨k, v⟩ := q
        have k8 : k < 8 := hq.2.1
        have v48 : v < 281474976710656 := hq.2.2
        rw [zi_eq (by omega) (by omega) (by omega) (by omega)]
        refine ⟨fun k2 => ?_, fun k2 => ?_⟩
        · have k2 : k = 2 := by omega
          subst k2
          have v960 := h960.1 rfl
          have v9 : v < 960 := v960.1
          refine t_cellOf hτ v48 (by omega) (t_isRange hτ (by omega) (by omega) ht at0 (by omega) ?_)
          rw [at1, bz_0, decide_eq_false_iff_not]
          refine ⟨fun z => t_cellOf hτ v48 (by omega) (put _ _ _ _ _ (by omega) (by omega) fun e => ?_), fun z => ?_⟩
          · unfold dp1
            rw [if_pos rfl, if_neg (fun y => z ⟨rfl, y⟩)]
          · have z := (Decidable.not_not.mp z).2
            obtain ⟨w, s, rfl, hw⟩ := v960.2 z
            rw [List.length_cons, List.length_cons] at hl
            rw [zn_a pre.length 2 2 rfl]
            refine t_at hτ (by omega) (by omega) ht (by omega) ?_
            rw [tko_some at2]
            refine t_cellOf hτ (by omega) (by omega) (put _ _ _ _ _ (by omega) (by omega) fun e => ?_)
            unfold dp1
            rw [if_pos rfl, if_pos z]
            rfl
        · refine t_kindOf hτ k8 v48 (by omega) ?_
          rw [zi_eq (by omega) (by omega) (by omega) (by omega)]
          refine ⟨fun k4 => ?_, fun k4 => skip (by funext e; unfold dp1; rw [if_neg (by omega), if_neg (by omega)]) _ _ _⟩
          have k4 : k = 4 := by omega
          subst k4
          refine t_told hτ (show 4 < 8 by omega) v48 (by omega) (t_nameAt hτ g v48 (by omega) (fun n p e1 hp hpe hn => ?_) (fun e1 => ⟨fun _ => skip (by funext e; unfold dp1 nmd; rw [if_neg (by omega), if_pos rfl]; simp only; rw [e1]; rfl) _ _ _, fun z => absurd z (by decide)⟩))
          rw [zi_lt (by omega) (by omega) (by omega) (by omega)]
          refine ⟨fun z => absurd z (by omega), fun _ => ⟨zn_in (show n < 100 by omega) (by omega), ?_⟩⟩
          rw [zn_ix (by omega)]
          obtain ⟨t1, t2, t3⟩ := g.nm hp
          have eb : (nmAt S.2 v).bind (fun n => S.2[n]?) = some p := by rw [e1]; exact hp
          obtain ⟨pc, pr⟩ := p
          cases pr with
          | none =>
            have t3 : I2 1322 n = zi (-1) ∧ I2 1323 n = zi (-1) := t3
            rw [t3.1]
            refine ⟨fun _ => skip (by funext e; unfold dp1 nmd; rw [if_neg (by omega), if_pos rfl]; simp only; rw [eb]) _ _ _, fun z => absurd z (by decide)⟩
          | some ab =>
            obtain ⟨a, b⟩ := ab
            have t3 : I2 1322 n = zi a ∧ I2 1323 n = zi b := t3
            have bx : box a b := t2.2
            unfold box at bx
            rw [t3.1, t3.2, zi_lt (by omega) (by omega) (by omega) (by omega)]
            refine ⟨fun z => absurd z (by omega), fun _ => put a b _ _ _ (by omega) (by omega) fun e => ?_⟩
            unfold dp1 nmd
            rw [if_neg (by omega), if_pos rfl]
            simp only
            rw [eb]
  exact loop _ [] (ctk (S.1 c)) I L (fun _ => false) (Nat.le_refl _) rfl twf.rf (fun e he => Bool.false_or _) (okm_all hok) (fun x e hx he => by rw [hD x e hx he]; simp only [Bool.and_false, Bool.or_false]) _ _ _
/-- bits of both tables -/
def tlk (L : tw_L) (S : Sh) : Prop := tbs L 1333 (dir S) ∧ tbs L 1334 (rch S)
def ZW (a i : Nat) : Prop := a = 1333 ∨ a = 1334 ∨ BW a i
theorem ZW_XW (a i : Nat) (h : ZW a i) : XW a i := by unfold ZW BW at h; unfold XW; omega
theorem t_links (hτ : tw_ok τ) (h0 : tst τ I L B S H V O M W au ev) {Q : tw_I → tw_L → Prop} (hd : 6 ≤ d) (h : ∀ I2 L2, twf ZW I L I2 L2 → tst τ I2 L2 B S H V O M W au ev → tlk L2 S → Q I2 L2) : wp_c d 252 [.ref 1315] (tw τ I L) (tv τ Q) := by
  have hok : ∀ c, c < 240 → cok (S.1 c) := fun c hc => (h0.cell hc).2.2.1
  refine k252 hτ (by omega) ?_
  have warl : ∀ n I2 L2, n ≤ 240 → (twf ZW I L I2 L2 ∧ tbs L2 1333 (dir S) ∧ tbs L2 1334 (war (isF S) (dir S) n)) → ∀ v2 v3, wp_r (d - 1) 252 (81, [.ref 1315, .int (zi n), v2, v3], [], tw τ I2 L2) (tv τ Q) := by
    refine up_ind 240 (W := fun n I2 L2 => ∀ v2 v3, wp_r (d - 1) 252 (81, [.ref 1315, .int (zi n), v2, v3], [], tw τ I2 L2) (tv τ Q)) (P := fun n I2 L2 => twf ZW I L I2 L2 ∧ tbs L2 1333 (dir S) ∧ tbs L2 1334 (war (isF S) (dir S) n)) (fun I2 L2 hP v2 v3 => ?_) (fun n I2 L2 hn hP ih v2 v3 => ?_)
    · exact k252_81 hτ (by omega) ⟨fun z => absurd z (by decide), fun _ => h I2 L2 hP.1 (h0.kept hτ (hP.1.wi ZW_XW)) hP.2⟩
    · obtain ⟨f, b1, b2⟩ := hP
      have g := h0.kept hτ (f.wi ZW_XW)
      have l3 := cty_lt (S.1 n)
      refine k252_81 hτ (by omega) ?_
      rw [zi_lt (by omega) (by omega) (by omega) (by omega), zn_ix (by omega), g.ty hn, zi_eq (by omega) (by omega) (by omega) (by omega), zn_a n 1 1 rfl]
      refine ⟨fun _ => ⟨zn_in (show n < 2400 by omega) (by omega), fun z => ?_, fun z => ?_⟩, fun z => absurd (by omega) z⟩
      · have hF : isF S n = true := decide_eq_true (by omega)
        have cl : ∀ c I3 L3, c ≤ 240 → (twf (fun a i => a = 1334) I2 L2 I3 L3 ∧ tbs L3 1334 (fun x e => if x < c then war (isF S) (dir S) (n + 1) x e else war (isF S) (dir S) n x e)) → ∀ v3, wp_r (d - 1) 252 (103, [.ref 1315, .int (zi n), .int (zi c), v3], [], tw τ I3 L3) (tv τ Q) := by
          refine up_ind 240 (W := fun c I3 L3 => ∀ v3, wp_r (d - 1) 252 (103, [.ref 1315, .int (zi n), .int (zi c), v3], [], tw τ I3 L3) (tv τ Q)) (P := fun c I3 L3 => twf (fun a i => a = 1334) I2 L2 I3 L3 ∧ tbs L3 1334 (fun x e => if x < c then war (isF S) (dir S) (n + 1) x e else war (isF S) (dir S) n x e)) (fun I3 L3 hP v3 => ?_) (fun c I3 L3 hc hP ih2 v3 => ?_)
          · refine k252_103 hτ (by omega) ⟨fun z => absurd z (by decide), fun _ => ?_⟩
            rw [zn_a n 1 1 rfl]
            refine ih I3 L3 ⟨f.tr (hP.1.wi fun a i z => by unfold ZW; omega), b1.kept hP.1 (fun i => by omega), fun x e hx he => ?_⟩ _ _
            rw [hP.2 x e hx he]
            exact if_pos hx
          · obtain ⟨f3, b3⟩ := hP
            refine k252_103 hτ (by omega) ?_
            rw [zi_lt (by omega) (by omega) (by omega) (by omega)]
            refine ⟨fun _ => t_hasB hτ b3 (.inr rfl) hc (by omega) (by omega) ?_, fun z => absurd (by omega) z⟩
            rw [if_neg (Nat.lt_irrefl _), bz_0, zn_a c 1 1 rfl]
            refine ⟨fun z => ?_, fun z => ?_⟩
            · refine ih2 I3 L3 ⟨f3, fun x e hx he => ?_⟩ _
              rw [b3 x e hx he]
              simp only
              by_cases e1 : x < c
              · rw [if_pos e1, if_pos (by omega)]
              · rw [if_neg e1]
                by_cases e2 : x = c
                · subst e2
                  rw [if_pos (by omega)]
                  show _ = (war (isF S) (dir S) n x e || (isF S n && war (isF S) (dir S) n x n && _))
                  rw [z, Bool.and_false, Bool.false_and, Bool.or_false]
                · rw [if_neg (by omega)]
            · have z : war (isF S) (dir S) n c n = true := by
                cases w : war (isF S) (dir S) n c n with
                | true => rfl
                | false => exact absurd w z
              have kl : ∀ k I4 L4, k ≤ 4 → (twf (fun a i => a = 1334) I2 L2 I4 L4 ∧ tbs L4 1334 (fun x e => if x < c ∨ (x = c ∧ e / 64 < k) then war (isF S) (dir S) (n + 1) x e else war (isF S) (dir S) n x e)) → wp_r (d - 1) 252 (124, [.ref 1315, .int (zi n), .int (zi c), .int (zi k)], [], tw τ I4 L4) (tv τ Q) := by
                refine up_ind 4 (W := fun k I4 L4 => wp_r (d - 1) 252 (124, [.ref 1315, .int (zi n), .int (zi c), .int (zi k)], [], tw τ I4 L4) (tv τ Q)) (P := fun k I4 L4 => twf (fun a i => a = 1334) I2 L2 I4 L4 ∧ tbs L4 1334 (fun x e => if x < c ∨ (x = c ∧ e / 64 < k) then war (isF S) (dir S) (n + 1) x e else war (isF S) (dir S) n x e)) (fun I4 L4 hP => ?_) (fun k I4 L4 hk hP ih3 => ?_)
                · refine k252_124 hτ (by omega) ⟨fun z => absurd z (by decide), fun _ => ?_⟩
                  rw [zn_a c 1 1 rfl]
                  refine ih2 I4 L4 ⟨hP.1, fun x e hx he => ?_⟩ _
                  rw [hP.2 x e hx he]
                  simp only
                  by_cases e1 : x < c + 1
                  · rw [if_pos e1, if_pos (by omega)]
                  · rw [if_neg e1, if_neg (by omega)]
                · obtain ⟨f4, b4⟩ := hP
                  refine k252_124 hτ (by omega) ?_
                  rw [zi_lt (by omega) (by omega) (by omega) (by omega), zn_a k 1 1 rfl, zi_mul, zi_mul, zi_add, zi_add, zi_ix (by omega) (by omega), zi_ix (by omega) (by omega), show (4 * (c : Int) + k).toNat = 4 * c + k by omega, show (4 * (n : Int) + k).toNat = 4 * n + k by omega]
                  refine ⟨fun _ => ⟨(zi_in (by omega) (by omega)).mpr ⟨by omega, by omega⟩, (zi_in (by omega) (by omega)).mpr ⟨by omega, by omega⟩, ?_⟩, fun z => absurd (by omega) z⟩
                  rintro L5 rfl
                  refine ih3 _ _ ⟨f4.pL rfl _, fun x e hx he => ?_⟩
                  rw [u2_at]
                  by_cases hxe : 4 * x + e / 64 = 4 * c + k
                  · have e1 : x = c := by omega
                    have e2 : e / 64 = k := by omega
                    subst e1
                    have q1 := b4 x e hx he
                    have q2 := b4 n e hn he
                    rw [e2] at q1 q2
                    simp only at q1 q2
                    rw [if_neg (by omega)] at q1
                    have q2 : lb (L4 1334 (4 * n + k)) (e % 64) = war (isF S) (dir S) n n e := by
                      rw [q2]
                      split
                      · exact war_row _ _ _ _
                      · rfl
                    rw [if_pos hxe, lb_or, q1, q2]
                    simp only
                    rw [if_pos (.inr ⟨trivial, by omega⟩)]
                    show _ = (war (isF S) (dir S) n x e || (isF S n && war (isF S) (dir S) n x n && war (isF S) (dir S) n n e))
                    rw [z, hF]
                    rfl
                  · rw [if_neg hxe, b4 x e hx he]
                    simp only
                    by_cases e1 : x < c ∨ (x = c ∧ e / 64 < k)
                    · rw [if_pos e1, if_pos (by omega)]
                    · rw [if_neg e1, if_neg (by omega)]
              refine kl 0 I3 L3 (by omega) ⟨f3, fun x e hx he => ?_⟩
              rw [b3 x e hx he]
              simp only
              by_cases e1 : x < c
              · rw [if_pos e1, if_pos (by omega)]
              · rw [if_neg e1, if_neg (by omega)]
        refine cl 0 I2 L2 (by omega) ⟨twf.rf, fun x e hx he => ?_⟩ _
        rw [b2 x e hx he]
        simp only
        rw [if_neg (by omega)]
      · refine ih I2 L2 ⟨f, b1, fun x e hx he => ?_⟩ _ _
        rw [b2 x e hx he]
        show _ = (_ || (isF S n && _ && _))
        rw [show isF S n = false from decide_eq_false (by omega), Bool.false_and, Bool.false_and, Bool.or_false]
  have cop : ∀ k I2 L2, k ≤ 960 → (twf ZW I L I2 L2 ∧ tbs L2 1333 (dir S) ∧ ∀ j, j < k → L2 1334 j = L2 1333 j) → ∀ v2 v3, wp_r (d - 1) 252 (54, [.ref 1315, .int (zi k), v2, v3], [], tw τ I2 L2) (tv τ Q) := by
    refine up_ind 960 (W := fun k I2 L2 => ∀ v2 v3, wp_r (d - 1) 252 (54, [.ref 1315, .int (zi k), v2, v3], [], tw τ I2 L2) (tv τ Q)) (P := fun k I2 L2 => twf ZW I L I2 L2 ∧ tbs L2 1333 (dir S) ∧ ∀ j, j < k → L2 1334 j = L2 1333 j) (fun I2 L2 hP v2 v3 => ?_) (fun k I2 L2 hk hP ih v2 v3 => ?_)
    · refine k252_54 hτ (by omega) ⟨fun z => absurd z (by decide), fun _ => warl 0 I2 L2 (by omega) ⟨hP.1, hP.2.1, fun x e hx he => ?_⟩ _ _⟩
      rw [hP.2.2 _ (by omega)]
      exact hP.2.1 x e hx he
    · obtain ⟨f, b1, b2⟩ := hP
      refine k252_54 hτ (by omega) ?_
      rw [zi_lt (by omega) (by omega) (by omega) (by omega), zn_ix (by omega), zn_a k 1 1 rfl]
      refine ⟨fun _ => ⟨zn_in hk (by omega), ?_⟩, fun z => absurd (by omega) z⟩
      rintro L3 rfl
      refine ih _ _ ⟨f.pL (by unfold ZW; omega) _, fun x e hx he => by rw [u2_ne _ _ _ _ (by omega)]; exact b1 x e hx he, fun j hj => ?_⟩ _ _
      rw [u2_at, u2_ne _ _ _ _ (by omega)]
      by_cases e : j = k
      · rw [if_pos e, e]
      · rw [if_neg e]; exact b2 j (by omega)
  have lnk : ∀ c I2 L2, c ≤ 240 → (twf ZW I L I2 L2 ∧ tbs L2 1333 (fun x e => decide (x < c) && dir S x e)) → ∀ v2 v3, wp_r (d - 1) 252 (24, [.ref 1315, .int (zi c), v2, v3], [], tw τ I2 L2) (tv τ Q) := by
    refine up_ind 240 (W := fun c I2 L2 => ∀ v2 v3, wp_r (d - 1) 252 (24, [.ref 1315, .int (zi c), v2, v3], [], tw τ I2 L2) (tv τ Q)) (P := fun c I2 L2 => twf ZW I L I2 L2 ∧ tbs L2 1333 (fun x e => decide (x < c) && dir S x e)) (fun I2 L2 hP v2 v3 => ?_) (fun c I2 L2 hc hP ih v2 v3 => ?_)
    · refine k252_24 hτ (by omega) ⟨fun z => absurd z (by decide), fun _ => cop 0 I2 L2 (by omega) ⟨hP.1, fun x e hx he => ?_, fun j hj => absurd hj (by omega)⟩ _ _⟩
      rw [hP.2 x e hx he]
      simp only
      rw [decide_eq_true hx, Bool.true_and]
    · obtain ⟨f, b1⟩ := hP
      have g := h0.kept hτ (f.wi ZW_XW)
      have l3 := cty_lt (S.1 c)
      have step : ∀ x e, (decide (x < c + 1) && dir S x e) = ((decide (x < c) && dir S x e) || (decide (x = c) && dir S c e)) := by
        intro x e
        by_cases e1 : x = c
        · subst e1
          rw [decide_eq_true (by omega), decide_eq_false (by omega), decide_eq_true rfl]
          simp
        · rw [decide_eq_false e1, Bool.false_and, Bool.or_false]
          congr 2
          apply propext
          omega
      refine k252_24 hτ (by omega) ?_
      rw [zi_lt (by omega) (by omega) (by omega) (by omega), zn_ix (by omega), g.ty hc, zi_eq (by omega) (by omega) (by omega) (by omega), zn_a c 1 1 rfl]
      refine ⟨fun _ => ⟨zn_in (show c < 2400 by omega) (by omega), fun z => ?_, fun z => ?_⟩, fun z => absurd (by omega) z⟩
      · refine t_linksCell hτ g hc b1 (by omega) fun I3 L3 f3 b3 => ih I3 L3 ⟨f.tr (f3.wi fun a i z => by unfold YW DW at z; unfold ZW BW; unfold BW at z; omega), fun x e hx he => ?_⟩ _ _
        rw [b3 x e hx he]
        simp only
        rw [step, ← dir_f (hok c hc)]
      · refine ih I2 L2 ⟨f, fun x e hx he => ?_⟩ _ _
        rw [b1 x e hx he]
        simp only
        rw [step, dir_n (S := S) (c := c) (by omega), Bool.and_false, Bool.or_false]
  have clr : ∀ k I2 L2, k ≤ 960 → (twf ZW I L I2 L2 ∧ ∀ j, j < k → L2 1333 j = zl 0) → ∀ v2 v3, wp_r (d - 1) 252 (2, [.ref 1315, .int (zi k), v2, v3], [], tw τ I2 L2) (tv τ Q) := by
    refine up_ind 960 (W := fun k I2 L2 => ∀ v2 v3, wp_r (d - 1) 252 (2, [.ref 1315, .int (zi k), v2, v3], [], tw τ I2 L2) (tv τ Q)) (P := fun k I2 L2 => twf ZW I L I2 L2 ∧ ∀ j, j < k → L2 1333 j = zl 0) (fun I2 L2 hP v2 v3 => ?_) (fun k I2 L2 hk hP ih v2 v3 => ?_)
    · refine k252_2 hτ (by omega) ⟨fun z => absurd z (by decide), fun _ => lnk 0 I2 L2 (by omega) ⟨hP.1, fun x e hx he => ?_⟩ _ _⟩
      rw [hP.2 _ (by omega), lb_0]
      rfl
    · obtain ⟨f, b1⟩ := hP
      refine k252_2 hτ (by omega) ?_
      rw [zi_lt (by omega) (by omega) (by omega) (by omega), zn_ix (by omega), zn_a k 1 1 rfl]
      refine ⟨fun _ => ⟨zn_in hk (by omega), ?_⟩, fun z => absurd (by omega) z⟩
      rintro L3 rfl
      refine ih _ _ ⟨f.pL (by unfold ZW; omega) _, fun j hj => ?_⟩ _ _
      rw [u2_at]
      by_cases e : j = k
      · rw [if_pos e]
      · rw [if_neg e]; exact b1 j (by omega)
  exact clr 0 I L (by omega) ⟨twf.rf, fun j hj => absurd hj (by omega)⟩ _ _
end
