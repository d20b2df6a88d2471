/-! THE TWIN: copyCell, fillRange -/
/-- what a copy has -/
def shC (x y : Nat) (q : Cn) : Cn := match q with
  | some (.inr t) => some (.inr (mp (frC ((y % 12 : Nat) - (x % 12 : Nat) : Int) ((y / 12 : Nat) - (x / 12 : Nat) : Int)) (fgC ((y % 12 : Nat) - (x % 12 : Nat) : Int) ((y / 12 : Nat) - (x / 12 : Nat) : Int)) fnI t))
  | q => q
def inb (c f l : Nat) : Bool := decide ((f % 12 ≤ c % 12 ∧ c % 12 ≤ l % 12) ∧ f / 12 ≤ c / 12 ∧ c / 12 ≤ l / 12)
def cnt (P : Nat → Bool) : Nat → Nat
  | 0 => 0
  | n + 1 => cnt P n + (if P n then 1 else 0)
theorem cnt_le (P : Nat → Bool) : ∀ n, cnt P n ≤ n := by
  intro n
  induction n with
  | zero => exact Nat.le_refl _
  | succ n ih => show cnt P n + _ ≤ _; split <;> omega
def fil {α : Type} (g : Nat → α) (P : Nat → Bool) (n : Nat) (base : Nat → α) : Nat → α := fun i => if i < n ∧ P i = true then g i else base i
theorem fil_0 {α : Type} (g : Nat → α) (P : Nat → Bool) (base : Nat → α) : fil g P 0 base = base := by
  funext i; unfold fil; rw [if_neg (by omega)]
theorem fil_t {α : Type} (g : Nat → α) (P : Nat → Bool) (n : Nat) (base : Nat → α) (h : P n = true) : fil g P (n + 1) base = up1 (fil g P n base) n (g n) := by
  funext i
  show (if i < n + 1 ∧ P i = true then g i else base i) = if i = n then g n else (if i < n ∧ P i = true then g i else base i)
  by_cases e : i = n
  · subst e; rw [if_pos ⟨by omega, h⟩, if_pos rfl]
  · rw [if_neg e]
    by_cases c : i < n ∧ P i = true
    · rw [if_pos c, if_pos ⟨by omega, c.2⟩]
    · rw [if_neg c, if_neg (fun z => c ⟨by omega, z.2⟩)]
theorem fil_f {α : Type} (g : Nat → α) (P : Nat → Bool) (n : Nat) (base : Nat → α) (h : P n = false) : fil g P (n + 1) base = fil g P n base := by
  funext i
  unfold fil
  by_cases e : i = n
  · subst e; rw [if_neg (fun z => by rw [h] at z; cases z.2), if_neg (by omega)]
  · by_cases c : i < n ∧ P i = true
    · rw [if_pos c, if_pos ⟨by omega, c.2⟩]
    · rw [if_neg c, if_neg (fun z => c ⟨by omega, z.2⟩)]
theorem shC_cty (x y : Nat) (q : Cn) : cty (shC x y q) = cty q := by
  match q with
  | none => rfl
  | some (.inl n) => rfl
  | some (.inr t) => rfl
theorem shC_cok (x y : Nat) {q : Cn} (h : cok q) : cok (shC x y q) := by
  match q, h with
  | none, h => exact h
  | some (.inl n), h => exact h
  | some (.inr t), h => exact mp_cok (mokC _ _) h
theorem ctk_okl {q : Cn} (h : cok q) : okl (ctk q) := by
  match q, h with
  | none, h => exact trivial
  | some (.inl n), h => exact trivial
  | some (.inr t), h => exact okl_all h.1
theorem shC_ctk (x y : Nat) {q : Cn} (h : cok q) : tmap (frC ((y % 12 : Nat) - (x % 12 : Nat) : Int) ((y / 12 : Nat) - (x / 12 : Nat) : Int)) (fgC ((y % 12 : Nat) - (x % 12 : Nat) : Int) ((y / 12 : Nat) - (x / 12 : Nat) : Int)) fnI (ctk q) = ctk (shC x y q) := by
  match q, h with
  | none, h => rfl
  | some (.inl n), h => rfl
  | some (.inr t), h => exact tmap_all (mokC _ _) h.1
theorem up_up {α : Type} (f : Nat → α) (c : Nat) (v w : α) : up1 (up1 f c v) c w = up1 f c w := by
  funext i
  unfold up1
  split <;> rfl
theorem tst.put2 {τ : tw_K} {I : tw_I} {L : tw_L} {B : List Nat} {S : Sh} {H : List Sh} {V O : Nat → Vl} {M W : Nat → Bool} {au : Bool} {ev : Nat} (hτ : tw_ok τ) {I2 : tw_I} {L2 : tw_L} (h : tst τ I L B S H V O M W au ev) {c : Nat} {q : Cn} (hc : c < 240) (f : twf (fun a i => CW c a i ∨ XW a i) I L I2 L2) (hq : tcell I2 L2 c q) : tst τ I2 L2 B (up1 S.1 c q, S.2) H V O M W au ev := by
  obtain ⟨h1, h2, h3, h4, h5, h6, h7, h8, h9, h10, h11⟩ := h
  refine ⟨h1.kept hτ (fun a i z => by unfold CW XW at z; omega) f, h2.kept f (by unfold CW XW; omega) (fun i => by unfold CW XW; omega), ⟨fun x hx => ?_, ?_, h3.2.2.1, fun n q hq => ?_⟩, h4.kept f (by unfold CW XW; omega) (fun k hk a i z => by unfold CW XW at z; unfold KW; omega),
    h5.kept f (fun c => by unfold CW XW; omega) (fun c => by unfold CW XW; omega), h6.kept f (fun c => by unfold CW XW; omega) (fun c => by unfold CW XW; omega), h7.kept f (fun c => by unfold CW XW; omega), h8.kept f (fun c => by unfold CW XW; omega), by rw [(f _ _ (by unfold CW XW; omega)).1]; exact h9, by rw [(f _ _ (by unfold CW XW; omega)).1]; exact h10, h11⟩
  · show tcell I2 L2 (240 * 0 + x) (up1 S.1 c q x)
    by_cases e : x = c
    · subst e
      rw [up_s, show 240 * 0 + x = x by omega]
      exact hq
    · rw [up_n _ _ _ e]
      exact (h3.1 x hx).kept f (by unfold CW XW; omega) (by unfold CW XW; omega) (by unfold CW XW; omega) (fun i hi => by unfold CW XW; omega)
  · show I2 1320 0 = zi S.2.length
    rw [(f _ _ (by unfold CW XW; omega)).1]; exact h3.2.1
  · exact (h3.2.2.2 n q hq).kept f (by unfold CW XW; omega) (by unfold CW XW; omega) (by unfold CW XW; omega)
section
variable {τ : tw_K} {I : tw_I} {L : tw_L} {d : Nat} {B : List Nat} {S : Sh} {H : List Sh} {V O : Nat → Vl} {M W : Nat → Bool} {au : Bool} {ev : Nat}
theorem tst.cell (h : tst τ I L B S H V O M W au ev) {c : Nat} (hc : c < 240) : tcell I L c (S.1 c) := by
  have := h.2.2.1.1 c hc
  rwa [show 240 * 0 + c = c by omega] at this
theorem t_copies (hτ : tw_ok τ) (h0 : tst τ I L B S H V O M W au ev) {x y : Nat} (hx : x < 240) (hy : y < 240) (hxy : x ≠ y) {Q : tw_I → tw_L → Prop} (hd : 5 ≤ d)
    (h : ∀ I2 L2, tst τ I2 L2 B (up1 S.1 y (shC x y (S.1 x)), S.2) H (up1 V y (bgV (shC x y (S.1 x)))) O (up1 M y (decide (cty (shC x y (S.1 x)) = 2))) W au ev → Q I2 L2) : wp_c d 196 [.ref 1315, .int (zi x), .int (zi y)] (tw τ I L) (tv τ Q) := by
  have hcx := h0.cell hx
  refine k196 hτ (by omega) (t_copiesContent hτ (by omega) (by omega) hxy hcx (by omega) fun I1 L1 f1 c1 => ?_)
  have g1 := h0.put hτ hy f1 c1
  refine t_columnOf hτ (by omega) (by omega) (t_columnOf hτ (by omega) (by omega) (t_rowOf hτ (by omega) (by omega) (t_rowOf hτ (by omega) (by omega) ?_)))
  rintro I2 rfl
  rw [zi_sub, zi_sub]
  have f2 : twf XW I1 L1 (cm_u2 I1 1315 29 (zi 0)) L1 := twf.rf.pI (by unfold XW; omega) _
  have g2 := g1.kept hτ f2
  have c2 : tcell (cm_u2 I1 1315 29 (zi 0)) L1 y (S.1 x) := c1.kept f2 (by unfold XW; omega) (by unfold XW; omega) (by unfold XW; omega) (fun i hi => by unfold XW; omega)
  generalize hI2 : cm_u2 I1 1315 29 (zi 0) = I2 at f2 g2 c2
  have e29 : I2 1315 29 = zi 0 := by rw [← hI2, u2_same]
  refine t_copies_loop hτ (by omega) (R := ctk (shC x y (S.1 x))) (by omega) (by omega) _ (by omega) I2 L1 (fun I3 L3 f3 t3 => ?_) _ [] (ctk (S.1 x)) 0 I2 L1 _ _ _ _ _ _ _ (Nat.le_refl _) c2.2.1 (by simp) (ctk_okl c2.2.2.1) (by show [] ++ _ = _; rw [List.nil_append, shC_ctk x y c2.2.2.1]) e29 twf.rf
  have c3 : tcell I3 L3 y (shC x y (S.1 x)) := by
    refine ⟨?_, t3, shC_cok x y c2.2.2.1, fun n hn => ?_⟩
    · rw [(f3 _ _ (by unfold TX; omega)).1, shC_cty]; exact c2.1
    · rw [(f3 _ _ (by unfold TX; omega)).2]
      refine c2.2.2.2 n ?_
      revert hn
      match S.1 x with
      | none => exact id
      | some (.inl n) => exact id
      | some (.inr t) => intro z; cases z
  have g3 := g2.put2 hτ hy (f3.wi (fun a i z => by unfold TX at z; unfold CW XW; omega)) c3
  refine t_bg hτ g3 hy (by omega) fun I4 L4 _ g4 => h I4 L4 ?_
  rw [show (up1 (up1 S.1 y (S.1 x), S.2).1 y (shC x y (S.1 x)), (up1 S.1 y (S.1 x), S.2).2) = (up1 S.1 y (shC x y (S.1 x)), S.2) by
    show (up1 (up1 S.1 y (S.1 x)) y _, S.2) = _
    rw [up_up]] at g4
  simp only [up_s] at g4
  exact g4
theorem t_isBox (hτ : tw_ok τ) (x y : Int32) {Q : Int32 → tw_I → tw_L → Prop} (hd : 3 ≤ d)
    (h1 : ∀ a b : Nat, box a b → x = zi a → y = zi b → Q (zi 1) I L) (h2 : (¬ ∃ a b : Nat, box a b ∧ x = zi a ∧ y = zi b) → Q (zi 0) I L) : wp_c d 231 [.int x, .int y] (tw τ I L) (ti τ Q) := by
  have hx := zi_rng x
  have hy := zi_rng y
  have inj : ∀ (z : Int32) (a : Nat), a < 240 → z = zi a → z.toInt = a := fun z a ha e => by rw [e, zi_toInt (by omega) (by omega)]
  refine k231 hτ (by omega) ?_
  have ex := zi_self x
  have ey := zi_self y
  refine (show wp_c (d - 1) 233 [.int x] (tw τ I L) _ from ?_)
  rw [← ex]
  refine t_isCell hτ ⟨by omega, by omega⟩ (by omega) ?_
  rw [bz_0, decide_eq_false_iff_not]
  refine ⟨fun z => h2 fun ⟨a, b, hb, e1, e2⟩ => z (by have := inj x a hb.1 e1; have := hb.1; omega), fun z => ?_⟩
  have z := Decidable.not_not.mp z
  rw [← ey]
  refine t_isCell hτ ⟨by omega, by omega⟩ (by omega) ?_
  rw [bz_0, decide_eq_false_iff_not]
  refine ⟨fun z2 => h2 fun ⟨a, b, hb, e1, e2⟩ => z2 (by have := inj y b hb.2.1 e2; have := hb.2.1; omega), fun z2 => ?_⟩
  have z2 := Decidable.not_not.mp z2
  obtain ⟨a, ha⟩ : ∃ a : Nat, x.toInt = a := ⟨x.toInt.toNat, by omega⟩
  obtain ⟨b, hb⟩ : ∃ b : Nat, y.toInt = b := ⟨y.toInt.toNat, by omega⟩
  rw [ha, hb]
  rw [ha] at ex
  rw [hb] at ey
  refine t_columnOf hτ (by omega) (by omega) (t_columnOf hτ (by omega) (by omega) ?_)
  rw [zi_lt (by omega) (by omega) (by omega) (by omega)]
  refine ⟨fun q => h2 fun ⟨a2, b2, hb2, e1, e2⟩ => ?_, fun q => ?_⟩
  · have i1 := inj x a2 hb2.1 e1
    have i2 := inj y b2 hb2.2.1 e2
    have j1 : a2 = a := by omega
    have j2 : b2 = b := by omega
    subst j1 j2
    have := hb2.2.2.1
    omega
  refine t_rowOf hτ (by omega) (by omega) (t_rowOf hτ (by omega) (by omega) ?_)
  rw [zi_lt (by omega) (by omega) (by omega) (by omega)]
  refine ⟨fun q2 => h2 fun ⟨a2, b2, hb2, e1, e2⟩ => ?_, fun q2 => h1 a b ⟨by omega, by omega, by omega, by omega⟩ ex.symm ey.symm⟩
  have i1 := inj x a2 hb2.1 e1
  have i2 := inj y b2 hb2.2.1 e2
  have j1 : a2 = a := by omega
  have j2 : b2 = b := by omega
  subst j1 j2
  have := hb2.2.2.2
  omega
theorem t_isIn (hτ : tw_ok τ) {c f l : Nat} (hc : c < 1000) (hf : f < 1000) (hl : l < 1000) {Q : Int32 → tw_I → tw_L → Prop} (hd : 2 ≤ d) (h : Q (bz (inb c f l)) I L) : wp_c d 237 [.int (zi c), .int (zi f), .int (zi l)] (tw τ I L) (ti τ Q) := by
  refine k237 hτ (by omega) ?_
  refine t_columnOf hτ (by omega) (by omega) (t_columnOf hτ (by omega) (by omega) (t_columnOf hτ (by omega) (by omega) ?_))
  rw [zi_l (by omega) (by omega), zi_l (by omega) (by omega), zi_l (by omega) (by omega)]
  refine t_in hτ ⟨by omega, by omega⟩ (by omega) (by omega) (by omega) ?_
  rw [bz_0, decide_eq_false_iff_not]
  unfold inb at h
  refine ⟨fun z => ?_, fun z => ?_⟩
  · rwa [decide_eq_false (fun y => z (by omega))] at h
  have z := Decidable.not_not.mp z
  refine t_rowOf hτ (by omega) (by omega) (t_rowOf hτ (by omega) (by omega) (t_rowOf hτ (by omega) (by omega) ?_))
  rw [zi_l (by omega) (by omega), zi_l (by omega) (by omega), zi_l (by omega) (by omega)]
  refine t_in hτ ⟨by omega, by omega⟩ (by omega) (by omega) (by omega) ?_
  rw [bz_0, decide_eq_false_iff_not]
  refine ⟨fun y => ?_, fun y => ?_⟩
  · rwa [decide_eq_false (fun w => y (by omega))] at h
  · have y := Decidable.not_not.mp y
    rwa [decide_eq_true (by omega)] at h
theorem zi_cell {x : Int32} {a : Nat} (ha : a < 240) (e : x = zi a) : x.toInt = a := by rw [e, zi_toInt (by omega) (by omega)]
theorem t_isCellX (hτ : tw_ok τ) (x : Int32) {Q : Int32 → tw_I → tw_L → Prop} (hd : 2 ≤ d) (h1 : ∀ a : Nat, a < 240 → x = zi a → Q (zi 1) I L) (h2 : (¬ ∃ a : Nat, a < 240 ∧ x = zi a) → Q (zi 0) I L) : wp_c d 233 [.int x] (tw τ I L) (ti τ Q) := by
  have hx := zi_rng x
  have ex := zi_self x
  rw [← ex]
  refine t_isCell hτ ⟨by omega, by omega⟩ hd ?_
  by_cases z : 0 ≤ x.toInt ∧ x.toInt ≤ 239
  · rw [decide_eq_true z]
    exact h1 x.toInt.toNat (by omega) (by rw [← ex]; congr 1; rw [ex]; omega)
  · rw [decide_eq_false z]
    exact h2 fun ⟨a, ha, e⟩ => z (by have := zi_cell ha e; omega)
theorem t_copyCell (hτ : tw_ok τ) (h0 : tst τ I L B S H V O M W au ev) (x y : Int32) {Q : Int32 → tw_I → tw_L → Prop} (hd : 7 ≤ d)
    (h1 : (¬ ∃ a b : Nat, a < 240 ∧ b < 240 ∧ a ≠ b ∧ x = zi a ∧ y = zi b) → Q (zi (-1)) I L)
    (h2 : ∀ a b : Nat, a < 240 → b < 240 → a ≠ b → x = zi a → y = zi b → ∀ I2 L2, tst τ I2 L2 B (up1 S.1 b (shC a b (S.1 a)), S.2) ((S :: H).take 8) (up1 V b (bgV (shC a b (S.1 a)))) O (up1 M b (decide (cty (shC a b (S.1 a)) = 2))) W au ev →
      wp_c (d - 1) 188 [.ref 1315] (tw τ I2 L2) (tv τ fun I3 L3 => Q (I3 1316 b) I3 L3)) : wp_c d 199 [.ref 1315, .int x, .int y] (tw τ I L) (ti τ Q) := by
  refine k199 hτ (by omega) (t_isCellX hτ x (by omega) (fun a ha ea => ⟨fun z => absurd z (by decide), fun _ => ?_⟩) (fun n => ⟨fun _ => h1 fun ⟨a, b, ha, hb, hab, e1, e2⟩ => n ⟨a, ha, e1⟩, fun z => absurd rfl z⟩))
  refine t_isCellX hτ y (by omega) (fun b hb eb => ⟨fun z => absurd z (by decide), fun _ => ?_⟩) (fun n => ⟨fun _ => h1 fun ⟨a, b, ha, hb, hab, e1, e2⟩ => n ⟨b, hb, e2⟩, fun z => absurd rfl z⟩)
  subst ea eb
  rw [zi_eq (by omega) (by omega) (by omega) (by omega)]
  refine ⟨fun q => h1 fun ⟨a2, b2, ha2, hb2, hab, e1, e2⟩ => ?_, fun q => ?_⟩
  · rw [zi_eq (by omega) (by omega) (by omega) (by omega)] at e1 e2
    omega
  refine t_rec hτ h0 (by omega) fun I2 L2 _ g2 => t_copies hτ g2 ha hb (by omega) (by omega) fun I3 L3 g3 => ?_
  have := h2 a b ha hb (by omega) rfl rfl I3 L3 g3
  rw [zn_in (show b < 2400 by omega) (by omega), zn_ix (show b < 2147483648 by omega)]
  refine wt_v this fun I4 L4 q => ⟨rfl, q⟩
/-- the cells that are filled -/
def fiP (a f l : Nat) (c : Nat) : Bool := decide (c ≠ a) && inb c f l
theorem t_fillRange (hτ : tw_ok τ) (h0 : tst τ I L B S H V O M W au ev) (x y z : Int32) {Q : Int32 → tw_I → tw_L → Prop} (hd : 7 ≤ d)
    (h1 : (¬ ∃ a f l : Nat, a < 240 ∧ box f l ∧ x = zi a ∧ y = zi f ∧ z = zi l) → Q (zi (-1)) I L)
    (h2 : ∀ a f l : Nat, a < 240 → box f l → x = zi a → y = zi f → z = zi l → ∀ I2 L2, tst τ I2 L2 B (fil (fun c => shC a c (S.1 a)) (fiP a f l) 240 S.1, S.2) ((S :: H).take 8) (fil (fun c => bgV (shC a c (S.1 a))) (fiP a f l) 240 V) O (fil (fun c => decide (cty (shC a c (S.1 a)) = 2)) (fiP a f l) 240 M) W au ev →
      wp_c (d - 1) 188 [.ref 1315] (tw τ I2 L2) (tv τ fun I3 L3 => Q (zi (cnt (fiP a f l) 240)) I3 L3)) : wp_c d 218 [.ref 1315, .int x, .int y, .int z] (tw τ I L) (ti τ Q) := by
  refine k218 hτ (by omega) (t_isCellX hτ x (by omega) (fun a ha ea => ⟨fun z => absurd z (by decide), fun _ => ?_⟩) (fun n => ⟨fun _ => h1 fun ⟨a, f, l, ha, hb, e1, e2, e3⟩ => n ⟨a, ha, e1⟩, fun z => absurd rfl z⟩))
  refine t_isBox hτ y z (by omega) (fun f l hb ef el => ⟨fun z => absurd z (by decide), fun _ => ?_⟩) (fun n => ⟨fun _ => h1 fun ⟨a, f, l, ha, hb, e1, e2, e3⟩ => n ⟨f, l, hb, e2, e3⟩, fun z => absurd rfl z⟩)
  subst ea ef el
  have h2 := h2 a f l ha hb rfl rfl rfl
  have hf := hb.1
  have hl := hb.2.1
  refine t_rec hτ h0 (by omega) fun I2 L2 _ g2 => ?_
  have loop : ∀ (n c : Nat) (I : tw_I) (L : tw_L), 240 - c = n → c ≤ 240 → tst τ I L B (fil (fun c => shC a c (S.1 a)) (fiP a f l) c S.1, S.2) ((S :: H).take 8) (fil (fun c => bgV (shC a c (S.1 a))) (fiP a f l) c V) O (fil (fun c => decide (cty (shC a c (S.1 a)) = 2)) (fiP a f l) c M) W au ev →
      wp_r (d - 1) 218 (27, [.ref 1315, .int (zi a), .int (zi f), .int (zi l), .int (zi (cnt (fiP a f l) c)), .int (zi c)], [], tw τ I L) (ti τ Q) := by
    intro n
    induction n with
    | zero =>
      intro c I L hn hc g
      have hc : c = 240 := by omega
      subst hc
      refine k218_27 hτ (by omega) ⟨fun z => absurd z (by decide), fun _ => h2 I L g⟩
    | succ n ih =>
      intro c I L hn hc g
      have cl := cnt_le (fiP a f l) c
      refine k218_27 hτ (by omega) ?_
      rw [zi_lt (by omega) (by omega) (by omega) (by omega), zi_eq (by omega) (by omega) (by omega) (by omega), zn_a c 1 1 rfl]
      refine ⟨fun _ => ?_, fun z => absurd (by omega) z⟩
      have no : fiP a f l c = false → wp_r (d - 1) 218 (27, [.ref 1315, .int (zi a), .int (zi f), .int (zi l), .int (zi (cnt (fiP a f l) c)), .int (zi ((c + 1 : Nat) : Int))], [], tw τ I L) (ti τ Q) := by
        intro e
        have := ih (c + 1) I L (by omega) (by omega) (by rw [fil_f _ _ _ _ e, fil_f _ _ _ _ e, fil_f _ _ _ _ e]; exact g)
        rw [show cnt (fiP a f l) (c + 1) = cnt (fiP a f l) c by show _ + _ = _; rw [e]; rfl] at this
        exact this
      refine ⟨fun q => no ?_, fun q => ?_⟩
      · unfold fiP
        rw [decide_eq_false (by omega)]
        rfl
      refine t_isIn hτ (by omega) (by omega) (by omega) (by omega) ?_
      rw [bz_0]
      refine ⟨fun z => no ?_, fun z => ?_⟩
      · unfold fiP
        rw [z, Bool.and_false]
      have e : fiP a f l c = true := by
        unfold fiP
        rw [decide_eq_true (by omega), Bool.true_and]
        cases w : inb c f l with
        | true => rfl
        | false => exact absurd w z
      refine t_copies hτ g ha (by omega) (by omega) (by omega) fun I3 L3 g3 => ?_
      have ea : fil (fun c => shC a c (S.1 a)) (fiP a f l) c S.1 a = S.1 a := by
        unfold fil
        refine if_neg fun z => ?_
        have := z.2
        unfold fiP at this
        rw [decide_eq_false (by omega)] at this
        cases this
      have := ih (c + 1) I3 L3 (by omega) (by omega) (by
        rw [fil_t _ _ _ _ e, fil_t _ _ _ _ e, fil_t _ _ _ _ e]
        simp only [ea] at g3
        exact g3)
      rw [show cnt (fiP a f l) (c + 1) = cnt (fiP a f l) c + 1 by show _ + _ = _; rw [e]; rfl] at this
      rw [zn_a (cnt (fiP a f l) c) 1 1 rfl]
      exact this
  have := loop _ 0 I2 L2 rfl (by omega) (by rw [fil_0, fil_0, fil_0]; exact g2)
  exact this
end
