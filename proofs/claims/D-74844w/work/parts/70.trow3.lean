/-! THE TWIN: insertRow, deleteRow -/
theorem dn_ind (K : Nat) {W P : Nat → tw_I → tw_L → Prop} (fin : ∀ I L, P K I L → W K I L) (step : ∀ c I L, K ≤ c → P (c + 1) I L → (∀ I2 L2, P c I2 L2 → W c I2 L2) → W (c + 1) I L) : ∀ c I L, K ≤ c → P c I L → W c I L := by
  have : ∀ n c I L, c - K = n → K ≤ c → P c I L → W c I L := by
    intro n
    induction n with
    | zero =>
      intro c I L hn hc h
      have : c = K := by omega
      subst this
      exact fin I L h
    | succ n ih =>
      intro c I L hn hc h
      obtain ⟨e, rfl⟩ : ∃ e, c = e + 1 := ⟨c - 1, by omega⟩
      exact step e I L (by omega) h fun I2 L2 h2 => ih e I2 L2 (by omega) (by omega) h2
  exact fun c I L hc h => this _ c I L rfl hc h
theorem cty_0 {q : Cn} : cty q = 0 ↔ q = none := by
  match q with
  | none => exact ⟨fun _ => rfl, fun _ => rfl⟩
  | some (.inl n) => exact ⟨fun z => (by cases z), fun z => by cases z⟩
  | some (.inr t) => exact ⟨fun z => (by cases z), fun z => by cases z⟩
theorem tch.kt {W : Nat → Nat → Prop} {I I2 : tw_I} {L L2 : tw_L} {ins : Bool} {b : Nat} (h : tch I ins b) (f : twf W I L I2 L2) (h1 : ¬ W 1315 30) (h2 : ¬ W 1315 31) : tch I2 ins b := ⟨by rw [(f _ _ h1).1]; exact h.1, by rw [(f _ _ h2).1]; exact h.2.1, h.2.2⟩
/-- the places of a cell's content and value -/
def EW (y a i : Nat) : Prop := CW y a i ∨ ((a = 1324 ∨ a = 1325 ∨ a = 1328) ∧ i = y)
section
variable {τ : tw_K} {I : tw_I} {L : tw_L} {d : Nat} {B : List Nat} {S : Sh} {H : List Sh} {V O : Nat → Vl} {M W : Nat → Bool} {au : Bool} {ev : Nat}
theorem t_movesCell (hτ : tw_ok τ) (h0 : tst τ I L B S H V O M W au ev) {x y : Nat} (hx : x < 240) (hy : y < 240) (hxy : x ≠ y) {Q : tw_I → tw_L → Prop} (hd : 2 ≤ d)
    (h : ∀ I2 L2, twf (EW y) I L I2 L2 → tst τ I2 L2 B (up1 S.1 y (S.1 x), S.2) H (up1 V y (V x)) O M W au ev → Q I2 L2) : wp_c d 267 [.ref 1315, .int (zi x), .int (zi y)] (tw τ I L) (tv τ Q) := by
  refine k267 hτ (by omega) (t_copiesContent hτ (by omega) (by omega) hxy (h0.cell hx) (by omega) fun I1 L1 f1 c1 => ?_)
  have g1 := h0.put hτ hy f1 c1
  refine ⟨zn_in hx (by omega), zn_in hy (by omega), ?_⟩
  rintro I2 rfl L3 rfl
  rw [zn_ix (by omega), zn_ix (by omega)]
  have f2 : twf (fun a i => (a = 1324 ∨ a = 1325 ∨ a = 1328) ∧ i = y) I1 L1 (cm_u2 I1 1324 y (I1 1324 x)) (cm_u2 L1 1325 y (L1 1325 x)) := (twf.rf.pI (by omega) _).pL (by omega) _
  obtain ⟨v1, v2, v3⟩ := g1.2.2.2.2.1 x hx
  have g2 := g1.val hτ (v := V x) (m := M y) hy f2 (by rw [u2_same]; exact v1) (by rw [u2_same]; exact v2) (by rw [u2_ne _ _ _ _ (by omega)]; exact g1.mk1 hy) v3
  rw [up_id] at g2
  exact h _ _ ((f1.wi fun a i z => .inl z).tr (f2.wi fun a i z => .inr z)) g2
theorem t_empties (hτ : tw_ok τ) (h0 : tst τ I L B S H V O M W au ev) {c : Nat} (hc : c < 240) {Q : tw_I → tw_L → Prop} (hd : 1 ≤ d)
    (h : ∀ I2 L2, twf (EW c) I L I2 L2 → tst τ I2 L2 B (up1 S.1 c none, S.2) H (up1 V c (0, zl 0)) O M W au ev → Q I2 L2) : wp_c d 210 [.ref 1315, .int (zi c)] (tw τ I L) (tv τ Q) := by
  refine k210 hτ hd ⟨zn_in (show c < 2400 by omega) (by omega), ?_⟩
  rintro I1 rfl L2 rfl I3 rfl
  refine ⟨zn_in hc (by omega), ?_⟩
  rintro I4 rfl L5 rfl
  rw [zn_ix (by omega)]
  have f1 : twf (CW c) I L (cm_u2 (cm_u2 I 1316 c (zi 0)) 1318 c (zi 0)) (cm_u2 L 1317 c (zl 0)) := ((twf.rf.pI (by unfold CW; omega) _).pL (by unfold CW; omega) _).pI (by unfold CW; omega) _
  have g1 := h0.put hτ (q := none) hc f1 ⟨by rw [u2_ne _ _ _ _ (by omega), u2_same]; rfl, ⟨by rw [u2_same]; rfl, by simp [ctk], fun i t ht => by simp [ctk] at ht⟩, trivial, fun n hn => by cases hn⟩
  generalize hI3 : cm_u2 (cm_u2 I 1316 c (zi 0)) 1318 c (zi 0) = I3 at f1 g1
  generalize hL2 : cm_u2 L 1317 c (zl 0) = L2 at f1 g1
  have f2 : twf (fun a i => (a = 1324 ∨ a = 1325 ∨ a = 1328) ∧ i = c) I3 L2 (cm_u2 I3 1324 c (zi 0)) (cm_u2 L2 1325 c (zl 0)) := (twf.rf.pI (by omega) _).pL (by omega) _
  have g2 := g1.val hτ (v := (0, zl 0)) (m := M c) hc f2 (by rw [u2_same]; rfl) (by rw [u2_same]) (by rw [u2_ne _ _ _ _ (by omega)]; exact g1.mk1 hc) (.inl ⟨rfl, rfl⟩)
  rw [up_id] at g2
  exact h _ _ ((f1.wi fun a i z => .inl z).tr (f2.wi fun a i z => .inr z)) g2
theorem t_row20 (hτ : tw_ok τ) (x : Int32) {Q : Int32 → tw_I → tw_L → Prop} (hd : 1 ≤ d) (h1 : ¬ (1 ≤ x.toInt ∧ x.toInt ≤ 20) → Q (zi 0) I L) (h2 : ∀ b : Nat, b < 20 → x = zi ((b + 1 : Nat) : Int) → Q (zi 1) I L) : wp_c d 225 [.long x.toInt64, .long (zl 1), .long (zl 20)] (tw τ I L) (ti τ Q) := by
  have hx := zi_rng x
  have ex := zi_self x
  rw [← ex, zi_l hx.1 hx.2]
  refine t_in hτ hx (by omega) (by omega) (by omega) ?_
  by_cases z : 1 ≤ x.toInt ∧ x.toInt ≤ 20
  · rw [decide_eq_true z]
    refine h2 (x.toInt.toNat - 1) (by omega) ?_
    rw [← ex]
    congr 1
    rw [ex]
    omega
  · rw [decide_eq_false z]
    exact h1 z
theorem t_insertRow (hτ : tw_ok τ) (h0 : tst τ I L B S H V O M W au ev) (x : Int32) {Q : Int32 → tw_I → tw_L → Prop} (hd : 9 ≤ d)
    (h1 : ¬ (1 ≤ x.toInt ∧ x.toInt ≤ 20) → Q (zi (-1)) I L)
    (h2 : ∀ b : Nat, b < 20 → x = zi ((b + 1 : Nat) : Int) → (∃ c, 228 ≤ c ∧ c < 240 ∧ S.1 c ≠ none) → Q (zi (-3)) I L)
    (h3 : ∀ b : Nat, b < 20 → x = zi ((b + 1 : Nat) : Int) → (∀ c, 228 ≤ c → c < 240 → S.1 c = none) → ∀ I2 L2, tst τ I2 L2 B (rwS true b (mvS true b S.1 none, S.2)) ((S :: H).take 8) (mvS true b V (0, zl 0)) O (fun c => decide (cty (mvS true b S.1 none c) = 2)) W au ev →
      wp_c (d - 1) 188 [.ref 1315] (tw τ I2 L2) (tv τ fun I3 L3 => Q (zi (lsSh true b (mvS true b S.1 none, S.2))) I3 L3)) : wp_c d 228 [.ref 1315, .int x] (tw τ I L) (ti τ Q) := by
  refine k228 hτ (by omega) (t_row20 hτ x (by omega) (fun z => ⟨fun _ => h1 z, fun z => absurd rfl z⟩) fun b hb hx => ⟨fun z => absurd z (by decide), fun _ => ?_⟩)
  subst hx
  have h2 := h2 b hb rfl
  have h3 := h3 b hb rfl
  have emp : ∀ c I L, c ≤ 12 * b + 12 → (12 * b ≤ c ∧ tst τ I L B (fun i => if 12 * b ≤ i ∧ i < c then none else if 12 * b + 12 ≤ i ∧ i < 240 then S.1 (i - 12) else S.1 i, S.2) ((S :: H).take 8) (fun i => if 12 * b ≤ i ∧ i < c then (0, zl 0) else if 12 * b + 12 ≤ i ∧ i < 240 then V (i - 12) else V i) O M W au ev ∧ tch I true b) → (∀ c, 228 ≤ c → c < 240 → S.1 c = none) → wp_r (d - 1) 228 (94, [.ref 1315, .int (zi ((b + 1 : Nat) : Int)), .int (zi c)], [], tw τ I L) (ti τ Q) := by
    intro c I L hc hP hno
    revert c I L
    refine up_ind (12 * b + 12) (W := fun c I L => wp_r (d - 1) 228 (94, [.ref 1315, .int (zi ((b + 1 : Nat) : Int)), .int (zi c)], [], tw τ I L) (ti τ Q)) (P := fun c I L => 12 * b ≤ c ∧ tst τ I L B (fun i => if 12 * b ≤ i ∧ i < c then none else if 12 * b + 12 ≤ i ∧ i < 240 then S.1 (i - 12) else S.1 i, S.2) ((S :: H).take 8) (fun i => if 12 * b ≤ i ∧ i < c then (0, zl 0) else if 12 * b + 12 ≤ i ∧ i < 240 then V (i - 12) else V i) O M W au ev ∧ tch I true b) (fun I L hP => ?_) (fun c I L hc hP ih => ?_)
    · refine k228_94 hτ (by omega) ?_
      rw [zi_mul, zi_lt (by omega) (by omega) (by omega) (by omega)]
      refine ⟨fun z => absurd z (by omega), fun _ => ?_⟩
      have g := hP.2.1.ext (S2 := (mvS true b S.1 none, S.2)) (V2 := mvS true b V (0, zl 0)) (M2 := M) (fun c hc => ?_) rfl (fun c hc => ?_) fun _ _ => rfl
      · refine t_shiftsAll hτ g hP.2.2 (by omega) fun I2 L2 g2 e2 => ?_
        rw [e2]
        exact h3 hno I2 L2 g2
      · simp only [mvS, if_true]
        by_cases h1 : c < 12 * b
        · rw [if_pos h1, if_neg (by omega), if_neg (by omega)]
        · rw [if_neg h1]
          by_cases h2 : c < 12 * b + 12
          · rw [if_pos h2, if_pos (by omega)]
          · rw [if_neg h2, if_pos hc, if_neg (by omega), if_pos (by omega)]
      · simp only [mvS, if_true]
        by_cases h1 : c < 12 * b
        · rw [if_pos h1, if_neg (by omega), if_neg (by omega)]
        · rw [if_neg h1]
          by_cases h2 : c < 12 * b + 12
          · rw [if_pos h2, if_pos (by omega)]
          · rw [if_neg h2, if_pos hc, if_neg (by omega), if_pos (by omega)]
    · refine k228_94 hτ (by omega) ?_
      rw [zi_mul, zi_lt (by omega) (by omega) (by omega) (by omega), zn_a c 1 1 rfl]
      refine ⟨fun _ => t_empties hτ hP.2.1 (by omega) (by omega) fun I2 L2 f2 g2 => ih I2 L2 ⟨by omega, g2.ext (fun i hi => ?_) rfl (fun i hi => ?_) (fun _ _ => rfl), hP.2.2.kt f2 (by unfold EW CW; omega) (by unfold EW CW; omega)⟩, fun z => absurd (by omega) z⟩
      · simp only [up1]
        by_cases e : i = c
        · rw [if_pos e, if_pos (by omega)]
        · rw [if_neg e]
          by_cases e2 : 12 * b ≤ i ∧ i < c
          · rw [if_pos e2, if_pos (by omega)]
          · rw [if_neg e2, if_neg (by omega)]
      · simp only [up1]
        by_cases e : i = c
        · rw [if_pos e, if_pos (by omega)]
        · rw [if_neg e]
          by_cases e2 : 12 * b ≤ i ∧ i < c
          · rw [if_pos e2, if_pos (by omega)]
          · rw [if_neg e2, if_neg (by omega)]
  have mov : (∀ c, 228 ≤ c → c < 240 → S.1 c = none) → ∀ c I L, 12 * b + 12 ≤ c → (c ≤ 240 ∧ tst τ I L B (fun i => if c ≤ i ∧ i < 240 then S.1 (i - 12) else S.1 i, S.2) ((S :: H).take 8) (fun i => if c ≤ i ∧ i < 240 then V (i - 12) else V i) O M W au ev ∧ tch I true b) → wp_r (d - 1) 228 (63, [.ref 1315, .int (zi ((b + 1 : Nat) : Int)), .int (zi ((c : Int) - 1))], [], tw τ I L) (ti τ Q) := by
    intro hno
    refine dn_ind (12 * b + 12) (W := fun c I L => wp_r (d - 1) 228 (63, [.ref 1315, .int (zi ((b + 1 : Nat) : Int)), .int (zi ((c : Int) - 1))], [], tw τ I L) (ti τ Q)) (P := fun c I L => c ≤ 240 ∧ tst τ I L B (fun i => if c ≤ i ∧ i < 240 then S.1 (i - 12) else S.1 i, S.2) ((S :: H).take 8) (fun i => if c ≤ i ∧ i < 240 then V (i - 12) else V i) O M W au ev ∧ tch I true b) (fun I L hP => ?_) (fun c I L hc hP ih => ?_)
    · refine k228_63 hτ (by omega) ?_
      rw [zi_mul, zi_lt (by omega) (by omega) (by omega) (by omega), hP.2.2.1, zi_mul]
      refine ⟨fun _ => ?_, fun z => absurd (by omega) z⟩
      have := emp (12 * b) I L (by omega) ⟨Nat.le_refl _, hP.2.1.ext (fun i hi => by (try simp only); rw [if_neg (by omega)]) rfl (fun i hi => by (try simp only); rw [if_neg (by omega)]) (fun _ _ => rfl), hP.2.2⟩ hno
      rw [show ((12 * b : Nat) : Int) = 12 * (b : Int) by omega] at this
      exact this
    · have hc2 := hP.1
      refine k228_63 hτ (by omega) ?_
      rw [zi_mul, zi_lt (by omega) (by omega) (by omega) (by omega), zi_sub, show ((c + 1 : Nat) : Int) - 1 = (c : Nat) by omega, show (c : Int) - 12 = ((c - 12 : Nat) : Int) by omega]
      refine ⟨fun z => absurd z (by omega), fun _ => t_movesCell hτ hP.2.1 (x := c - 12) (y := c) (by omega) (by omega) (by omega) (by omega) fun I2 L2 f2 g2 => ?_⟩
      rw [zi_add]
      refine ih I2 L2 ⟨by omega, g2.ext (fun i hi => ?_) rfl (fun i hi => ?_) (fun _ _ => rfl), hP.2.2.kt f2 (by unfold EW CW; omega) (by unfold EW CW; omega)⟩
      · simp only [up1]
        by_cases e : i = c
        · rw [if_pos e, if_pos (by omega), if_neg (by omega), e]
        · rw [if_neg e]
          by_cases e2 : c ≤ i ∧ i < 240
          · rw [if_pos e2, if_pos (by omega)]
          · rw [if_neg e2, if_neg (by omega)]
      · simp only [up1]
        by_cases e : i = c
        · rw [if_pos e, if_pos (by omega), if_neg (by omega), e]
        · rw [if_neg e]
          by_cases e2 : c ≤ i ∧ i < 240
          · rw [if_pos e2, if_pos (by omega)]
          · rw [if_neg e2, if_neg (by omega)]
  have see : ∀ c I' L', c ≤ 240 → (I' = I ∧ L' = L ∧ 228 ≤ c ∧ ∀ i, 228 ≤ i → i < c → S.1 i = none) → wp_r (d - 1) 228 (18, [.ref 1315, .int (zi ((b + 1 : Nat) : Int)), .int (zi c)], [], tw τ I' L') (ti τ Q) := by
    refine up_ind 240 (W := fun c I' L' => wp_r (d - 1) 228 (18, [.ref 1315, .int (zi ((b + 1 : Nat) : Int)), .int (zi c)], [], tw τ I' L') (ti τ Q)) (P := fun c I' L' => I' = I ∧ L' = L ∧ 228 ≤ c ∧ ∀ i, 228 ≤ i → i < c → S.1 i = none) (fun I' L' hP => ?_) (fun c I' L' hc hP ih => ?_)
    · obtain ⟨rfl, rfl, -, hno⟩ := hP
      refine k228_18 hτ (by omega) ⟨fun z => absurd z (by decide), fun _ => t_rec hτ h0 (by omega) fun I2 L2 f2 g2 => ?_⟩
      rintro I3 rfl I4 rfl
      have f3 : twf XW I2 L2 (cm_u2 (cm_u2 I2 1315 30 (zi ((b + 1 : Nat) : Int) - zi 1)) 1315 31 (zi 1)) L2 := (twf.rf.pI (by unfold XW; omega) _).pI (by unfold XW; omega) _
      have g3 := g2.kept hτ f3
      have := mov hno 240 _ _ (by omega) ⟨Nat.le_refl _, g3.ext (fun i hi => by (try simp only); rw [if_neg (by omega)]) rfl (fun i hi => by (try simp only); rw [if_neg (by omega)]) (fun _ _ => rfl), ⟨by rw [u2_nj _ _ _ _ _ (by omega), u2_same, zi_sub]; congr 1; omega, by rw [u2_same]; rfl, hb⟩⟩
      exact this
    · obtain ⟨rfl, rfl, h28, hno⟩ := hP
      have e := h0.ty hc
      have l3 := cty_lt (S.1 c)
      refine k228_18 hτ (by omega) ?_
      rw [zn_ix (by omega), e, zi_lt (by omega) (by omega) (by omega) (by omega), zi_eq (by omega) (by omega) (by omega) (by omega), zn_a c 1 1 rfl]
      refine ⟨fun _ => ⟨zn_in (show c < 2400 by omega) (by omega), fun z => ih _ _ ⟨rfl, rfl, by omega, fun i h28 hi => ?_⟩, fun z => h2 ⟨c, h28, hc, fun w => z (by rw [w]; rfl)⟩⟩, fun z => absurd (by omega) z⟩
      by_cases e : i = c
      · subst e; exact cty_0.mp (by omega)
      · exact hno i h28 (by omega)
  exact see 228 I L (by omega) ⟨rfl, rfl, Nat.le_refl _, fun i h1 h2 => absurd h1 (by omega)⟩
theorem t_deleteRow (hτ : tw_ok τ) (h0 : tst τ I L B S H V O M W au ev) (x : Int32) {Q : Int32 → tw_I → tw_L → Prop} (hd : 9 ≤ d)
    (h1 : ¬ (1 ≤ x.toInt ∧ x.toInt ≤ 20) → Q (zi (-1)) I L)
    (h3 : ∀ b : Nat, b < 20 → x = zi ((b + 1 : Nat) : Int) → ∀ I2 L2, tst τ I2 L2 B (rwS false b (mvS false b S.1 none, S.2)) ((S :: H).take 8) (mvS false b V (0, zl 0)) O (fun c => decide (cty (mvS false b S.1 none c) = 2)) W au ev →
      wp_c (d - 1) 188 [.ref 1315] (tw τ I2 L2) (tv τ fun I3 L3 => Q (zi (lsSh false b (mvS false b S.1 none, S.2))) I3 L3)) : wp_c d 204 [.ref 1315, .int x] (tw τ I L) (ti τ Q) := by
  refine k204 hτ (by omega) (t_row20 hτ x (by omega) (fun z => ⟨fun _ => h1 z, fun z => absurd rfl z⟩) fun b hb hx => ⟨fun z => absurd z (by decide), fun _ => ?_⟩)
  subst hx
  have h3 := h3 b hb rfl
  have emp : ∀ c I L, c ≤ 240 → (228 ≤ c ∧ tst τ I L B (fun i => if 228 ≤ i ∧ i < c then none else if 12 * b ≤ i ∧ i < 228 then S.1 (i + 12) else S.1 i, S.2) ((S :: H).take 8) (fun i => if 228 ≤ i ∧ i < c then (0, zl 0) else if 12 * b ≤ i ∧ i < 228 then V (i + 12) else V i) O M W au ev ∧ tch I false b) → wp_r (d - 1) 204 (64, [.ref 1315, .int (zi ((b + 1 : Nat) : Int)), .int (zi c)], [], tw τ I L) (ti τ Q) := by
    refine up_ind 240 (W := fun c I L => wp_r (d - 1) 204 (64, [.ref 1315, .int (zi ((b + 1 : Nat) : Int)), .int (zi c)], [], tw τ I L) (ti τ Q)) (P := fun c I L => 228 ≤ c ∧ tst τ I L B (fun i => if 228 ≤ i ∧ i < c then none else if 12 * b ≤ i ∧ i < 228 then S.1 (i + 12) else S.1 i, S.2) ((S :: H).take 8) (fun i => if 228 ≤ i ∧ i < c then (0, zl 0) else if 12 * b ≤ i ∧ i < 228 then V (i + 12) else V i) O M W au ev ∧ tch I false b) (fun I L hP => ?_) (fun c I L hc hP ih => ?_)
    · refine k204_64 hτ (by omega) ⟨fun z => absurd z (by decide), fun _ => ?_⟩
      have g := hP.2.1.ext (S2 := (mvS false b S.1 none, S.2)) (V2 := mvS false b V (0, zl 0)) (M2 := M) (fun c hc => ?_) rfl (fun c hc => ?_) fun _ _ => rfl
      · refine t_shiftsAll hτ g hP.2.2 (by omega) fun I2 L2 g2 e2 => ?_
        rw [e2]
        exact h3 I2 L2 g2
      · simp only [mvS, Bool.false_eq_true, if_false]
        by_cases h1 : c < 12 * b
        · rw [if_pos h1, if_neg (by omega), if_neg (by omega)]
        · rw [if_neg h1]
          by_cases h2 : c < 228
          · rw [if_pos h2, if_neg (by omega), if_pos (by omega)]
          · rw [if_neg h2, if_pos hc, if_pos (by omega)]
      · simp only [mvS, Bool.false_eq_true, if_false]
        by_cases h1 : c < 12 * b
        · rw [if_pos h1, if_neg (by omega), if_neg (by omega)]
        · rw [if_neg h1]
          by_cases h2 : c < 228
          · rw [if_pos h2, if_neg (by omega), if_pos (by omega)]
          · rw [if_neg h2, if_pos hc, if_pos (by omega)]
    · refine k204_64 hτ (by omega) ?_
      rw [zi_lt (by omega) (by omega) (by omega) (by omega), zn_a c 1 1 rfl]
      refine ⟨fun _ => t_empties hτ hP.2.1 hc (by omega) fun I2 L2 f2 g2 => ih I2 L2 ⟨by omega, g2.ext (fun i hi => ?_) rfl (fun i hi => ?_) (fun _ _ => rfl), hP.2.2.kt f2 (by unfold EW CW; omega) (by unfold EW CW; omega)⟩, fun z => absurd (by omega) z⟩
      · simp only [up1]
        by_cases e : i = c
        · rw [if_pos e, if_pos (by omega)]
        · rw [if_neg e]
          by_cases e2 : 228 ≤ i ∧ i < c
          · rw [if_pos e2, if_pos (by omega)]
          · rw [if_neg e2, if_neg (by omega)]
      · simp only [up1]
        by_cases e : i = c
        · rw [if_pos e, if_pos (by omega)]
        · rw [if_neg e]
          by_cases e2 : 228 ≤ i ∧ i < c
          · rw [if_pos e2, if_pos (by omega)]
          · rw [if_neg e2, if_neg (by omega)]
  have mov : ∀ c I L, c ≤ 228 → (12 * b ≤ c ∧ tst τ I L B (fun i => if 12 * b ≤ i ∧ i < c then S.1 (i + 12) else S.1 i, S.2) ((S :: H).take 8) (fun i => if 12 * b ≤ i ∧ i < c then V (i + 12) else V i) O M W au ev ∧ tch I false b) → wp_r (d - 1) 204 (38, [.ref 1315, .int (zi ((b + 1 : Nat) : Int)), .int (zi c)], [], tw τ I L) (ti τ Q) := by
    refine up_ind 228 (W := fun c I L => wp_r (d - 1) 204 (38, [.ref 1315, .int (zi ((b + 1 : Nat) : Int)), .int (zi c)], [], tw τ I L) (ti τ Q)) (P := fun c I L => 12 * b ≤ c ∧ tst τ I L B (fun i => if 12 * b ≤ i ∧ i < c then S.1 (i + 12) else S.1 i, S.2) ((S :: H).take 8) (fun i => if 12 * b ≤ i ∧ i < c then V (i + 12) else V i) O M W au ev ∧ tch I false b) (fun I L hP => ?_) (fun c I L hc hP ih => ?_)
    · refine k204_38 hτ (by omega) ⟨fun z => absurd z (by decide), fun _ => ?_⟩
      exact emp 228 I L (by omega) ⟨Nat.le_refl _, hP.2.1.ext (fun i hi => by (try simp only); rw [if_neg (by omega)]) rfl (fun i hi => by (try simp only); rw [if_neg (by omega)]) (fun _ _ => rfl), hP.2.2⟩
    · have hc2 := hP.1
      refine k204_38 hτ (by omega) ?_
      rw [zi_lt (by omega) (by omega) (by omega) (by omega), zn_a c 12 12 rfl, zn_a c 1 1 rfl]
      refine ⟨fun _ => t_movesCell hτ hP.2.1 (x := c + 12) (y := c) (by omega) (by omega) (by omega) (by omega) fun I2 L2 f2 g2 => ?_, fun z => absurd (by omega) z⟩
      refine ih I2 L2 ⟨by omega, g2.ext (fun i hi => ?_) rfl (fun i hi => ?_) (fun _ _ => rfl), hP.2.2.kt f2 (by unfold EW CW; omega) (by unfold EW CW; omega)⟩
      · simp only [up1]
        by_cases e : i = c
        · rw [if_pos e, if_pos (by omega), if_neg (by omega), e]
        · rw [if_neg e]
          by_cases e2 : 12 * b ≤ i ∧ i < c
          · rw [if_pos e2, if_pos (by omega)]
          · rw [if_neg e2, if_neg (by omega)]
      · simp only [up1]
        by_cases e : i = c
        · rw [if_pos e, if_pos (by omega), if_neg (by omega), e]
        · rw [if_neg e]
          by_cases e2 : 12 * b ≤ i ∧ i < c
          · rw [if_pos e2, if_pos (by omega)]
          · rw [if_neg e2, if_neg (by omega)]
  refine t_rec hτ h0 (by omega) fun I2 L2 f2 g2 => ?_
  rintro I3 rfl I4 rfl
  have f3 : twf XW I2 L2 (cm_u2 (cm_u2 I2 1315 30 (zi ((b + 1 : Nat) : Int) - zi 1)) 1315 31 (zi 0)) L2 := (twf.rf.pI (by unfold XW; omega) _).pI (by unfold XW; omega) _
  have g3 := g2.kept hτ f3
  have e30 : (cm_u2 (cm_u2 I2 1315 30 (zi ((b + 1 : Nat) : Int) - zi 1)) 1315 31 (zi 0)) 1315 30 = zi b := by rw [u2_nj _ _ _ _ _ (by omega), u2_same, zi_sub]; congr 1; omega
  rw [e30, zi_mul]
  have := mov (12 * b) _ _ (by omega) ⟨Nat.le_refl _, g3.ext (fun i hi => by (try simp only); rw [if_neg (by omega)]) rfl (fun i hi => by (try simp only); rw [if_neg (by omega)]) (fun _ _ => rfl), ⟨e30, by rw [u2_same]; rfl, hb⟩⟩
  rw [show ((12 * b : Nat) : Int) = 12 * (b : Int) by omega] at this
  exact this
end
