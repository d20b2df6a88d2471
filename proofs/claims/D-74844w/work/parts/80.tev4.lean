/-! THE TWIN: expressions; one cell is reckoned -/
def evH (τ : tw_K) (X : tw_I → tw_L → Prop) (N : List Nm) (V : Nat → Vl) (ts : List (Nat × Nat)) (num lo off : Nat) (st : Option (Nat × Nat) → Prop) (n : Nat) : Prop :=
  ∀ (t : Fm) (pre suf : List (Nat × Nat)) (d : Nat) (I : tw_I) (L : tw_L) (Q : tw_I → tw_L → Prop), wf t → lo ≤ lv t → (tk t).length ≤ n → X I L → ts = pre ++ (tk t ++ suf) → st suf.head? → 8 * n + off ≤ d → I 1315 44 = zi pre.length →
    (∀ I2 L2 v1 v2 v3 v4, twf EVW I L I2 L2 → tev I2 L2 (pre.length + (tk t).length) (ev1 N V t) → wp_r (d - 1) num (4, [.ref 1315, v1, v2, v3, v4], [], tw τ I2 L2) (tv τ Q)) → wp_c d num [.ref 1315] (tw τ I L) (tv τ Q)
theorem opc2 {o : Jvm.Binary} (h : ocl o = 2) : (o = .ladd ∧ opc o = 43) ∨ (o = .lsub ∧ opc o = 45) := by
  cases o <;> first | exact absurd h (by decide) | exact .inl ⟨rfl, rfl⟩ | exact .inr ⟨rfl, rfl⟩
theorem opc3 {o : Jvm.Binary} (h : ocl o = 3) : (o = .lmul ∧ opc o = 42) ∨ (o = .ldiv ∧ opc o = 47) ∨ (o = .lrem ∧ opc o = 37) := by
  cases o <;> first | exact absurd h (by decide) | exact .inl ⟨rfl, rfl⟩ | exact .inr (.inl ⟨rfl, rfl⟩) | exact .inr (.inr ⟨rfl, rfl⟩)
theorem ocl_le (o : Jvm.Binary) : ocl o ≤ 3 := by cases o <;> decide
theorem lv_le (t : Fm) : lv t ≤ 4 := by
  cases t <;> simp [lv]
  exact Nat.le_trans (ocl_le _) (by decide)
theorem binE_0 (o : Jvm.Binary) {x y : Er} (hx : x.1 = 0) (hy : y.1 = 0) : binE o x y = apE o x.2 y.2 := by
  unfold binE
  rw [if_neg (by simp [hx]), if_neg (by simp [hy])]
theorem binE_l (o : Jvm.Binary) {x : Er} (y : Er) (hx : x.1 ≠ 0) : binE o x y = (x.1, zl 0) := by
  unfold binE
  rw [if_pos hx]
theorem binE_r (o : Jvm.Binary) {x y : Er} (hx : x.1 = 0) (hy : y.1 ≠ 0) : binE o x y = y := by
  unfold binE
  rw [if_neg (by simp [hx]), if_pos hy]
section
variable {τ : tw_K} {I : tw_I} {L : tw_L} {d : Nat} {B : List Nat} {S : Sh} {H : List Sh} {V O : Nat → Vl} {M W : Nat → Bool} {au : Bool} {ev : Nat}
variable {c : Nat} {ts : List (Nat × Nat)}
theorem cx.at_ (hx : cx τ I L B S H V O M W au ev c ts) {pre m s : List (Nat × Nat)} (h : ts = pre ++ (m ++ s)) : ts[pre.length + m.length]? = s.head? ∧ pre.length + m.length ≤ 80 ∧ ∀ v, s.head? = some (6, v) → v < 281474976710656 := by
  have hl := hx.ts80
  have e : ts[pre.length + m.length]? = s.head? := by
    rw [h, ← List.append_assoc, ← List.length_append, List.getElem?_append_right (Nat.le_refl _), Nat.sub_self, List.head?_eq_getElem?]
  refine ⟨e, ?_, fun v hv => ?_⟩
  · rw [h, List.length_append, List.length_append] at hl; omega
  · rw [hv] at e
    exact (hx.tt.2.2 _ _ e).2.2.2
theorem e_P (hτ : tw_ok τ) {n : Nat} (h : evH τ (fun I L => cx τ I L B S H V O M W au ev c ts) S.2 V ts 284 3 24 (fun _ => True) n) : evS τ (fun I L => cx τ I L B S H V O M W au ev c ts) S.2 V ts 284 3 24 stP n := by
  intro t pre suf d I L Q hw hl hn hx hts hs hd hp hQ
  refine h t pre suf d I L Q hw hl hn hx hts trivial hd hp fun I2 L2 v1 v2 v3 v4 f2 t2 => ?_
  have hx2 := hx.kept hτ f2
  obtain ⟨a1, a2, a3⟩ := hx.at_ hts
  have no : ∀ v, v = 42 ∨ v = 47 ∨ v = 37 → ts[pre.length + (tk t).length]? ≠ some (6, v) := fun v hv z => by
    rw [a1] at z
    have := hs v z
    omega
  refine k284_4 hτ (by omega) (e_isOp hτ hx2 t2.1 (by omega) (by decide) (by omega) ?_)
  rw [decide_eq_false (no 42 (by omega))]
  refine ⟨fun _ => e_isOp hτ hx2 t2.1 (by omega) (by decide) (by omega) ?_, fun z => absurd rfl z⟩
  rw [decide_eq_false (no 47 (by omega))]
  refine ⟨fun _ => e_isOp hτ hx2 t2.1 (by omega) (by decide) (by omega) ?_, fun z => absurd rfl z⟩
  rw [decide_eq_false (no 37 (by omega))]
  exact ⟨fun _ => hQ I2 L2 f2 t2, fun z => absurd rfl z⟩
theorem e_S (hτ : tw_ok τ) {n : Nat} (h : evH τ (fun I L => cx τ I L B S H V O M W au ev c ts) S.2 V ts 315 2 25 stP n) : evS τ (fun I L => cx τ I L B S H V O M W au ev c ts) S.2 V ts 315 2 25 stS n := by
  intro t pre suf d I L Q hw hl hn hx hts hs hd hp hQ
  refine h t pre suf d I L Q hw hl hn hx hts (stS_P hs) hd hp fun I2 L2 v1 v2 v3 v4 f2 t2 => ?_
  have hx2 := hx.kept hτ f2
  obtain ⟨a1, a2, a3⟩ := hx.at_ hts
  have no : ∀ v, v = 43 ∨ v = 45 → ts[pre.length + (tk t).length]? ≠ some (6, v) := fun v hv z => by
    rw [a1] at z
    have := hs v z
    omega
  refine k315_4 hτ (by omega) (e_isOp hτ hx2 t2.1 (by omega) (by decide) (by omega) ?_)
  rw [decide_eq_false (no 43 (by omega))]
  refine ⟨fun _ => e_isOp hτ hx2 t2.1 (by omega) (by decide) (by omega) ?_, fun z => absurd rfl z⟩
  rw [decide_eq_false (no 45 (by omega))]
  exact ⟨fun _ => hQ I2 L2 f2 t2, fun z => absurd rfl z⟩
/-- products -/
theorem e_PH (hτ : tw_ok τ) {n : Nat} (iU : ∀ m, m ≤ n + 1 → evS τ (fun I L => cx τ I L B S H V O M W au ev c ts) S.2 V ts 331 4 23 (fun _ => True) m) (iP : evH τ (fun I L => cx τ I L B S H V O M W au ev c ts) S.2 V ts 284 3 24 (fun _ => True) n) : evH τ (fun I L => cx τ I L B S H V O M W au ev c ts) S.2 V ts 284 3 24 (fun _ => True) (n + 1) := by
  intro t pre suf d I L Q hw hl hn hx hts hs hd hp hQ
  by_cases h4 : 4 ≤ lv t
  · exact k284 hτ (by omega) (iU (n + 1) (Nat.le_refl _) t pre suf (d - 1) I L _ hw h4 hn hx hts trivial (by omega) hp fun I2 L2 f2 t2 => hQ I2 L2 _ _ _ _ f2 t2)
  cases t with
  | op2 o l r =>
    have h3 : ocl o = 3 := by have := ocl_le o; have : 3 ≤ ocl o := hl; omega
    obtain ⟨w1, w2, w3, w4, w5⟩ := hw
    rw [h3, if_neg (by omega)] at w4
    rw [h3] at w5
    have hn : (tk l ++ (6, opc o) :: tk r).length ≤ n + 1 := hn
    have hts : ts = pre ++ ((tk l ++ (6, opc o) :: tk r) ++ suf) := hts
    have hQ : ∀ I2 L2 v1 v2 v3 v4, twf EVW I L I2 L2 → tev I2 L2 (pre.length + (tk l ++ (6, opc o) :: tk r).length) (binE o (ev1 S.2 V l) (ev1 S.2 V r)) → wp_r (d - 1) 284 (4, [.ref 1315, v1, v2, v3, v4], [], tw τ I2 L2) (tv τ Q) := hQ
    have rp := tk_pos w2 (.inr (by omega))
    simp only [List.length_append, List.length_cons] at hn hQ
    have ht1 : ts = pre ++ (tk l ++ (6, opc o) :: (tk r ++ suf)) := by rw [hts]; simp
    have ht2 : ts = (pre ++ (tk l ++ [(6, opc o)])) ++ (tk r ++ suf) := by rw [hts]; simp
    refine iP l pre _ d I L Q w1 w4 (by omega) hx ht1 trivial (by omega) hp fun I2 L2 v1 v2 v3 v4 f2 t2 => ?_
    have hx2 := hx.kept hτ f2
    obtain ⟨a1, a2, a3⟩ := hx.at_ ht1
    have a1 : ts[pre.length + (tk l).length]? = some (6, opc o) := a1
    have l8 := t2.2.2.2.1
    have go : wp_r (d - 1) 284 (55, [.ref 1315, v1, v2, v3, v4], [], tw τ I2 L2) (tv τ Q) := by
      refine k284_55 hτ (by omega) (e_at hτ hx2 t2.1 (by omega) (by omega) ?_)
      rw [a1]
      have ho := opc_lt o
      refine (show wp_c _ 329 [.long (tok 6 (opc o))] _ _ from t_told hτ (by omega) (by omega) (by omega) ?_)
      rw [zl_i]
      intro I3 e3
      obtain ⟨u3, f3⟩ := t2.up e3
      refine iU n (by omega) r _ suf (d - 1) I3 L2 _ w2 w5 (by omega) (hx2.kept hτ f3) ht2 trivial (by omega) (by rw [u3.1]; congr 1; simp only [List.length_append, List.length_cons, List.length_nil]; omega) fun I4 L4 f4 t4 => ?_
      have fa := (f2.tr f3).tr f4
      simp only [List.length_append, List.length_cons, List.length_nil] at t4
      have hpos : pre.length + ((tk l).length + (0 + 1)) + (tk r).length = pre.length + ((tk l).length + ((tk r).length + 1)) := by omega
      rw [hpos] at t4
      have r8 := t4.2.2.2.1
      rw [t2.2.1, t2.2.2.1, t4.2.1, t4.2.2.1, zi_eq (by omega) (by omega) (by omega) (by omega), zi_eq (by omega) (by omega) (by omega) (by omega), zi_eq (by omega) (by omega) (by omega) (by omega), zi_eq (by omega) (by omega) (by omega) (by omega)]
      refine ⟨fun z => ⟨fun y => ?_, fun y => ?_⟩, fun z => ?_⟩
      · rw [binE_0 o (by omega) (by omega)] at hQ
        rcases opc3 h3 with ⟨rfl, e⟩ | ⟨rfl, e⟩ | ⟨rfl, e⟩
        · exact ⟨fun _ => e_mul hτ t4.1 _ _ (by omega) fun I5 L5 f5 t5 => hQ I5 L5 _ _ _ _ (fa.tr f5) t5, fun w => absurd (by decide) w⟩
        · exact ⟨fun w => absurd w (by decide), fun _ => ⟨fun w => absurd w (by decide), fun _ => e_div hτ t4.1 _ _ (by omega) fun I5 L5 f5 t5 => hQ I5 L5 _ _ _ _ (fa.tr f5) t5⟩⟩
        · exact ⟨fun w => absurd w (by decide), fun _ => ⟨fun _ => e_rem hτ t4.1 _ _ (by omega) fun I5 L5 f5 t5 => hQ I5 L5 _ _ _ _ (fa.tr f5) t5, fun w => absurd (by decide) w⟩⟩
      · rw [binE_r o (by omega) (by omega)] at hQ
        exact hQ I4 L4 _ _ _ _ fa t4
      · rw [binE_l o _ (by omega)] at hQ
        exact e_errs hτ t4.1 l8 rfl (by omega) fun I5 L5 f5 t5 => hQ I5 L5 _ _ _ _ (fa.tr f5) t5
    refine k284_4 hτ (by omega) (e_isOp hτ hx2 t2.1 (by omega) (by decide) (by omega) ?_)
    rw [a1, bz_0, decide_eq_false_iff_not]
    refine ⟨fun z1 => e_isOp hτ hx2 t2.1 (by omega) (by decide) (by omega) ?_, fun _ => go⟩
    rw [a1, bz_0, decide_eq_false_iff_not]
    refine ⟨fun z2 => e_isOp hτ hx2 t2.1 (by omega) (by decide) (by omega) ?_, fun _ => go⟩
    rw [a1, bz_0, decide_eq_false_iff_not]
    refine ⟨fun z3 => ?_, fun _ => go⟩
    exfalso
    rcases opc3 h3 with ⟨-, e⟩ | ⟨-, e⟩ | ⟨-, e⟩
    · exact z1 (by rw [e])
    · exact z2 (by rw [e])
    · exact z3 (by rw [e])
  | _ => exact absurd hl (by simp [lv] at h4 ⊢)
/-- sums -/
theorem e_SH (hτ : tw_ok τ) {n : Nat} (iP : ∀ m, m ≤ n + 1 → evS τ (fun I L => cx τ I L B S H V O M W au ev c ts) S.2 V ts 284 3 24 stP m) (iS : evH τ (fun I L => cx τ I L B S H V O M W au ev c ts) S.2 V ts 315 2 25 stP n) : evH τ (fun I L => cx τ I L B S H V O M W au ev c ts) S.2 V ts 315 2 25 stP (n + 1) := by
  intro t pre suf d I L Q hw hl hn hx hts hs hd hp hQ
  by_cases h4 : 3 ≤ lv t
  · exact k315 hτ (by omega) (iP (n + 1) (Nat.le_refl _) t pre suf (d - 1) I L _ hw h4 hn hx hts hs (by omega) hp fun I2 L2 f2 t2 => hQ I2 L2 _ _ _ _ f2 t2)
  cases t with
  | op2 o l r =>
    have h3 : ocl o = 2 := by have : ¬ 3 ≤ ocl o := h4; have : 2 ≤ ocl o := hl; omega
    obtain ⟨w1, w2, w3, w4, w5⟩ := hw
    rw [h3, if_neg (by omega)] at w4
    rw [h3] at w5
    have hn : (tk l ++ (6, opc o) :: tk r).length ≤ n + 1 := hn
    have hts : ts = pre ++ ((tk l ++ (6, opc o) :: tk r) ++ suf) := hts
    have hQ : ∀ I2 L2 v1 v2 v3 v4, twf EVW I L I2 L2 → tev I2 L2 (pre.length + (tk l ++ (6, opc o) :: tk r).length) (binE o (ev1 S.2 V l) (ev1 S.2 V r)) → wp_r (d - 1) 315 (4, [.ref 1315, v1, v2, v3, v4], [], tw τ I2 L2) (tv τ Q) := hQ
    have rp := tk_pos w2 (.inr (by omega))
    simp only [List.length_append, List.length_cons] at hn hQ
    have ht1 : ts = pre ++ (tk l ++ (6, opc o) :: (tk r ++ suf)) := by rw [hts]; simp
    have ht2 : ts = (pre ++ (tk l ++ [(6, opc o)])) ++ (tk r ++ suf) := by rw [hts]; simp
    have o2 := opc2 h3
    refine iS l pre _ d I L Q w1 w4 (by omega) hx ht1 (fun v hv => by cases hv; omega) (by omega) hp fun I2 L2 v1 v2 v3 v4 f2 t2 => ?_
    have hx2 := hx.kept hτ f2
    obtain ⟨a1, a2, a3⟩ := hx.at_ ht1
    have a1 : ts[pre.length + (tk l).length]? = some (6, opc o) := a1
    have l8 := t2.2.2.2.1
    have go : wp_r (d - 1) 315 (38, [.ref 1315, v1, v2, v3, v4], [], tw τ I2 L2) (tv τ Q) := by
      refine k315_38 hτ (by omega) (e_isOp hτ hx2 t2.1 (by omega) (by decide) (by omega) ?_)
      rw [a1]
      intro I3 e3
      obtain ⟨u3, f3⟩ := t2.up e3
      refine iP n (by omega) r _ suf (d - 1) I3 L2 _ w2 w5 (by omega) (hx2.kept hτ f3) ht2 hs (by omega) (by rw [u3.1]; congr 1; simp only [List.length_append, List.length_cons, List.length_nil]; omega) fun I4 L4 f4 t4 => ?_
      have fa := (f2.tr f3).tr f4
      simp only [List.length_append, List.length_cons, List.length_nil] at t4
      have hpos : pre.length + ((tk l).length + (0 + 1)) + (tk r).length = pre.length + ((tk l).length + ((tk r).length + 1)) := by omega
      rw [hpos] at t4
      have r8 := t4.2.2.2.1
      rw [t2.2.1, t2.2.2.1, t4.2.1, t4.2.2.1, zi_eq (by omega) (by omega) (by omega) (by omega), zi_eq (by omega) (by omega) (by omega) (by omega)]
      refine ⟨fun z => ⟨fun y => ?_, fun y => ?_⟩, fun z => ?_⟩
      · rw [binE_0 o (by omega) (by omega)] at hQ
        rcases o2 with ⟨rfl, e⟩ | ⟨rfl, e⟩
        · rw [decide_eq_false (by rw [e]; simp)]
          exact e_add hτ t4.1 _ _ (by omega) fun I5 L5 f5 t5 => hQ I5 L5 _ _ _ _ (fa.tr f5) t5
        · rw [decide_eq_true (by rw [e])]
          exact e_sub hτ t4.1 _ _ (by omega) fun I5 L5 f5 t5 => hQ I5 L5 _ _ _ _ (fa.tr f5) t5
      · rw [binE_r o (by omega) (by omega)] at hQ
        exact hQ I4 L4 _ _ _ _ fa t4
      · rw [binE_l o _ (by omega)] at hQ
        exact e_errs hτ t4.1 l8 rfl (by omega) fun I5 L5 f5 t5 => hQ I5 L5 _ _ _ _ (fa.tr f5) t5
    refine k315_4 hτ (by omega) (e_isOp hτ hx2 t2.1 (by omega) (by decide) (by omega) ?_)
    rw [a1, bz_0, decide_eq_false_iff_not]
    refine ⟨fun z1 => e_isOp hτ hx2 t2.1 (by omega) (by decide) (by omega) ?_, fun _ => go⟩
    rw [a1, bz_0, decide_eq_false_iff_not]
    refine ⟨fun z2 => ?_, fun _ => go⟩
    exfalso
    rcases o2 with ⟨-, e⟩ | ⟨-, e⟩
    · exact z1 (by rw [e])
    · exact z2 (by rw [e])
  | _ => exact absurd hl (by simp [lv] at h4 ⊢)
theorem opc1 {o : Jvm.Binary} (h : ocl o = 1) : cmc (some (6, opc o)) = opc o ∧ opc o ≠ 0 ∧ opc o < 1000 ∧ opc o ≠ 43 ∧ opc o ≠ 45 ∧ opc o ≠ 42 ∧ opc o ≠ 47 ∧ opc o ≠ 37 := by
  cases o <;> first | exact absurd h (by decide) | decide
theorem e_compares (hτ : tw_ok τ) {o : Jvm.Binary} (ho : ocl o = 1) (a b : Int64) {Q : Int32 → tw_I → tw_L → Prop} (hd : 1 ≤ d) (h : ∀ b2, apE o a b = blE b2 → Q (bz b2) I L) : wp_c d 192 [.int (zi (opc o)), .long a, .long b] (tw τ I L) (ti τ Q) := by
  refine k192 hτ hd ?_
  rw [zi_toInt (by have := opc1 ho; omega) (by have := opc1 ho; omega)]
  cases o <;> first | exact absurd ho (by decide) | skip
  · exact ⟨fun z => absurd z (by decide), fun _ => ⟨fun _ => ⟨fun y => h true (by unfold apE; rw [decide_eq_true y]), fun y => h false (by unfold apE; rw [decide_eq_false y])⟩, fun z => absurd rfl z⟩⟩
  · exact ⟨fun z => absurd z (by decide), fun _ => ⟨fun z => absurd z (by decide), fun _ => ⟨fun z => absurd z (by decide), fun _ => ⟨fun _ => ⟨fun y => h false (by unfold apE; rw [decide_eq_true y]; rfl), fun y => h true (by unfold apE; rw [decide_eq_false y]; rfl)⟩, fun z => absurd rfl z⟩⟩⟩⟩
  · exact ⟨fun _ => ⟨fun y => h true (by unfold apE; rw [decide_eq_true y]), fun y => h false (by unfold apE; rw [decide_eq_false y])⟩, fun z => absurd rfl z⟩
  · exact ⟨fun z => absurd z (by decide), fun _ => ⟨fun z => absurd z (by decide), fun _ => ⟨fun z => absurd z (by decide), fun _ => ⟨fun z => absurd z (by decide), fun _ => ⟨fun _ => ⟨fun y => h false (by unfold apE; rw [decide_eq_true y]; rfl), fun y => h true (by unfold apE; rw [decide_eq_false y]; rfl)⟩, fun z => absurd rfl z⟩⟩⟩⟩⟩
  · exact ⟨fun z => absurd z (by decide), fun _ => ⟨fun z => absurd z (by decide), fun _ => ⟨fun _ => ⟨fun y => h true (by unfold apE; rw [decide_eq_true y]), fun y => h false (by unfold apE; rw [decide_eq_false y])⟩, fun z => absurd rfl z⟩⟩⟩
  · exact ⟨fun z => absurd z (by decide), fun _ => ⟨fun z => absurd z (by decide), fun _ => ⟨fun z => absurd z (by decide), fun _ => ⟨fun z => absurd z (by decide), fun _ => ⟨fun z => absurd z (by decide), fun _ => ⟨fun y => h false (by unfold apE; rw [decide_eq_true y]; rfl), fun y => h true (by unfold apE; rw [decide_eq_false y]; rfl)⟩⟩⟩⟩⟩⟩
/-- expressions -/
theorem e_E (hτ : tw_ok τ) {n : Nat} (iS : evS τ (fun I L => cx τ I L B S H V O M W au ev c ts) S.2 V ts 315 2 25 stS n) : evS τ (fun I L => cx τ I L B S H V O M W au ev c ts) S.2 V ts 216 1 26 stE n := by
  intro t pre suf d I L Q hw hl hn hx hts hs hd hp hQ
  by_cases h4 : 2 ≤ lv t
  · refine k216 hτ (by omega) (iS t pre suf (d - 1) I L _ hw h4 hn hx hts (stE_S hs) (by omega) hp fun I2 L2 f2 t2 => ?_)
    obtain ⟨a1, a2, a3⟩ := hx.at_ hts
    have e0 : cmc ts[pre.length + (tk t).length]? = 0 := by
      rw [a1]
      rcases hs with z | z | z <;> rw [z] <;> rfl
    refine e_comparison hτ (hx.kept hτ f2) t2.1 (by omega) (fun v hv => ?_) (by omega) ?_
    · rw [a1] at hv
      rcases hs with z | z | z <;> rw [z] at hv <;> cases hv <;> decide
    · rw [e0]
      exact ⟨fun _ => hQ I2 L2 f2 t2, fun z => absurd rfl z⟩
  cases t with
  | op2 o l r =>
    have h1 : ocl o = 1 := by have : ¬ 2 ≤ ocl o := h4; have : 1 ≤ ocl o := hl; omega
    obtain ⟨w1, w2, w3, w4, w5⟩ := hw
    rw [h1, if_pos rfl] at w4
    rw [h1] at w5
    have hn : (tk l ++ (6, opc o) :: tk r).length ≤ n := hn
    have hts : ts = pre ++ ((tk l ++ (6, opc o) :: tk r) ++ suf) := hts
    have hQ : ∀ I2 L2, twf EVW I L I2 L2 → tev I2 L2 (pre.length + (tk l ++ (6, opc o) :: tk r).length) (binE o (ev1 S.2 V l) (ev1 S.2 V r)) → Q I2 L2 := hQ
    have rp := tk_pos w2 (.inr (by omega))
    simp only [List.length_append, List.length_cons] at hn hQ
    have ht1 : ts = pre ++ (tk l ++ (6, opc o) :: (tk r ++ suf)) := by rw [hts]; simp
    have ht2 : ts = (pre ++ (tk l ++ [(6, opc o)])) ++ (tk r ++ suf) := by rw [hts]; simp
    obtain ⟨o1, o2, o3, o4⟩ := opc1 h1
    refine k216 hτ (by omega) (iS l pre _ (d - 1) I L _ w1 w4 (by omega) hx ht1 (fun v hv => by cases hv; exact o4) (by omega) hp fun I2 L2 f2 t2 => ?_)
    have hx2 := hx.kept hτ f2
    obtain ⟨a1, a2, a3⟩ := hx.at_ ht1
    have a1 : ts[pre.length + (tk l).length]? = some (6, opc o) := a1
    have l8 := t2.2.2.2.1
    refine e_comparison hτ hx2 t2.1 (by omega) (fun v hv => by rw [a1] at hv; cases hv; exact o3) (by omega) ?_
    rw [a1, o1, zi_eq (by omega) (by omega) (by omega) (by omega)]
    refine ⟨fun z => absurd z (by omega), fun _ => ?_⟩
    intro I3 e3
    obtain ⟨u3, f3⟩ := t2.up e3
    refine iS r _ suf (d - 1) I3 L2 _ w2 w5 (by omega) (hx2.kept hτ f3) ht2 (stE_S hs) (by omega) (by rw [u3.1]; congr 1; simp only [List.length_append, List.length_cons, List.length_nil]; omega) fun I4 L4 f4 t4 => ?_
    have fa := (f2.tr f3).tr f4
    simp only [List.length_append, List.length_cons, List.length_nil] at t4
    have hpos : pre.length + ((tk l).length + (0 + 1)) + (tk r).length = pre.length + ((tk l).length + ((tk r).length + 1)) := by omega
    rw [hpos] at t4
    have r8 := t4.2.2.2.1
    rw [t2.2.1, t2.2.2.1, t4.2.1, t4.2.2.1, zi_eq (by omega) (by omega) (by omega) (by omega), zi_eq (by omega) (by omega) (by omega) (by omega)]
    refine ⟨fun z => ⟨fun y => e_compares hτ h1 _ _ (by omega) fun b2 eb => ?_, fun y => ?_⟩, fun z => ?_⟩
    · rw [binE_0 o (by omega) (by omega), eb] at hQ
      cases b2 with
      | true => exact ⟨fun z => absurd z (by decide), fun _ => e_is hτ t4.1 _ (by omega) fun I5 L5 f5 t5 => hQ I5 L5 (fa.tr f5) t5⟩
      | false => exact ⟨fun _ => e_is hτ t4.1 _ (by omega) fun I5 L5 f5 t5 => hQ I5 L5 (fa.tr f5) t5, fun z => absurd rfl z⟩
    · rw [binE_r o (by omega) (by omega)] at hQ
      exact hQ I4 L4 fa t4
    · rw [binE_l o _ (by omega)] at hQ
      exact e_errs hτ t4.1 l8 rfl (by omega) fun I5 L5 f5 t5 => hQ I5 L5 (fa.tr f5) t5
  | _ => exact absurd hl (by simp [lv] at h4 ⊢)
/-- what stands alone -/
theorem e_U (hτ : tw_ok τ) {n : Nat} (iE : evS τ (fun I L => cx τ I L B S H V O M W au ev c ts) S.2 V ts 216 1 26 stE n) (iU : evS τ (fun I L => cx τ I L B S H V O M W au ev c ts) S.2 V ts 331 4 23 (fun _ => True) n) : evS τ (fun I L => cx τ I L B S H V O M W au ev c ts) S.2 V ts 331 4 23 (fun _ => True) (n + 1) := by
  intro t pre suf d I L Q hw hl hn hx hts hs hd hp hQ
  have hlen := hx.ts80
  have hpl : pre.length ≤ 80 := by rw [hts, List.length_append] at hlen; omega
  have f3 : twf EVW I L (cm_u2 I 1315 44 (zi ((pre.length + 1 : Nat) : Int))) L := twf.rf.pI (by unfold EVW; omega) _
  have p3 : (cm_u2 I 1315 44 (zi ((pre.length + 1 : Nat) : Int))) 1315 44 = zi ((pre.length + 1 : Nat) : Int) := by rw [u2_same]
  have hx3 := hx.kept hτ f3
  generalize hI3 : cm_u2 I 1315 44 (zi ((pre.length + 1 : Nat) : Int)) = I3 at f3 p3 hx3
  cases t with
  | arg v =>
    have hv : v < 1000000000 := hw
    have hts : ts = pre ++ (1, v) :: suf := hts
    have a0 : ts[pre.length]? = some (1, v) := by rw [hts]; exact at0
    refine k331 hτ (by omega) (e_passes (v := 45) hτ hx hp (by omega) (by omega) (by omega) (fun z => by rw [a0] at z; cases z) (fun _ => ⟨fun _ => e_at hτ hx hp (by omega) (by omega) ?_, fun z => absurd rfl z⟩))
    rintro I3 rfl
    rw [a0, hp, zn_a pre.length 1 1 rfl, hI3]
    refine (show wp_c _ 247 [.long (tok 1 v)] _ _ from t_kindOf hτ (by omega) (by omega) (by omega) ⟨fun z => absurd z (by decide), fun _ => ⟨fun _ => t_told hτ (by omega) (by omega) (by omega) (e_is hτ p3 _ (by omega) fun I4 L4 f4 t4 => hQ I4 L4 (f3.tr f4) t4), fun z => absurd rfl z⟩⟩)
  | index v =>
    have hv : v < 960 := hw
    have hts : ts = pre ++ (2, v) :: suf := hts
    have a0 : ts[pre.length]? = some (2, v) := by rw [hts]; exact at0
    refine k331 hτ (by omega) (e_passes (v := 45) hτ hx hp (by omega) (by omega) (by omega) (fun z => by rw [a0] at z; cases z) (fun _ => ⟨fun _ => e_at hτ hx hp (by omega) (by omega) ?_, fun z => absurd rfl z⟩))
    rintro I3 rfl
    rw [a0, hp, zn_a pre.length 1 1 rfl, hI3]
    refine (show wp_c _ 247 [.long (tok 2 v)] _ _ from t_kindOf hτ (by omega) (by omega) (by omega) ⟨fun z => absurd z (by decide), fun _ => ⟨fun z => absurd z (by decide), fun _ => ⟨fun _ => t_cellOf hτ (by omega) (by omega) (e_takesValue hτ hx3.1 p3 (by omega) (by omega) fun I4 L4 f4 t4 => hQ I4 L4 (f3.tr f4) t4), fun z => absurd rfl z⟩⟩⟩)
  | null =>
    have hts : ts = pre ++ (3, 0) :: suf := hts
    have a0 : ts[pre.length]? = some (3, 0) := by rw [hts]; exact at0
    refine k331 hτ (by omega) (e_passes (v := 45) hτ hx hp (by omega) (by omega) (by omega) (fun z => by rw [a0] at z; cases z) (fun _ => ⟨fun _ => e_at hτ hx hp (by omega) (by omega) ?_, fun z => absurd rfl z⟩))
    rintro I3 rfl
    rw [a0, hp, zn_a pre.length 1 1 rfl, hI3]
    refine (show wp_c _ 247 [.long (tok 3 0)] _ _ from t_kindOf hτ (by omega) (by omega) (by omega) ⟨fun z => absurd z (by decide), fun _ => ⟨fun z => absurd z (by decide), fun _ => ⟨fun z => absurd z (by decide), fun _ => ⟨fun _ => e_errs (e := 4) hτ p3 (by omega) rfl (by omega) fun I4 L4 f4 t4 => hQ I4 L4 (f3.tr f4) t4, fun z => absurd rfl z⟩⟩⟩⟩)
  | length a =>
    cases a with
    | arg v =>
      have ok : okN v := hw
      have vl := okN_lt ok
      have hts : ts = pre ++ (4, v) :: suf := hts
      have a0 : ts[pre.length]? = some (4, v) := by rw [hts]; exact at0
      refine k331 hτ (by omega) (e_passes (v := 45) hτ hx hp (by omega) (by omega) (by omega) (fun z => by rw [a0] at z; cases z) (fun _ => ⟨fun _ => e_at hτ hx hp (by omega) (by omega) ?_, fun z => absurd rfl z⟩))
      rintro I3 rfl
      rw [a0, hp, zn_a pre.length 1 1 rfl, hI3]
      refine (show wp_c _ 247 [.long (tok 4 v)] _ _ from t_kindOf hτ (by omega) (by omega) (by omega) ⟨fun z => absurd z (by decide), fun _ => ⟨fun z => absurd z (by decide), fun _ => ⟨fun z => absurd z (by decide), fun _ => ⟨fun z => absurd z (by decide), fun _ => ⟨fun _ => t_told hτ (by omega) (by omega) (by omega) (e_takesName hτ hx3.1 p3 (by omega) (by omega) fun I4 L4 f4 t4 => hQ I4 L4 (f3.tr f4) t4), fun z => absurd rfl z⟩⟩⟩⟩⟩)
    | _ => exact absurd hw (by simp [wf])
  | op1 o a =>
    cases o with
    | lneg =>
      obtain ⟨w1, w2⟩ := hw
      have hts : ts = pre ++ (6, 45) :: (tk a ++ suf) := hts
      have hn : (tk a).length + 1 ≤ n + 1 := hn
      have hQ : ∀ I2 L2, twf EVW I L I2 L2 → tev I2 L2 (pre.length + ((tk a).length + 1)) (negE (ev1 S.2 V a)) → Q I2 L2 := hQ
      have a0 : ts[pre.length]? = some (6, 45) := by rw [hts]; exact at0
      have ht2 : ts = (pre ++ [(6, 45)]) ++ (tk a ++ suf) := by rw [hts]; simp
      refine k331 hτ (by omega) (e_passes (v := 45) hτ hx hp (by omega) (by omega) (by omega) (fun z I2 f2 e2 => ⟨fun z => absurd z (by decide), fun _ => ?_⟩) (fun z => absurd a0 z))
      have f2' : twf EVW I L I2 L := f2.wi fun a i z => by unfold EVW; omega
      refine iU a _ suf (d - 1) I2 L _ w1 w2 (by omega) (hx.kept hτ f2') ht2 trivial (by omega) (by rw [e2]; congr 1; simp only [List.length_append, List.length_cons, List.length_nil]) fun I4 L4 f4 t4 => ?_
      have fa := f2'.tr f4
      simp only [List.length_append, List.length_cons, List.length_nil] at t4
      rw [show pre.length + (0 + 1) + (tk a).length = pre.length + ((tk a).length + 1) by omega] at t4
      have r8 := t4.2.2.2.1
      rw [t4.2.1, t4.2.2.1, zi_eq (by omega) (by omega) (by omega) (by omega)]
      unfold negE at hQ
      refine ⟨fun z => ?_, fun z => ?_⟩
      · rw [if_neg (by simp; omega)] at hQ
        exact e_sub hτ t4.1 _ _ (by omega) fun I5 L5 f5 t5 => hQ I5 L5 (fa.tr f5) t5
      · rw [if_pos (by omega)] at hQ
        exact hQ I4 L4 fa t4
    | _ => exact absurd hw (by simp [wf])
  | old a =>
    obtain ⟨w1, w2⟩ := hw
    have hts : ts = pre ++ (6, 40) :: ((tk a ++ [(6, 41)]) ++ suf) := hts
    have hn : ((tk a ++ [(6, 41)]).length + 1) ≤ n + 1 := hn
    have hQ : ∀ I2 L2, twf EVW I L I2 L2 → tev I2 L2 (pre.length + ((tk a ++ [(6, 41)]).length + 1)) (ev1 S.2 V a) → Q I2 L2 := hQ
    have a0 : ts[pre.length]? = some (6, 40) := by rw [hts]; exact at0
    have ht2 : ts = (pre ++ [(6, 40)]) ++ (tk a ++ (6, 41) :: suf) := by rw [hts]; simp
    simp only [List.length_append, List.length_cons, List.length_nil] at hn hQ
    refine k331 hτ (by omega) (e_passes (v := 45) hτ hx hp (by omega) (by omega) (by omega) (fun z => by rw [a0] at z; cases z) (fun _ => ⟨fun _ => e_at hτ hx hp (by omega) (by omega) ?_, fun z => absurd rfl z⟩))
    rintro I3 rfl
    rw [a0, hp, zn_a pre.length 1 1 rfl, hI3]
    refine (show wp_c _ 247 [.long (tok 6 40)] _ _ from t_kindOf hτ (by omega) (by omega) (by omega) ⟨fun _ => iE a _ _ (d - 1) I3 L _ w1 w2 (by omega) hx3 ht2 (.inr (.inl rfl)) (by omega) (by rw [p3]; congr 1; simp only [List.length_append, List.length_cons, List.length_nil]) fun I4 L4 f4 t4 => ?_, fun z => absurd (by decide) z⟩)
    intro I6 e6
    obtain ⟨u6, f6⟩ := t4.up e6
    simp only [List.length_append, List.length_cons, List.length_nil] at u6
    rw [show pre.length + (0 + 1) + (tk a).length + 1 = pre.length + ((tk a).length + (0 + 1) + 1) by omega] at u6
    exact hQ I6 L4 ((f3.tr f4).tr f6) u6
  | mul x as =>
    cases x with
    | arg f =>
      obtain ⟨w1, w2, w3⟩ := hw
      have f9 := shp_lt w3
      have hts : ts = pre ++ (5, f) :: (6, 40) :: ((tk as ++ [(6, 41)]) ++ suf) := hts
      have hn : ((tk as ++ [(6, 41)]).length + 1 + 1) ≤ n + 1 := hn
      have hQ : ∀ I2 L2, twf EVW I L I2 L2 → tev I2 L2 (pre.length + ((tk as ++ [(6, 41)]).length + 1 + 1)) (clE S.2 V f (ags as) (evT S.2 V as)) → Q I2 L2 := hQ
      have a0 : ts[pre.length]? = some (5, f) := by rw [hts]; exact at0
      have ht2 : ts = (pre ++ [(5, f), (6, 40)]) ++ (tk as ++ (6, 41) :: suf) := by rw [hts]; simp
      simp only [List.length_append, List.length_cons, List.length_nil] at hn hQ
      refine k331 hτ (by omega) (e_passes (v := 45) hτ hx hp (by omega) (by omega) (by omega) (fun z => by rw [a0] at z; cases z) (fun _ => ⟨fun _ => e_at hτ hx hp (by omega) (by omega) ?_, fun z => absurd rfl z⟩))
      rintro I3 rfl
      rw [a0, hp, zn_a pre.length 1 1 rfl, hI3]
      refine (show wp_c _ 247 [.long (tok 5 f)] _ _ from t_kindOf hτ (by omega) (by omega) (by omega) ⟨fun z => absurd z (by decide), fun _ => ⟨fun z => absurd z (by decide), fun _ => ⟨fun z => absurd z (by decide), fun _ => ⟨fun z => absurd z (by decide), fun _ => ⟨fun z => absurd z (by decide), fun _ => ⟨fun _ => ?_, fun z => absurd rfl z⟩⟩⟩⟩⟩⟩)
      rintro I4 rfl
      rw [p3, zn_a _ 1 1 rfl]
      have f4 : twf EVW I3 L (cm_u2 I3 1315 44 (zi ((pre.length + 1 + 1 : Nat) : Int))) L := twf.rf.pI (by unfold EVW; omega) _
      refine t_told hτ (by omega) (by omega) (by omega) ?_
      rw [zl_i]
      refine e_calls hτ iE w1 w2 w3 (by omega) (hx3.kept hτ f4) ht2 (by rw [u2_same]; congr 1; simp only [List.length_append, List.length_cons, List.length_nil]) (by omega) fun I5 L5 f5 t5 => ?_
      intro I6 e6
      obtain ⟨u6, f6⟩ := t5.up e6
      simp only [List.length_append, List.length_cons, List.length_nil] at u6
      rw [show pre.length + (0 + 1 + 1) + (tk as).length + 1 = pre.length + ((tk as).length + (0 + 1) + 1 + 1) by omega] at u6
      exact hQ I6 L5 (((f3.tr f4).tr f5).tr f6) u6
    | _ => exact absurd hw (by simp [wf])
  | _ => exact absurd hl (by have := ocl_le; simp [lv]; try (rename_i o _ _; have := this o; omega))
theorem e_all (hτ : tw_ok τ) : ∀ n, evS τ (fun I L => cx τ I L B S H V O M W au ev c ts) S.2 V ts 216 1 26 stE n ∧ evH τ (fun I L => cx τ I L B S H V O M W au ev c ts) S.2 V ts 315 2 25 stP n ∧ evH τ (fun I L => cx τ I L B S H V O M W au ev c ts) S.2 V ts 284 3 24 (fun _ => True) n ∧ ∀ m, m ≤ n → evS τ (fun I L => cx τ I L B S H V O M W au ev c ts) S.2 V ts 331 4 23 (fun _ => True) m ∧ evS τ (fun I L => cx τ I L B S H V O M W au ev c ts) S.2 V ts 284 3 24 stP m := by
  intro n
  have z : ∀ {t : Fm} {k : Nat}, wf t → 1 ≤ k → k ≤ lv t → (tk t).length ≤ 0 → False := fun hw h1 hl hn => by
    have := tk_pos hw (.inr (Nat.le_trans h1 hl))
    omega
  induction n with
  | zero =>
    refine ⟨fun t _ _ _ _ _ _ hw hl hn => (z hw (by omega) hl hn).elim, fun t _ _ _ _ _ _ hw hl hn => (z hw (by omega) hl hn).elim, fun t _ _ _ _ _ _ hw hl hn => (z hw (by omega) hl hn).elim, fun m hm => ?_⟩
    have : m = 0 := by omega
    subst this
    exact ⟨fun t _ _ _ _ _ _ hw hl hn => (z hw (by omega) hl hn).elim, fun t _ _ _ _ _ _ hw hl hn => (z hw (by omega) hl hn).elim⟩
  | succ n ih =>
    obtain ⟨iE, iS, iP, iA⟩ := ih
    have u := e_U hτ iE (iA n (Nat.le_refl _)).1
    have uA : ∀ m, m ≤ n + 1 → evS τ (fun I L => cx τ I L B S H V O M W au ev c ts) S.2 V ts 331 4 23 (fun _ => True) m := fun m hm => by
      by_cases e : m = n + 1
      · subst e; exact u
      · exact (iA m (by omega)).1
    have p := e_PH hτ uA iP
    have pA : ∀ m, m ≤ n + 1 → evS τ (fun I L => cx τ I L B S H V O M W au ev c ts) S.2 V ts 284 3 24 stP m := fun m hm => by
      by_cases e : m = n + 1
      · subst e; exact e_P hτ p
      · exact (iA m (by omega)).2
    have s := e_SH hτ pA iS
    exact ⟨e_E hτ (e_S hτ s), s, p, fun m hm => ⟨uA m hm, pA m hm⟩⟩
/-- the value that comes of a formula -/
def vlE (x : Er) : Vl := if x.1 = 0 then (1, x.2) else (2, zl x.1)
theorem vlE_ok {x : Er} (h : erk x) : vok (vlE x) := by
  unfold vlE
  split
  · exact .inr (.inl rfl)
  · exact .inr (.inr ⟨rfl, x.1, rfl, by omega, h.1⟩)
theorem t_evaluates (hτ : tw_ok τ) (h0 : tst τ I L B S H V O M W au ev) {x : Nat} {t : Fm} (hx : x < 240) (ht : S.1 x = some (.inr t)) (hev : ev < 240) {Q : tw_I → tw_L → Prop} (hd : 700 ≤ d)
    (h : ∀ I2 L2, twf (fun a i => EVW a i ∨ (a = 1315 ∧ (i = 16 ∨ i = 43)) ∨ ((a = 1324 ∨ a = 1325) ∧ i = x)) I L I2 L2 → tst τ I2 L2 B S H (up1 V x (vlE (ev1 S.2 V t))) O M W au (ev + 1) → Q I2 L2) : wp_c d 214 [.ref 1315, .int (zi x)] (tw τ I L) (tv τ Q) := by
  refine k214 hτ (by omega) ?_
  rintro I1 rfl I2 rfl I3 rfl
  obtain ⟨g1, g2, g3, g4, g5, g6, g7, g8, g9, g10, g11⟩ := h0
  rw [g10, zn_a ev 1 1 rfl]
  have f1 : twf (fun a i => a = 1315 ∧ (i = 16 ∨ i = 43 ∨ i = 44)) I L (cm_u2 (cm_u2 (cm_u2 I 1315 16 (zi ((ev + 1 : Nat) : Int))) 1315 43 (zi x)) 1315 44 (zi 0)) L := ((twf.rf.pI (by omega) _).pI (by omega) _).pI (by omega) _
  have e16 : (cm_u2 (cm_u2 (cm_u2 I 1315 16 (zi ((ev + 1 : Nat) : Int))) 1315 43 (zi x)) 1315 44 (zi 0)) 1315 16 = zi ((ev + 1 : Nat) : Int) := by rw [u2_nj _ _ _ _ _ (by omega), u2_nj _ _ _ _ _ (by omega), u2_same]
  have e43 : (cm_u2 (cm_u2 (cm_u2 I 1315 16 (zi ((ev + 1 : Nat) : Int))) 1315 43 (zi x)) 1315 44 (zi 0)) 1315 43 = zi x := by rw [u2_nj _ _ _ _ _ (by omega), u2_same]
  have e44 : (cm_u2 (cm_u2 (cm_u2 I 1315 16 (zi ((ev + 1 : Nat) : Int))) 1315 43 (zi x)) 1315 44 (zi 0)) 1315 44 = zi 0 := by rw [u2_same]
  generalize cm_u2 (cm_u2 (cm_u2 I 1315 16 (zi ((ev + 1 : Nat) : Int))) 1315 43 (zi x)) 1315 44 (zi 0) = I3 at *
  have s3 : tst τ I3 L B S H V O M W au (ev + 1) := ⟨g1.kept hτ (fun a i z => by omega) f1, g2.kept f1 (by omega) (fun i => by omega), g3.kept f1 (fun a i z => by unfold KW; omega), g4.kept f1 (by omega) (fun k hk a i z => by unfold KW; omega), g5.kept f1 (fun c => by omega) (fun c => by omega), g6.kept f1 (fun c => by omega) (fun c => by omega), g7.kept f1 (fun c => by omega), g8.kept f1 (fun c => by omega), by rw [(f1 _ _ (by omega)).1]; exact g9, e16, by omega⟩
  have hcx : cx τ I3 L B S H V O M W au (ev + 1) x (tk t) := ⟨s3, e43, hx, by rw [ht]; rfl⟩
  have hok := (s3.cell hx).2.2.1
  rw [ht] at hok
  obtain ⟨hw, hl, hln⟩ := hok
  refine (e_all hτ 80).1 t [] [] (d - 1) I3 L _ hw hl hln hcx (by simp) (.inl rfl) (by omega) e44 fun I4 L4 f4 t4 => ?_
  have s4 := s3.kept hτ (f4.wi EVW_XW)
  obtain ⟨r1, r2, r3, r4⟩ := t4
  have r8 := r4.1
  have fin : ∀ (y : Int32) (v : Int64), y = zi (vlE (ev1 S.2 V t)).1 → v = (vlE (ev1 S.2 V t)).2 → Q (cm_u2 I4 1324 x y) (cm_u2 L4 1325 x v) := by
    intro y v hy hv
    subst hy hv
    have f5 : twf (fun a i => (a = 1324 ∨ a = 1325 ∨ a = 1328) ∧ i = x) I4 L4 (cm_u2 I4 1324 x (zi (vlE (ev1 S.2 V t)).1)) (cm_u2 L4 1325 x (vlE (ev1 S.2 V t)).2) := (twf.rf.pI (by omega) _).pL (by omega) _
    have s5 := s4.val hτ (m := M x) hx f5 (by rw [u2_same]) (by rw [u2_same]) (by rw [u2_ne _ _ _ _ (by omega)]; exact s4.mk1 hx) (vlE_ok r4)
    rw [up_id] at s5
    refine h _ _ (((f1.wi fun a i z => ?_).tr (f4.wi fun a i z => .inl z)).tr ?_) s5
    · unfold EVW
      omega
    · exact (twf.rf.pI (.inr (.inr (by omega))) _).pL (.inr (.inr (by omega))) _
  rw [r2, zi_eq (by omega) (by omega) (by omega) (by omega)]
  unfold vlE at fin
  refine ⟨fun z => ⟨zn_in hx (by omega), ?_⟩, fun z => ⟨zn_in hx (by omega), ?_⟩⟩
  · rw [zn_ix (by omega)]
    rintro I5 rfl
    rw [u2_ne _ _ _ _ (by omega), r2, zi_eq (by omega) (by omega) (by omega) (by omega), r3]
    rw [if_pos (by omega)] at fin
    refine ⟨fun _ => ?_, fun y => absurd z y⟩
    rintro L6 rfl
    exact fin _ _ rfl rfl
  · rw [zn_ix (by omega)]
    rintro I5 rfl
    rw [u2_ne _ _ _ _ (by omega), r2, zi_eq (by omega) (by omega) (by omega) (by omega)]
    rw [if_neg (by omega)] at fin
    refine ⟨fun y => absurd y z, fun _ => ?_⟩
    rintro L6 rfl
    rw [zi_l (by omega) (by omega)]
    exact fin _ _ rfl rfl
end
