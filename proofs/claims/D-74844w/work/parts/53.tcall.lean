/-! THE TWIN: calls, arguments, the whole formula -/
theorem tk_div (a r : Fm) (h : ∃ x y, r = .div x y) : tk (.div a r) = tk a ++ (6, 44) :: tk r := by
  obtain ⟨x, y, rfl⟩ := h
  rfl
/-- where the reading stands -/
def tin (B : List Nat) (p0 : Nat) (s : TS) : Prop := ∀ T p, s = .inr (T, p) → p0 ≤ p ∧ p ≤ B.length
theorem tin_n {B : List Nat} (hB : bok B) {p0 c : Nat} {s : TS} (h : tin B p0 s) : tin B p0 (tsb s (tsn B c)) := by
  intro T p e
  match s, h, e with
  | .inl x, h, e => cases e
  | .inr (T1, p1), h, e =>
    have g := h T1 p1 rfl
    simp only [tsb, tsn] at e
    split at e
    · rename_i q
      have := isT_ok hB g.2 q
      cases e
      omega
    · cases e
theorem tin_r {B : List Nat} {p0 : Nat} {s : TS} {R : Nat → PR} (h : tin B p0 s) (hR : ∀ p t p2, p ≤ B.length → R p = .inr (t, p2) → p ≤ p2 ∧ p2 ≤ B.length) : tin B p0 (tsb s fun T p => tsr T (R p)) := by
  intro T p e
  match s, h, e with
  | .inl x, h, e => cases e
  | .inr (T1, p1), h, e =>
    have g := h T1 p1 rfl
    simp only [tsb, tsr] at e
    rcases q : R p1 with x | ⟨t, p2⟩
    · rw [q] at e; cases e
    · rw [q] at e
      have := hR p1 t p2 g.2 q
      cases e
      omega
theorem ps_g0 {B : List Nat} (hB : bok B) (f dp : Nat) : ∀ p t p2, p ≤ B.length → ps B f 0 0 dp p .null = .inr (t, p2) → p ≤ p2 ∧ p2 ≤ B.length := fun p t p2 h e => (ps_gt hB f 0 0 dp p .null t p2 (.inl ⟨by omega, rfl, rfl⟩) h e).2
theorem ps_ga {B : List Nat} (hB : bok B) : ∀ p t p2, p ≤ B.length → pArea B p = .inr (t, p2) → p ≤ p2 ∧ p2 ≤ B.length := fun p t p2 h e => by have := pArea_gt hB h e; omega
theorem pc_8 (E : Nat → PR) (N : Nat → Nat → PR) (B : List Nat) (p0 : Nat) : pCall E N B p0 8 = need B 40 p0 fun p1 => bnd (pArea B p1) fun a p2 => need B 44 p2 fun p3 => bnd (E p3) fun e p4 => need B 41 p4 fun p5 => .inr (.mul (.arg 8) (.div a (.div e .result)), p5) := rfl
theorem pc_7 (E : Nat → PR) (N : Nat → Nat → PR) (B : List Nat) (p0 : Nat) : pCall E N B p0 7 = need B 40 p0 fun p1 => bnd (E p1) fun a p2 => need B 44 p2 fun p3 => bnd (pArea B p3) fun e p4 => need B 41 p4 fun p5 => .inr (.mul (.arg 7) (.div a (.div e .result)), p5) := rfl
theorem pc_6 (E : Nat → PR) (N : Nat → Nat → PR) (B : List Nat) (p0 : Nat) : pCall E N B p0 6 = need B 40 p0 fun p1 => bnd (E p1) fun a p2 => need B 41 p2 fun p3 => .inr (.mul (.arg 6) (.div a .result), p3) := rfl
theorem pc_5 (E : Nat → PR) (N : Nat → Nat → PR) (B : List Nat) (p0 : Nat) : pCall E N B p0 5 = need B 40 p0 fun p1 => bnd (E p1) fun a p2 => need B 44 p2 fun p3 => bnd (E p3) fun b p4 => need B 44 p4 fun p5 => bnd (E p5) fun c p6 => need B 41 p6 fun p7 => .inr (.mul (.arg 5) (.div a (.div b (.div c .result))), p7) := rfl
theorem pc_4 (E : Nat → PR) (N : Nat → Nat → PR) (B : List Nat) (p0 v : Nat) (hv : v ≤ 4) : pCall E N B p0 v = need B 40 p0 fun p1 => bnd (N (if v = 4 then 8 else 7) p1) fun as p2 => need B 41 p2 fun p3 => .inr (.mul (.arg v) as, p3) := by
  unfold pCall
  simp only [if_pos hv]
/-! the chains of a call -/
section
variable {B : List Nat} {T : List (Nat × Nat)} {p0 : Nat} {A E N : Nat → PR}
theorem ch_1 (v : Nat) : tsb (tsb (tsb (.inr (T ++ [(5, v)], p0)) (tsn B 40)) (fun T p => tsr T (N p))) (tsn B 41) = tsr T (need B 40 p0 fun p1 => bnd (N p1) fun as p2 => need B 41 p2 fun p3 => .inr (.mul (.arg v) as, p3)) := by
  simp only [tsb, tsn, need]
  by_cases q1 : isT (lk B p0) 40 = true
  · simp only [q1, if_true]
    rcases N (tke (lk B p0)) with x | ⟨a, p2⟩
    · rfl
    · simp only [tsr, bnd]
      by_cases q2 : isT (lk B p2) 41 = true
      · simp only [q2, if_true, tk, List.append_assoc, List.cons_append, List.nil_append]
      · simp only [q2]; rfl
  · simp only [q1]; rfl
theorem ch_6 : tsb (tsb (tsb (.inr (T ++ [(5, 6)], p0)) (tsn B 40)) (fun T p => tsr T (E p))) (tsn B 41) = tsr T (need B 40 p0 fun p1 => bnd (E p1) fun a p2 => need B 41 p2 fun p3 => .inr (.mul (.arg 6) (.div a .result), p3)) := by
  simp only [tsb, tsn, need]
  by_cases q1 : isT (lk B p0) 40 = true
  · simp only [q1, if_true]
    rcases E (tke (lk B p0)) with x | ⟨a, p2⟩
    · rfl
    · simp only [tsr, bnd]
      by_cases q2 : isT (lk B p2) 41 = true
      · simp only [q2, if_true, tk, List.append_assoc, List.cons_append, List.nil_append]
      · simp only [q2]; rfl
  · simp only [q1]; rfl
theorem ch_2 (v : Nat) : tsb (tsb (tsb (tsb (tsb (.inr (T ++ [(5, v)], p0)) (tsn B 40)) (fun T p => tsr T (A p))) (tsn B 44)) (fun T p => tsr T (E p))) (tsn B 41) = tsr T (need B 40 p0 fun p1 => bnd (A p1) fun a p2 => need B 44 p2 fun p3 => bnd (E p3) fun e p4 => need B 41 p4 fun p5 => .inr (.mul (.arg v) (.div a (.div e .result)), p5)) := by
  simp only [tsb, tsn, need]
  by_cases q1 : isT (lk B p0) 40 = true
  · simp only [q1, if_true]
    rcases A (tke (lk B p0)) with x | ⟨a, p2⟩
    · rfl
    · simp only [tsr, bnd]
      by_cases q2 : isT (lk B p2) 44 = true
      · simp only [q2, if_true]
        rcases E (tke (lk B p2)) with x | ⟨b, p3⟩
        · rfl
        · simp only
          by_cases q3 : isT (lk B p3) 41 = true
          · simp only [q3, if_true, tk, List.append_assoc, List.cons_append, List.nil_append]
          · simp only [q3]; rfl
      · simp only [q2]; rfl
  · simp only [q1]; rfl
theorem ch_3 : tsb (tsb (tsb (tsb (tsb (tsb (tsb (.inr (T ++ [(5, 5)], p0)) (tsn B 40)) (fun T p => tsr T (E p))) (tsn B 44)) (fun T p => tsr T (E p))) (tsn B 44)) (fun T p => tsr T (E p))) (tsn B 41) = tsr T (need B 40 p0 fun p1 => bnd (E p1) fun a p2 => need B 44 p2 fun p3 => bnd (E p3) fun b p4 => need B 44 p4 fun p5 => bnd (E p5) fun c p6 => need B 41 p6 fun p7 => .inr (.mul (.arg 5) (.div a (.div b (.div c .result))), p7)) := by
  simp only [tsb, tsn, need]
  by_cases q1 : isT (lk B p0) 40 = true
  · simp only [q1, if_true]
    rcases E (tke (lk B p0)) with x | ⟨a, p2⟩
    · rfl
    · simp only [tsr, bnd]
      by_cases q2 : isT (lk B p2) 44 = true
      · simp only [q2, if_true]
        rcases E (tke (lk B p2)) with x | ⟨b, p3⟩
        · rfl
        · simp only
          by_cases q3 : isT (lk B p3) 44 = true
          · simp only [q3, if_true]
            rcases E (tke (lk B p3)) with x | ⟨c, p4⟩
            · rfl
            · simp only
              by_cases q4 : isT (lk B p4) 41 = true
              · simp only [q4, if_true, tk, List.append_assoc, List.cons_append, List.nil_append]
              · simp only [q4]; rfl
          · simp only [q3]; rfl
      · simp only [q2]; rfl
  · simp only [q1]; rfl
theorem ch_p : tsb (tsb (.inr (T ++ [(6, 40)], p0)) (fun T p => tsr T (E p))) (tsn B 41) = tsr T (bnd (E p0) fun e p2 => need B 41 p2 fun p3 => .inr (.old e, p3)) := by
  simp only [tsb, tsn, need]
  rcases E p0 with x | ⟨a, p2⟩
  · rfl
  · simp only [tsr, bnd]
    by_cases q2 : isT (lk B p2) 41 = true
    · simp only [q2, if_true, tk, List.append_assoc, List.cons_append, List.nil_append]
    · simp only [q2]; rfl
end
section
variable {τ : tw_K} {I : tw_I} {L : tw_L} {d : Nat} {B : List Nat} {dp : Nat}
theorem tps.back (hτ : tw_ok τ) {T X : List (Nat × Nat)} {p p2 : Nat} (hs : tps τ I L B dp (.inr (T ++ X, p2))) (hp : p ≤ B.length) (hT : T.length ≤ p) : tps τ (cm_u2 (cm_u2 I 1315 19 (zi p)) 1315 25 (zi T.length)) L B dp (.inr (T, p)) := by
  have f : twf PW I L (cm_u2 (cm_u2 I 1315 19 (zi p)) 1315 25 (zi T.length)) L := (twf.rf.pI (by unfold PW; omega) _).pI (by unfold PW; omega) _
  obtain ⟨h1, h2, h3, h4, h5, h6, h7⟩ := hs
  refine ⟨⟨h1.1.kept hτ PW_I f, h1.2.1.kept f PW_b.1 PW_b.2, by rw [u2_nj _ _ _ _ _ (by omega), u2_same], hp⟩, ?_, ?_, h4, by rw [u2_same], hT, fun i q hq => ?_⟩
  · rw [u2_nj _ _ _ _ _ (by omega), u2_nj _ _ _ _ _ (by omega)]; exact h2
  · rw [u2_nj _ _ _ _ _ (by omega), u2_nj _ _ _ _ _ (by omega)]; exact h3
  · refine h7 i q ?_
    rw [List.getElem?_append_left (List.getElem?_eq_some_iff.mp hq).1]
    exact hq
theorem r_9 (hτ : tw_ok τ) (hB : bok B) {f : Nat} (R0 : RX τ B f 290 0 5) : RX τ B (f + 1) 288 9 6 := by
  intro dp T p I L Q d hs hf hd h
  have hp := hs.1.2.2.2
  have hT := hs.2.2.2.2.2.1
  rw [ps9] at h
  refine k288 hτ (by omega) (t_lookS hτ hs (by omega) fun I1 L1 f1 g1 t1 => ?_)
  have t1 := t1 _ _ rfl
  have hk := lk_k hB hp
  rw [t1.kind hk (by omega), t1.kind hk (by omega), t1.kind hk (by omega), g1.1.2.2.1, g1.2.2.2.2.1]
  have go : (tkk (lk B p) = 2 ∨ tkk (lk B p) = 3 ∨ tkk (lk B p) = 4) → ∀ s0 : Int32, s0 = (if tkk (lk B p) = 2 then zi 1 else zi 0) → wp_r (d - 1) 288 (51, [.ref 1315, .int (zi p), .int (zi T.length), .null, .null], [.int s0], tw τ I1 L1) (tv τ Q) := by
    intro hkk s0 hs0
    refine k288_51 hτ (by omega) (t_takes hτ g1 t1 (by omega) (by omega) (by omega) fun I2 L2 f2 g2 => t_lookS hτ g2 (by omega) fun I3 L3 f3 g3 t3 => ?_)
    have t3 := t3 _ _ rfl
    have hp3 := g3.1.2.2.2
    have hk3 := lk_k hB hp3
    rw [t3.kind hk3 (by omega)]
    have fr := (f1.tr f2).tr f3
    have yes : (isT (lk B (tke (lk B p))) 44 = true ∨ isT (lk B (tke (lk B p))) 41 = true ∨ (isT (lk B (tke (lk B p))) 58 = true ∧ tkk (lk B p) = 2)) → wp_r (d - 1) 288 (106, [.ref 1315, .int (zi p), .int (zi T.length), .int s0, .null], [], tw τ I3 L3) (tv τ Q) := by
      intro hy
      rw [if_pos ⟨hkk, hy⟩] at h
      refine k288_106 hτ (by omega) ?_
      rintro I4 rfl I5 rfl
      exact t_area hτ (g3.back hτ hp hT) (by omega) fun I6 L6 f6 g6 => h I6 L6 (((fr.pI (by unfold PW; omega) _).pI (by unfold PW; omega) _).tr f6) g6
    have no : ¬ (isT (lk B (tke (lk B p))) 44 = true ∨ isT (lk B (tke (lk B p))) 41 = true ∨ (isT (lk B (tke (lk B p))) 58 = true ∧ tkk (lk B p) = 2)) → wp_r (d - 1) 288 (110, [.ref 1315, .int (zi p), .int (zi T.length), .int s0, .null], [], tw τ I3 L3) (tv τ Q) := by
      intro hy
      rw [if_neg (fun z => hy z.2)] at h
      refine k288_110 hτ (by omega) ?_
      rintro I4 rfl I5 rfl
      exact R0 dp T p _ _ _ _ (g3.back hτ hp hT) (by omega) (by omega) fun I6 L6 f6 g6 => h I6 L6 (((fr.pI (by unfold PW; omega) _).pI (by unfold PW; omega) _).tr f6) g6
    rw [isT_iff, isT_iff, isT_iff] at yes no
    refine ⟨fun q6 => ?_, fun q6 => no (by omega)⟩
    have o := lk_ok hB hp3 (by omega) (by omega)
    rw [t3.what o.2.2.2.2.2.1 (by omega), t3.what o.2.2.2.2.2.1 (by omega), t3.what o.2.2.2.2.2.1 (by omega)]
    refine ⟨fun q => yes (by omega), fun q1 => ⟨fun q => yes (by omega), fun q2 => ⟨fun q => ?_, fun q3 => no (by omega)⟩⟩⟩
    refine ⟨fun z => no ?_, fun z => yes ?_⟩
    · by_cases k2 : tkk (lk B p) = 2
      · rw [hs0, if_pos k2] at z; exact absurd z (by decide)
      · omega
    · by_cases k2 : tkk (lk B p) = 2
      · omega
      · rw [hs0, if_neg k2] at z; exact absurd rfl z
  refine ⟨fun q => go (by omega) _ (by rw [if_pos (by omega)]), fun q1 => ⟨fun q => go (by omega) _ (by rw [if_neg (by omega)]), fun q2 => ⟨fun q => go (by omega) _ (by rw [if_neg (by omega)]), fun q3 => ?_⟩⟩⟩
  rw [if_neg (by omega)] at h
  exact R0 dp T p I1 L1 _ _ g1 (by omega) (by omega) fun I2 L2 f2 g2 => h I2 L2 (f1.tr f2) g2
/-- behind an argument -/
theorem r_comma (hτ : tw_ok τ) (hB : bok B) {f nt : Nat} (hnt : nt = 7 ∨ nt = 8) (RN : RA τ B f nt) {v n : Nat} (hv : v < 9) (hvn : nt = if v = 4 then 8 else 7) (hn : n < 8) {T : List (Nat × Nat)} {p : Nat} {r : PR} (hr : ∀ t p2, r = .inr (t, p2) → p < p2 ∧ p2 ≤ B.length) (hs : tps τ I L B dp (tsr T r)) (hf : 10 * (B.length + 1 - p) + 7 ≤ f + 1) (hd : 4 * f + 20 ≤ d) {Q : tw_I → tw_L → Prop}
    (h : ∀ I2 L2, twf PW I L I2 L2 → tps τ I2 L2 B dp (tsr T (bnd r fun a p2 => if isT (lk B p2) 44 then bnd (ps B f nt (n + 1) dp (tke (lk B p2)) .null) fun r p3 => .inr (.div a r, p3) else .inr (.div a .result, p2))) → Q I2 L2) :
    wp_c d 318 [.ref 1315, .int (zi 44)] (tw τ I L) (ti τ fun r4 I4 L4 => wp_r d 292 (4, [.ref 1315, .int (zi v), .int (zi n + zi 1), .int r4], [], tw τ I4 L4) (tv τ Q)) := by
  refine t_takesIf (c := 44) hτ hs (by omega) (by omega) fun I1 L1 f1 g1 _ => ?_
  rw [zn_a n 1 1 rfl]
  match r, hr, hs, g1, h with
  | .inl x, hr, hs, g1, h =>
    refine k292_4 hτ (by omega) ⟨fun _ => h I1 L1 f1 g1, fun z => absurd rfl z⟩
  | .inr (a, p2), hr, hs, g1, h =>
    have hp2 := hr a p2 rfl
    show wp_r d 292 (4, [.ref 1315, .int (zi v), .int (zi ((n + 1 : Nat) : Int)), .int (bz (isT (lk B p2) 44))], [], tw τ I1 L1) (tv τ Q)
    cases q : isT (lk B p2) 44 with
    | false =>
      simp only [tsr, bnd, tsb, tsi, q, Bool.false_eq_true, if_false] at g1 h
      exact k292_4 hτ (by omega) ⟨fun _ => h I1 L1 f1 g1, fun z => absurd rfl z⟩
    | true =>
      have o := isT_ok hB hp2.2 q
      simp only [tsr, bnd, tsb, tsi, q, if_true] at g1 h
      refine RN v (n + 1) dp _ (tke (lk B p2)) I1 L1 Q d hv hvn (by omega) g1 (by omega) hd fun I2 L2 f2 g2 => h I2 L2 (f1.tr f2) ?_
      rcases e : ps B f nt (n + 1) dp (tke (lk B p2)) .null with x | ⟨r, p3⟩
      · rw [e] at g2
        exact g2
      · rw [e] at g2
        simp only [tsr] at g2 ⊢
        have ee : T ++ tk (.div a r) = T ++ tk a ++ [(6, 44)] ++ tk r := by
          rw [tk_div a r (ps_div hnt e)]
          simp
        rw [ee]
        exact g2
theorem r_7 (hτ : tw_ok τ) (hB : bok B) {f : Nat} (R9 : RX τ B f 288 9 6) (R7 : RA τ B f 7) : RA τ B (f + 1) 7 := by
  intro v n dp T p I L Q d hv hvn hn hs hf hd h
  have hp := hs.1.2.2.2
  have hv4 : v ≠ 4 := fun z => by rw [if_pos z] at hvn; cases hvn
  rw [ps7] at h
  refine k292_4 hτ (by omega) ⟨fun z => absurd z (by decide), fun _ => ?_⟩
  rw [hs.neg]
  refine ⟨fun _ => ?_, fun z => absurd ⟨T, p, rfl⟩ z⟩
  refine t_lookS hτ hs (by omega) fun I1 L1 f1 g1 t1 => ?_
  have t1 := t1 _ _ rfl
  rw [zi_eq (by omega) (by omega) (by omega) (by omega)]
  refine ⟨fun q => ?_, fun q => ?_⟩
  · rw [if_pos (by omega)] at h
    refine t_failsG hτ g1 t1 (by omega) dp fun I2 L2 f2 g2 => ?_
    rw [g2.neg]
    exact ⟨fun ⟨_, _, z⟩ => (by cases z), fun _ => h I2 L2 (f1.tr f2) g2⟩
  · rw [if_neg (by omega)] at h
    rw [g1.neg]
    refine ⟨fun _ => ?_, fun z => absurd ⟨T, p, rfl⟩ z⟩
    rw [zi_eq (by omega) (by omega) (by omega) (by omega)]
    refine ⟨fun z => absurd z (by omega), fun _ => ?_⟩
    refine R9 dp T p I1 L1 _ _ g1 (by omega) (by omega) fun I2 L2 f2 g2 => ?_
    exact r_comma hτ hB (by omega) R7 hv hvn (by omega) (fun t p2 e => ⟨(ps_gt hB f 9 0 dp p .null t p2 (.inr (.inl ⟨rfl, rfl, rfl⟩)) hp e).1 (by omega) (by omega), (ps_gt hB f 9 0 dp p .null t p2 (.inr (.inl ⟨rfl, rfl, rfl⟩)) hp e).2.2⟩) g2 hf (by omega) fun I3 L3 f3 g3 => h I3 L3 ((f1.tr f2).tr f3) g3
theorem r_8 (hτ : tw_ok τ) (hB : bok B) {f : Nat} (R7 : RA τ B f 8) : RA τ B (f + 1) 8 := by
  intro v n dp T p I L Q d hv hvn hn hs hf hd h
  have hp := hs.1.2.2.2
  have hv4 : v = 4 := by
    by_cases z : v = 4
    · exact z
    · rw [if_neg z] at hvn; cases hvn
  rw [ps8] at h
  refine k292_4 hτ (by omega) ⟨fun z => absurd z (by decide), fun _ => ?_⟩
  rw [hs.neg]
  refine ⟨fun _ => ?_, fun z => absurd ⟨T, p, rfl⟩ z⟩
  refine t_lookS hτ hs (by omega) fun I1 L1 f1 g1 t1 => ?_
  have t1 := t1 _ _ rfl
  rw [zi_eq (by omega) (by omega) (by omega) (by omega)]
  refine ⟨fun q => ?_, fun q => ?_⟩
  · rw [if_pos (by omega)] at h
    refine t_failsG hτ g1 t1 (by omega) dp fun I2 L2 f2 g2 => ?_
    rw [g2.neg]
    exact ⟨fun ⟨_, _, z⟩ => (by cases z), fun _ => h I2 L2 (f1.tr f2) g2⟩
  · rw [if_neg (by omega)] at h
    rw [g1.neg]
    refine ⟨fun _ => ?_, fun z => absurd ⟨T, p, rfl⟩ z⟩
    rw [zi_eq (by omega) (by omega) (by omega) (by omega)]
    refine ⟨fun _ => ?_, fun z => absurd (by omega) z⟩
    refine t_area hτ g1 (by omega) fun I2 L2 f2 g2 => ?_
    exact r_comma hτ hB (by omega) R7 hv hvn (by omega) (fun t p2 e => pArea_gt hB hp e) g2 hf (by omega) fun I3 L3 f3 g3 => h I3 L3 ((f1.tr f2).tr f3) g3
theorem t_call (hτ : tw_ok τ) (hB : bok B) {f : Nat} (R0 : RX τ B f 290 0 5) (R7 : RA τ B f 7) (R8 : RA τ B f 8) {T : List (Nat × Nat)} {p v : Nat} (hs : tps τ I L B dp (.inr (T, p))) (ht : tlx I L (lk B p)) (hk : tkk (lk B p) = 5) (hv : tkv (lk B p) = v) (hf : 10 * (B.length + 1 - p) + 1 ≤ f + 1) (hd : 4 * f + 23 ≤ d) {Q : tw_I → tw_L → Prop}
    (h : ∀ I2 L2, twf PW I L I2 L2 → tps τ I2 L2 B dp (tsr T (pCall (fun q => ps B f 0 0 dp q .null) (fun nt q => ps B f nt 0 dp q .null) B (tke (lk B p)) v)) → Q I2 L2) :
    wp_c d 289 [.ref 1315, .int (zi v)] (tw τ I L) (tv τ Q) := by
  have hp := hs.1.2.2.2
  have o := lk_ok hB hp (by omega) (by omega)
  have hv9 : v < 9 := by have := o.2.2.2.2.2.2.1 hk; omega
  have fuel : ∀ {s : TS}, tin B (p + 1) s → ∀ T p, s = .inr (T, p) → 10 * (B.length + 1 - p) + 7 ≤ f := fun hi T p e => by have := hi T p e; omega
  refine k289 hτ (by omega) (t_takes hτ hs ht (by omega) (by omega) (by omega) fun I1 L1 f1 g1 => t_expects (c := 40) hτ g1 (by omega) (by omega) fun I2 L2 f2 g2 => ?_)
  rw [hk, hv] at g2
  have n1 : tin B (p + 1) (.inr (T ++ [(5, v)], tke (lk B p))) := fun T p e => by cases e; exact ⟨by omega, o.2.2.1⟩
  have n2 := tin_n (c := 40) hB n1
  have fr := f1.tr f2
  rw [zi_lt (by omega) (by omega) (by omega) (by omega), zi_eq (by omega) (by omega) (by omega) (by omega), zi_eq (by omega) (by omega) (by omega) (by omega)]
  refine ⟨fun q4 => ⟨fun q8 => ?_, fun q8 => ?_⟩, fun q4 => ?_⟩
  · have hv8 : v = 8 := by omega
    subst hv8
    rw [pc_8, ← ch_2 (E := fun q => ps B f 0 0 dp q .null)] at h
    refine t_area hτ g2 (by omega) fun I3 L3 f3 g3 => t_expects (c := 44) hτ g3 (by omega) (by omega) fun I4 L4 f4 g4 => ?_
    have n4 := tin_n (c := 44) hB (tin_r n2 (ps_ga hB))
    refine t_e hτ R0 g4 (fun T p e => by have := fuel n4 T p e; omega) (by omega) fun I5 L5 f5 g5 => t_expects (c := 41) hτ g5 (by omega) (by omega) fun I6 L6 f6 g6 => ?_
    exact h I6 L6 ((((fr.tr f3).tr f4).tr f5).tr f6) g6
  · refine t_e hτ R0 g2 (fun T p e => by have := fuel n2 T p e; omega) (by omega) fun I3 L3 f3 g3 => ?_
    have n3 := tin_r n2 (ps_g0 hB f dp)
    refine ⟨fun q7 => ?_, fun q7 => ?_⟩
    · have hv7 : v = 7 := by omega
      subst hv7
      rw [pc_7, ← ch_2 (A := fun q => ps B f 0 0 dp q .null) (E := pArea B)] at h
      refine t_expects (c := 44) hτ g3 (by omega) (by omega) fun I4 L4 f4 g4 => t_area hτ g4 (by omega) fun I5 L5 f5 g5 => ?_
      refine k289_68 hτ (by omega) ⟨fun _ => ⟨fun z => absurd z (by decide), fun _ => ?_⟩, fun z => absurd (by decide) z⟩
      exact t_expects (c := 41) hτ g5 (by omega) (by omega) fun I6 L6 f6 g6 => h I6 L6 ((((fr.tr f3).tr f4).tr f5).tr f6) g6
    · refine k289_68 hτ (by omega) ⟨fun _ => ?_, fun z => absurd (by decide) z⟩
      rw [zi_eq (by omega) (by omega) (by omega) (by omega)]
      refine ⟨fun q5 => ?_, fun q5 => ?_⟩
      · have hv5 : v = 5 := by omega
        subst hv5
        rw [pc_5, ← ch_3 (E := fun q => ps B f 0 0 dp q .null)] at h
        refine t_expects (c := 44) hτ g3 (by omega) (by omega) fun I4 L4 f4 g4 => ?_
        have n4 := tin_n (c := 44) hB n3
        refine t_e hτ R0 g4 (fun T p e => by have := fuel n4 T p e; omega) (by omega) fun I5 L5 f5 g5 => ?_
        refine k289_68 hτ (by omega) ⟨fun _ => ⟨fun _ => ?_, fun z => absurd rfl z⟩, fun z => absurd (by decide) z⟩
        refine t_expects (c := 44) hτ g5 (by omega) (by omega) fun I6 L6 f6 g6 => ?_
        have n6 := tin_n (c := 44) hB (tin_r n4 (ps_g0 hB f dp))
        refine t_e hτ R0 g6 (fun T p e => by have := fuel n6 T p e; omega) (by omega) fun I7 L7 f7 g7 => ?_
        refine k289_68 hτ (by omega) ⟨fun z => absurd z (by decide), fun _ => ?_⟩
        exact t_expects (c := 41) hτ g7 (by omega) (by omega) fun I8 L8 f8 g8 => h I8 L8 ((((((fr.tr f3).tr f4).tr f5).tr f6).tr f7).tr f8) g8
      · have hv6 : v = 6 := by omega
        subst hv6
        rw [pc_6, ← ch_6 (E := fun q => ps B f 0 0 dp q .null)] at h
        exact t_expects (c := 41) hτ g3 (by omega) (by omega) fun I4 L4 f4 g4 => h I4 L4 ((fr.tr f3).tr f4) g4
  · rw [pc_4 _ _ _ _ _ (by omega), ← ch_1 (N := fun q => ps B f (if v = 4 then 8 else 7) 0 dp q .null)] at h
    have lst : ∀ (Q : tw_I → tw_L → Prop), (∀ I3 L3, twf PW I2 L2 I3 L3 → tps τ I3 L3 B dp (tsb (tsb (.inr (T ++ [(5, v)], tke (lk B p))) (tsn B 40)) (fun T p => tsr T (ps B f (if v = 4 then 8 else 7) 0 dp p .null))) → Q I3 L3) → wp_c (d - 1) 292 [.ref 1315, .int (zi v)] (tw τ I2 L2) (tv τ Q) := by
      intro Q hQ
      generalize hs2 : tsb (.inr (T ++ [(5, v)], tke (lk B p)) : TS) (tsn B 40) = s2 at g2 n2 hQ
      match s2, g2, n2, hQ with
      | .inl e, g2, n2, hQ => exact t_292X hτ g2 (by omega) _ (hQ _ _ twf.rf g2)
      | .inr (T2, p2), g2, n2, hQ =>
        have fu := fuel n2 T2 p2 rfl
        refine k292 hτ (by omega) ?_
        by_cases h4 : v = 4
        · rw [if_pos h4] at hQ
          exact R8 v 0 dp T2 p2 I2 L2 Q _ hv9 (by rw [if_pos h4]) (by omega) g2 fu (by omega) hQ
        · rw [if_neg h4] at hQ
          exact R7 v 0 dp T2 p2 I2 L2 Q _ hv9 (by rw [if_neg h4]) (by omega) g2 fu (by omega) hQ
    refine lst _ fun I3 L3 f3 g3 => t_expects (c := 41) hτ g3 (by omega) (by omega) fun I4 L4 f4 g4 => h I4 L4 ((fr.tr f3).tr f4) g4
theorem r_4 (hτ : tw_ok τ) (hB : bok B) {f : Nat} (R0 : RX τ B f 290 0 5) (R7 : RA τ B f 7) (R8 : RA τ B f 8) : RX τ B (f + 1) 295 4 1 := by
  intro dp T p I L Q d hs hf hd h
  have hp := hs.1.2.2.2
  have hk := lk_k hB hp
  rw [ps4] at h
  refine k295 hτ (by omega) (t_lookS hτ hs (by omega) fun I1 L1 f1 g1 t1 => ?_)
  have t1 := t1 _ _ rfl
  rw [t1.kind hk (by omega), t1.kind hk (by omega), t1.kind hk (by omega), t1.kind hk (by omega), t1.kind hk (by omega), t1.kind hk (by omega)]
  have hdp := hs.2.2.2.1
  have fin : ∀ (s : TS) (I5 : tw_I) (L5 : tw_L), twf PW I L I5 L5 → tps τ I5 L5 B (dp + 1) s → dp + 1 ≤ 10 → (∀ I2 L2, twf PW I L I2 L2 → tps τ I2 L2 B dp s → Q I2 L2) → Q (cm_u2 I5 1315 24 (I5 1315 24 - zi 1)) L5 := by
    intro s I5 L5 f5 g5 h10 hQ
    have fr := f5.pI (a := 1315) (i := 24) (by unfold PW; omega) (I5 1315 24 - zi 1)
    match s, g5, hQ with
    | .inl e, g5, hQ => exact hQ _ _ fr (g5.deepB hτ dp _)
    | .inr (T5, p5), g5, hQ => exact hQ _ _ fr (tps.deep hτ g5 dp (by omega) (I5 1315 24 - zi 1) (by rw [g5.2.2.1, zi_sub]; congr 1; omega))
  refine ⟨fun q => ?_, fun q1 => ⟨fun q => ?_, fun q2 => ⟨fun q => ?_, fun q3 => ⟨fun q => ?_, fun q4 => ⟨fun q => ?_, fun q5 => ⟨fun q => ?_, fun q6 => ?_⟩⟩⟩⟩⟩⟩
  · have qq : tkk (lk B p) = 1 := by omega
    rw [if_pos qq] at h
    refine t_takes hτ g1 t1 (by omega) (by omega) (by omega) fun I2 L2 f2 g2 => h I2 L2 (f1.tr f2) ?_
    rw [qq] at g2; exact g2
  · have qq : tkk (lk B p) = 2 := by omega
    rw [if_neg (by omega), if_pos qq] at h
    refine t_takes hτ g1 t1 (by omega) (by omega) (by omega) fun I2 L2 f2 g2 => h I2 L2 (f1.tr f2) ?_
    rw [qq] at g2; exact g2
  · have qq : tkk (lk B p) = 3 := by omega
    have o := lk_ok hB hp (by omega) (by omega)
    rw [if_neg (by omega), if_neg (by omega), if_pos qq] at h
    refine t_takes hτ g1 t1 (by omega) (by omega) (by omega) fun I2 L2 f2 g2 => h I2 L2 (f1.tr f2) ?_
    rw [qq, o.2.2.2.2.2.2.2.2.2 qq] at g2; exact g2
  · have qq : tkk (lk B p) = 4 := by omega
    rw [if_neg (by omega), if_neg (by omega), if_neg (by omega), if_pos qq] at h
    refine t_takes hτ g1 t1 (by omega) (by omega) (by omega) fun I2 L2 f2 g2 => h I2 L2 (f1.tr f2) ?_
    rw [qq] at g2; exact g2
  · have qq : tkk (lk B p) = 5 := by omega
    rw [if_neg (by omega), if_neg (by omega), if_neg (by omega), if_neg (by omega), if_pos qq] at h
    refine t_opens hτ g1 t1 (by omega) (fun h10 I2 L2 dp2 f2 g2 => ?_) (fun h10 I2 f2 g2 t2 => ?_)
    · rw [if_pos h10] at h
      refine ⟨fun _ => ?_, fun z => absurd rfl z⟩
      rintro I3 rfl
      exact h _ _ ((f1.tr f2).pI (by unfold PW; omega) _) (g2.deepB hτ dp _)
    · rw [if_neg h10] at h
      refine ⟨fun z => absurd z (by decide), fun _ => ?_⟩
      have hw : (L1 1315 26).toInt32 = zi ((tkv (lk B p) : Nat) : Int) := by
        have : L1 1315 26 = zl ((tkv (lk B p) : Nat) : Int) := t2.2.2.1
        rw [this, zl_i]
      rw [hw]
      refine t_call hτ hB R0 R7 R8 g2 t2 qq rfl (by omega) (by omega) fun I3 L3 f3 g3 => ?_
      rintro I4 rfl
      exact fin _ I3 L3 ((f1.tr f2).tr f3) g3 (by omega) h
  · have qq : tkk (lk B p) = 6 := by omega
    have o := lk_ok hB hp (by omega) (by omega)
    rw [if_neg (by omega), if_neg (by omega), if_neg (by omega), if_neg (by omega), if_neg (by omega)] at h
    rw [t1.what o.2.2.2.2.2.1 (by omega)]
    refine ⟨fun q40 => ?_, fun q40 => ?_⟩
    · rw [if_pos (isT_iff.mpr ⟨qq, by omega⟩)] at h
      refine t_opens hτ g1 t1 (by omega) (fun h10 I2 L2 dp2 f2 g2 => ?_) (fun h10 I2 f2 g2 t2 => ?_)
      · rw [if_pos h10] at h
        exact ⟨fun _ => h I2 L2 (f1.tr f2) g2, fun z => absurd rfl z⟩
      · rw [if_neg h10, ← ch_p (E := fun q => ps B f 0 0 (dp + 1) q .null)] at h
        refine ⟨fun z => absurd z (by decide), fun _ => ?_⟩
        refine t_takes hτ g2 t2 (by omega) (by omega) (by omega) fun I3 L3 f3 g3 => ?_
        rw [qq, show tkv (lk B p) = 40 by omega] at g3
        refine t_e hτ R0 g3 (fun T p e => by cases e; omega) (by omega) fun I4 L4 f4 g4 => t_expects (c := 41) hτ g4 (by omega) (by omega) fun I5 L5 f5 g5 => ?_
        rintro I6 rfl
        exact fin _ I5 L5 ((((f1.tr f2).tr f3).tr f4).tr f5) g5 (by omega) h
    · rw [if_neg (fun z => q40 (by have := (isT_iff.mp z).2; omega))] at h
      exact t_failsG hτ g1 t1 (by omega) dp fun I2 L2 f2 g2 => h I2 L2 (f1.tr f2) g2
  · rw [if_neg (by omega), if_neg (by omega), if_neg (by omega), if_neg (by omega), if_neg (by omega), if_neg (fun z => q6 (by have := (isT_iff.mp z).1; omega))] at h
    exact t_failsG hτ g1 t1 (by omega) dp fun I2 L2 f2 g2 => h I2 L2 (f1.tr f2) g2
theorem r_all (hτ : tw_ok τ) (hB : bok B) : ∀ f, RX τ B f 290 0 5 ∧ RX τ B f 297 1 4 ∧ RX τ B f 296 2 3 ∧ RX τ B f 298 3 2 ∧ RX τ B f 295 4 1 ∧ RL τ B f 297 5 ∧ RL τ B f 296 6 ∧ RA τ B f 7 ∧ RA τ B f 8 ∧ RX τ B f 288 9 6 := by
  intro f
  induction f with
  | zero =>
    refine ⟨?_, ?_, ?_, ?_, ?_, ?_, ?_, ?_, ?_, ?_⟩
    all_goals first | (intro dp T p I L Q d hs hf; omega) | (intro dp T acc p I L Q d hs hf; omega) | (intro v n dp T p I L Q d _ _ _ hs hf; omega)
  | succ f ih =>
    obtain ⟨i0, i1, i2, i3, i4, i5, i6, i7, i8, i9⟩ := ih
    exact ⟨r_0 hτ hB i1, r_1 hτ hB i2 i5, r_2 hτ hB i3 i6, r_3 hτ hB i3 i4, r_4 hτ hB i0 i7 i8, r_5 hτ hB i2 i5, r_6 hτ hB i3 i6, r_7 hτ hB i9 i7, r_8 hτ hB i8, r_9 hτ hB i0⟩
/-- readFormula: -1 and the tokens, or the place that is wrong -/
theorem t_readFormula (hτ : tw_ok τ) (hc : tcs τ I) (hB : tbf I B) (h1 : 1 ≤ B.length) {Q : Int32 → tw_I → tw_L → Prop} (hd : 4100 ≤ d)
    (h : ∀ I2 L2, twf PW I L I2 L2 → match psF B with
      | .inl e => Q (zi e) I2 L2
      | .inr (t, _) => (I2 1315 25 = zi (tk t).length ∧ (tk t).length ≤ 80 ∧ ∀ (i : Nat) (q : Nat × Nat), (tk t)[i]? = some q → L2 1331 i = tok q.1 q.2) → Q (zi (-1)) I2 L2) : wp_c d 291 [.ref 1315] (tw τ I L) (ti τ Q) := by
  have bo := hB.bok
  have hl := hB.2.1
  refine k291 hτ (by omega) ?_
  rintro I1 rfl I2 rfl I3 rfl I4 rfl
  have f4 : twf PW I L (cm_u2 (cm_u2 (cm_u2 (cm_u2 I 1315 23 (zi (-1))) 1315 24 (zi 0)) 1315 25 (zi 0)) 1315 19 (zi 1)) L := (((twf.rf.pI (by unfold PW; omega) _).pI (by unfold PW; omega) _).pI (by unfold PW; omega) _).pI (by unfold PW; omega) _
  generalize hI4 : cm_u2 (cm_u2 (cm_u2 (cm_u2 I 1315 23 (zi (-1))) 1315 24 (zi 0)) 1315 25 (zi 0)) 1315 19 (zi 1) = I4 at f4
  have g4 : tps τ I4 L B 0 (.inr ([], 1)) := by
    refine ⟨⟨hc.kept hτ PW_I f4, hB.kept f4 PW_b.1 PW_b.2, ?_, h1⟩, ?_, ?_, by omega, ?_, by simp, fun i q hq => ?_⟩
    · rw [← hI4, u2_same]; rfl
    · rw [← hI4, u2_nj _ _ _ _ _ (by omega), u2_nj _ _ _ _ _ (by omega), u2_nj _ _ _ _ _ (by omega), u2_same]
    · rw [← hI4, u2_nj _ _ _ _ _ (by omega), u2_nj _ _ _ _ _ (by omega), u2_same]; rfl
    · rw [← hI4, u2_nj _ _ _ _ _ (by omega), u2_same]; rfl
    · simp at hq
  refine (r_all hτ bo 1000).1 0 [] 1 I4 L _ _ g4 (by omega) (by omega) fun I5 L5 f5 g5 => t_lookS hτ g5 (by omega) fun I6 L6 f6 g6 t6 => ?_
  have fr := (f4.tr f5).tr f6
  unfold psF at h
  rcases e : ps B 1000 0 0 0 1 .null with x | ⟨t, p⟩
  · rw [e] at g6 h
    refine ⟨fun _ => ?_, fun _ => t_failsB hτ g6 (by omega) ?_⟩
    · rw [g6.2.1]; exact h I6 L6 fr
    · rw [g6.2.1]; exact h I6 L6 fr
  · rw [e] at g6 h t6
    have t6 := t6 _ _ rfl
    have hg := (ps_gt bo 1000 0 0 0 1 .null t p (.inl ⟨by omega, rfl, rfl⟩) h1 e)
    rw [t6.kind (lk_k bo hg.2.2) (by omega)]
    simp only [bnd] at h
    refine ⟨fun q => ?_, fun q => ?_⟩
    · have h := h I6 L6 fr
      rw [if_pos (by omega)] at h
      rw [g6.2.1]
      refine h ⟨g6.2.2.2.2.1, ?_, g6.2.2.2.2.2.2⟩
      have := g6.2.2.2.2.2.1
      simp only [List.nil_append] at this
      omega
    · refine t_failsG hτ g6 t6 (by omega) 0 fun I7 L7 f7 g7 => ?_
      have h := h I7 L7 (fr.tr f7)
      rw [if_neg (by omega)] at h
      rw [g7.2.1]
      exact h
end
