/-! THE TWIN: SUM, MIN, MAX, AVG -/
abbrev gaL (f e : Nat) (A : Ac) (m : Int32) (vs : List Value) : List Value := .ref 1315 :: .int (zi f) :: .int (zi e) :: .long A.2.1 :: .retAddr 0 :: .int (bz A.2.2.1) :: .long A.2.2.2.1 :: .retAddr 0 :: .long A.2.2.2.2 :: .retAddr 0 :: .long (zl A.1) :: .retAddr 0 :: .int m :: vs
theorem tk_hd : ∀ t : Fm, wf t → 1 ≤ lv t → (∃ q, tk t = [q] ∧ (¬ ar t → q.1 = 1)) ∨ (∃ q q2 r, tk t = q :: q2 :: r ∧ ¬ ar t ∧ ((q.1 ≠ 2 ∧ q.1 ≠ 3 ∧ q.1 ≠ 4) ∨ ∃ v, q2 = (6, v) ∧ v ≠ 58 ∧ v ≠ 44 ∧ v ≠ 41)) := by
  intro t
  induction t using tk.induct with
  | case1 n => intro _ _; exact .inl ⟨_, rfl, fun _ => rfl⟩
  | case2 v => intro _ _; exact .inl ⟨_, rfl, fun z => absurd trivial z⟩
  | case3 => intro _ _; exact .inl ⟨_, rfl, fun z => absurd trivial z⟩
  | case4 c => intro _ _; exact .inl ⟨_, rfl, fun z => absurd trivial z⟩
  | case5 u v => intro _ h; exact absurd h (by simp [lv])
  | case6 o l r ihl ihr =>
    intro h _
    have hl : 1 ≤ lv l := by
      have h3 := h.2.2.1
      have h4 := h.2.2.2.1
      split at h4 <;> omega
    have ho : opc o ≠ 58 ∧ opc o ≠ 44 ∧ opc o ≠ 41 := by cases o <;> decide
    rcases ihl h.1 hl with ⟨q, e, _⟩ | ⟨q, q2, s, e, _, hq⟩
    · exact .inr ⟨q, (6, opc o), tk r, by show tk l ++ (6, opc o) :: tk r = _; rw [e]; rfl, by simp [ar], .inr ⟨_, rfl, ho⟩⟩
    · exact .inr ⟨q, q2, s ++ (6, opc o) :: tk r, by show tk l ++ (6, opc o) :: tk r = _; rw [e]; rfl, by simp [ar], hq⟩
  | case7 o a ih =>
    intro h _
    have ha : wf a ∧ 4 ≤ lv a := by cases o <;> first | exact h | exact absurd h (by simp [wf])
    have := tk_pos ha.1 (.inr (by omega))
    match e : tk a, this with
    | q2 :: r, _ => exact .inr ⟨(6, 45), q2, r, by show (6, 45) :: tk a = _; rw [e], by simp [ar], .inl ⟨by decide, by decide, by decide⟩⟩
  | case8 a ih =>
    intro h _
    match e : tk a ++ [(6, 41)] with
    | [] => simp at e
    | q2 :: r => exact .inr ⟨(6, 40), q2, r, by show (6, 40) :: (tk a ++ [(6, 41)]) = _; rw [e], by simp [ar], .inl ⟨by decide, by decide, by decide⟩⟩
  | case9 f as ih => intro h _; exact .inr ⟨(5, f), (6, 40), tk as ++ [(6, 41)], rfl, by simp [ar], .inl ⟨(by decide : (5 : Nat) ≠ 2), (by decide : (5 : Nat) ≠ 3), (by decide : (5 : Nat) ≠ 4)⟩⟩
  | case10 a ih => intro _ h; exact absurd h (by simp [lv])
  | case11 a r hr iha ihr => intro _ h; exact absurd h (by simp [lv])
  | case12 t h1 h2 h3 h4 h5 h6 h7 h8 h9 h10 h11 =>
    intro h hl
    have e : tk t = [] := by
      rw [tk]
      all_goals assumption
    have := tk_pos h (.inr hl)
    rw [e] at this
    cases this
section
variable {τ : tw_K} {I : tw_I} {L : tw_L} {d : Nat} {B : List Nat} {S : Sh} {H : List Sh} {V O : Nat → Vl} {M W : Nat → Bool} {au : Bool} {ev : Nat}
variable {c p : Nat} {ts : List (Nat × Nat)}
theorem e_gend (hτ : tw_ok τ) (hp : I 1315 44 = zi p) {f e : Nat} {A : Ac} (hf : f < 4) (he : e ≤ 8) (hA : A.1 ≤ 20000) {v1 v2 v3 v4 v5 v6 v7 v8 v9 : Value} {Q : tw_I → tw_L → Prop} (hd : 3 ≤ d) (h : ∀ I2 L2, twf EVW I L I2 L2 → tev I2 L2 p (gaR f e A []) → Q I2 L2) : wp_r d 221 (19, gaL f e A (zi 0) [v1, v2, v3, v4, v5, v6, v7, v8, v9], [], tw τ I L) (tv τ Q) := by
  have h : ∀ I2 L2, twf EVW I L I2 L2 → tev I2 L2 p (if e = 0 then acF f A else (e, zl 0)) → Q I2 L2 := h
  obtain ⟨k, tot, ov, lo, hi⟩ := A
  simp only at hA
  refine k221_19 hτ (by omega) ⟨fun _ => ?_, fun z => absurd rfl z⟩
  rw [zi_eq (by omega) (by omega) (by omega) (by omega)]
  refine ⟨fun z => ?_, fun z => ?_⟩
  · rw [if_pos (by omega)] at h
    unfold acF at h
    have f4 : f = 0 ∨ f = 1 ∨ f = 2 ∨ f = 3 := by omega
    rcases f4 with rfl | rfl | rfl | rfl
    · refine ⟨fun z => absurd z (by decide), fun _ => ⟨fun z => absurd z (by decide), fun _ => ⟨fun z => absurd z (by decide), fun _ => ?_⟩⟩⟩
      cases ov with
      | false => exact ⟨fun _ => ⟨fun _ => e_is hτ hp _ (by omega) h, fun z => absurd rfl z⟩, fun z => absurd rfl z⟩
      | true => exact ⟨fun z => absurd (show bz true = zi 0 from z) (by decide), fun _ => e_errs (e := 5) hτ hp (by omega) rfl (by omega) h⟩
    · rw [if_pos rfl] at h
      exact ⟨fun _ => e_is hτ hp _ (by omega) h, fun z => absurd rfl z⟩
    · rw [if_neg (by omega), if_pos rfl] at h
      exact ⟨fun z => absurd z (by decide), fun _ => ⟨fun _ => e_is hτ hp _ (by omega) h, fun z => absurd rfl z⟩⟩
    · rw [if_neg (by omega), if_neg (by omega)] at h
      refine ⟨fun z => absurd z (by decide), fun _ => ⟨fun z => absurd z (by decide), fun _ => ⟨fun _ => ?_, fun z => absurd rfl z⟩⟩⟩
      simp only
      rw [zl_eq (by omega) (by omega) (by omega) (by omega)]
      refine ⟨fun k0 => ?_, fun k0 => ?_⟩
      · rw [if_pos ⟨rfl, by omega⟩] at h
        exact e_errs (e := 2) hτ hp (by omega) rfl (by omega) h
      · rw [if_neg (fun q => k0 (by have := q.2; omega))] at h
        cases ov with
        | false =>
          refine ⟨fun _ => ⟨fun z => absurd z (by decide), fun _ => ⟨fun w => k0 ?_, e_is hτ hp _ (by omega) h⟩⟩, fun z => absurd rfl z⟩
          have w : zl (k : Nat) = zl 0 := w
          rw [zl_eq (by omega) (by omega) (by omega) (by omega)] at w
          exact w
        | true => exact ⟨fun z => absurd (show bz true = zi 0 from z) (by decide), fun _ => e_errs (e := 5) hτ hp (by omega) rfl (by omega) h⟩
  · rw [if_neg (by omega)] at h
    exact e_errs hτ hp he rfl (by omega) h
theorem e_g256 (hτ : tw_ok τ) {f e k : Nat} {tot lo hi0 hi v x17 : Int64} {ov : Bool} {m x13 x14 x15 x16 x19 : Int32} {Q : tw_I → tw_L → Prop} (hd : 1 ≤ d)
    (h : wp_r d 221 (113, [.ref 1315, .int (zi f), .int (zi e), .long (tot + v), .retAddr 0, .int (bz (ov || decide (((tot ^^^ (tot + v)) &&& (v ^^^ (tot + v))) < zl 0))), .long lo, .retAddr 0, .long hi, .retAddr 0, .long (zl ((k + 1 : Nat) : Int)), .retAddr 0, .int m, .int x13, .int x14, .int x15, .int x16, .long x17, .retAddr 0, .int (x19 + zi 1), .long v, .retAddr 0], [], tw τ I L) (tv τ Q)) :
    wp_r d 221 (256, [.ref 1315, .int (zi f), .int (zi e), .long tot, .retAddr 0, .int (bz ov), .long lo, .retAddr 0, .long hi0, .retAddr 0, .long (zl k), .retAddr 0, .int m, .int x13, .int x14, .int x15, .int x16, .long x17, .retAddr 0, .int x19, .long v, .retAddr 0], [.long hi], tw τ I L) (tv τ Q) := by
  refine k221_256 hτ (by omega) ?_
  rw [zl_add, show (k : Int) + 1 = ((k + 1 : Nat) : Int) by omega]
  cases ov with
  | true => exact ⟨fun z => absurd z (by decide), fun _ => h⟩
  | false =>
    refine ⟨fun _ => ⟨fun z => ?_, fun z => ?_⟩, fun z => absurd rfl z⟩
    · rw [decide_eq_true z] at h; exact h
    · rw [decide_eq_false z] at h; exact h
theorem e_gstep (hτ : tw_ok τ) {f e : Nat} {A : Ac} (hA : A.1 ≤ 20000) {v x17 : Int64} {m x13 x14 x15 x16 x19 : Int32} {v20 v21 : Value} {Q : tw_I → tw_L → Prop} (hd : 1 ≤ d)
    (h : wp_r d 221 (113, gaL f e (acS A v) m [.int x13, .int x14, .int x15, .int x16, .long x17, .retAddr 0, .int (x19 + zi 1), .long v, .retAddr 0], [], tw τ I L) (tv τ Q)) :
    wp_r d 221 (208, gaL f e A m [.int x13, .int x14, .int x15, .int x16, .long x17, .retAddr 0, .int x19, v20, v21], [.long v], tw τ I L) (tv τ Q) := by
  obtain ⟨k, tot, ov, lo, hi⟩ := A
  simp only at hA
  unfold gaL acS at h
  simp only at h
  refine k221_208 hτ (by omega) ?_
  simp only
  rw [zl_eq (by omega) (by omega) (by omega) (by omega)]
  refine ⟨fun z => ?_, fun z => ⟨fun z2 => ⟨fun z3 => ?_, fun z3 => ?_⟩, fun z2 => ⟨fun z3 => ?_, fun z3 => ?_⟩⟩⟩
  · rw [if_pos (.inl (by omega)), if_pos (.inl (by omega))] at h
    exact e_g256 hτ hd h
  · rw [if_pos (.inr z2), if_pos (.inr z3)] at h
    exact e_g256 hτ hd h
  · rw [if_pos (.inr z2), if_neg (fun y => by rcases y with y | y; omega; exact z3 y)] at h
    exact e_g256 hτ hd h
  · rw [if_neg (fun y => by rcases y with y | y; omega; exact z2 y), if_pos (.inr z3)] at h
    exact e_g256 hτ hd h
  · rw [if_neg (fun y => by rcases y with y | y; omega; exact z2 y), if_neg (fun y => by rcases y with y | y; omega; exact z3 y)] at h
    exact e_g256 hτ hd h
theorem ar_B {a : Fm} (h : ar a) : arB a = true := by
  cases a <;> first | rfl | exact absurd h (by simp [ar])
theorem ar_nB {a : Fm} (h : ¬ ar a) : arB a = false := by
  cases a <;> first | rfl | exact absurd trivial h
theorem e_isArea (hτ : tw_ok τ) (hx : cx τ I L B S H V O M W au ev c ts) {pre suf : List (Nat × Nat)} {a : Fm} (hw : wf a) (ha : ar a ∨ 1 ≤ lv a) (hts : ts = pre ++ (tk a ++ suf)) (hs : suf.head? = some (6, 41) ∨ suf.head? = some (6, 44)) (hp : I 1315 44 = zi pre.length) {Q : Int32 → tw_I → tw_L → Prop} (hd : 5 ≤ d) (h : Q (bz (arB a)) I L) : wp_c d 230 [.ref 1315] (tw τ I L) (ti τ Q) := by
  have tt := hx.tt
  have tl := tt.2.1
  have c24 := hx.2.2.1
  have tp := tk_pos hw ha
  rw [hts, List.length_append, List.length_append] at tl
  have go : ∀ k v, ts[pre.length]? = some (k, v) → (k ≠ 2 ∧ k ≠ 3 ∧ k ≠ 4 → arB a = false) → (k = 2 ∨ k = 3 ∨ k = 4 → arB a = (decide (k = 2 ∧ ts[pre.length + 1]? = some (6, 58)) || (decide (ts[pre.length + 1]? = some (6, 44)) || decide (ts[pre.length + 1]? = some (6, 41))))) → wp_c d 230 [.ref 1315] (tw τ I L) (ti τ Q) := by
    intro k v e hno hyes
    have hq := (tt.2.2 _ _ e).2
    have k8 : k < 8 := hq.2.1
    refine k230 hτ (by omega) (e_at hτ hx hp (by omega) (by omega) ?_)
    rw [e]
    refine (show wp_c _ 247 [.long (tok k v)] _ _ from t_kindOf hτ hq.2.1 hq.2.2 (by omega) ?_)
    rw [zi_eq (by omega) (by omega) (by omega) (by omega), zi_eq (by omega) (by omega) (by omega) (by omega), zi_eq (by omega) (by omega) (by omega) (by omega)]
    have at33 : (k = 2 ∨ k = 3 ∨ k = 4) → ∀ x1, wp_r (d - 1) 230 (33, [.ref 1315, .int x1], [], tw τ I L) (ti τ Q) := by
      intro hk x1
      rw [hyes hk] at h
      refine k230_33 hτ (by omega) ?_
      rw [hx.2.1, hp]
      refine t_isRange hτ (by omega) (by omega) tt e (by omega) ?_
      rw [bz_0, decide_eq_false_iff_not]
      refine ⟨fun z => ?_, fun z => ?_⟩
      · rw [decide_eq_false z, Bool.false_or] at h
        refine e_isOp hτ hx (v := 44) (q := pre.length + 1) (by rw [hp, zn_a pre.length 1 1 rfl]) (by omega) (by omega) (by omega) ?_
        rw [bz_0, decide_eq_false_iff_not]
        refine ⟨fun z => ?_, fun z => ?_⟩
        · rw [decide_eq_false z, Bool.false_or] at h
          refine e_isOp hτ hx (v := 41) (q := pre.length + 1) (by rw [hp, zn_a pre.length 1 1 rfl]) (by omega) (by omega) (by omega) ?_
          rw [bz_0, decide_eq_false_iff_not]
          refine ⟨fun z => ?_, fun z => ?_⟩
          · rw [decide_eq_false z] at h
            exact h
          · rw [decide_eq_true (Decidable.not_not.mp z)] at h
            exact h
        · rw [decide_eq_true (Decidable.not_not.mp z)] at h
          exact h
      · rw [decide_eq_true (Decidable.not_not.mp z)] at h
        exact h
    refine ⟨fun z => at33 (.inl (by omega)) _, fun z1 => ⟨fun z => at33 (.inr (.inl (by omega))) _, fun z2 => ⟨fun z => at33 (.inr (.inr (by omega))) _, fun z3 => ?_⟩⟩⟩
    rw [hno (by omega)] at h
    exact h
  have lf : ∀ q, tk a = [q] → ts = pre ++ q :: suf := fun q e => by rw [hts, e]; rfl
  have s1 : ∀ q, tk a = [q] → ts[pre.length + 1]? = suf.head? := fun q e => by rw [lf q e]; exact at1
  have isA : arB a = true → ∀ k v, tk a = [(k, v)] → (k = 2 ∨ k = 3 ∨ k = 4) → wp_c d 230 [.ref 1315] (tw τ I L) (ti τ Q) := by
    intro hB k v e hk
    refine go k v (by rw [lf _ e]; exact at0) (fun z => by omega) (fun _ => ?_)
    rw [hB, s1 _ e]
    rcases hs with q | q
    · rw [q]; simp
    · rw [q]; simp
  by_cases haa : ar a
  · cases a with
    | index v => exact isA rfl 2 v rfl (by omega)
    | null => exact isA rfl 3 0 rfl (by omega)
    | length x => cases x <;> first | exact isA rfl 4 _ rfl (by omega) | exact absurd hw (by simp [wf])
    | elem x y =>
      cases x with
      | index u =>
        cases y with
        | index v =>
          have hts : ts = pre ++ (2, u) :: (6, 58) :: (2, v) :: suf := hts
          refine go 2 u (by rw [hts]; exact at0) (fun z => by omega) (fun _ => ?_)
          rw [show ts[pre.length + 1]? = some (6, 58) by rw [hts]; exact at1]
          rfl
        | _ => exact absurd hw (by simp [wf])
      | _ => exact absurd hw (by simp [wf])
    | _ => exact absurd haa (by simp [ar])
  · have hB := ar_nB haa
    have hlv : 1 ≤ lv a := by rcases ha with q | q; exact absurd q haa; exact q
    rcases tk_hd a hw hlv with ⟨⟨k, v⟩, e, hk⟩ | ⟨⟨k, v⟩, q2, r, e, _, hq⟩
    · have hk : k = 1 := hk haa
      exact go k v (by rw [lf _ e]; exact at0) (fun _ => hB) (fun z => by omega)
    · have hts : ts = pre ++ (k, v) :: (q2 :: r ++ suf) := by rw [hts, e]; rfl
      refine go k v (by rw [hts]; exact at0) (fun _ => hB) (fun z => ?_)
      rcases hq with hq | ⟨w, rfl, w1, w2, w3⟩
      · simp only at hq; omega
      · rw [show ts[pre.length + 1]? = some (6, w) by rw [hts]; exact at1, hB]
        simp [w1, w2, w3]
theorem agE_l {N : List Nm} (V : Nat → Vl) {t : Fm} (v : Er) {e : Nat} (hB : arB t = true) (h : arV N t = .inl e) : agE N V t v = [(e, zl 0)] := by unfold agE; rw [if_pos hB, h]
theorem agE_r {N : List Nm} (V : Nat → Vl) {t : Fm} (v : Er) {f l : Nat} (hB : arB t = true) (h : arV N t = .inr (f, l)) : agE N V t v = arE V (celF f l 240) := by unfold agE; rw [if_pos hB, h]
theorem e_gathers (hτ : tw_ok τ) {n : Nat} (iE : evS τ (fun I L => cx τ I L B S H V O M W au ev c ts) S.2 V ts 216 1 26 stE n) {suf : List (Nat × Nat)} {f : Nat} (hf : f < 4) (hd : 8 * n + 26 ≤ d) {Q : tw_I → tw_L → Prop} (I0 : tw_I) (L0 : tw_L) : ∀ (r : Fm), wf r → isL r → ags r ≠ [] → (tk r).length ≤ n → ∀ (pre : List (Nat × Nat)) (e : Nat) (A : Ac) (I : tw_I) (L : tw_L) (v1 v2 v3 v4 v5 v6 v7 v8 v9 : Value), cx τ I L B S H V O M W au ev c ts → ts = pre ++ (tk r ++ (6, 41) :: suf) → I 1315 44 = zi pre.length → e ≤ 8 → A.1 + 241 * (ags r).length ≤ 10000 → twf EVW I0 L0 I L →
    (∀ I2 L2, twf EVW I0 L0 I2 L2 → tev I2 L2 (pre.length + (tk r).length) (gaR f e A (agsE S.2 V (ags r) (evT S.2 V r))) → Q I2 L2) → wp_r d 221 (19, gaL f e A (zi 1) [v1, v2, v3, v4, v5, v6, v7, v8, v9], [], tw τ I L) (tv τ Q) := by
  intro r
  induction r with
  | div a r iha ihr =>
    intro hw hl hne hn pre e A I L v1 v2 v3 v4 v5 v6 v7 v8 v9 hx hts hp he hk f0 h
    obtain ⟨s, hs1, hs2, hs3⟩ := tk_rest (show isL r from hl) hts
    generalize hm : (tk (.div a r)).length = m at h hs3 hn
    clear hm hts
    have hlen := hx.ts80
    have hlen2 : pre.length + (tk a).length ≤ 80 := by rw [hs1, List.length_append, List.length_append] at hlen; omega
    have hkl : A.1 + 241 * ((ags r).length + 1) ≤ 10000 := hk
    clear hk
    generalize hal : (ags r).length = al at hkl
    have han : (tk a).length ≤ n := by rcases hs3 with ⟨-, q, -⟩ | ⟨-, q, -⟩ <;> omega
    have hsh : s.head? = some (6, 41) ∨ s.head? = some (6, 44) := by
      rcases hs2 with q | q | q
      · exfalso
        have hnil : s = [] := by cases s; rfl; cases q
        subst hnil
        rcases hs3 with ⟨-, -, e41⟩ | ⟨-, -, e44, -⟩
        · rw [hs1, List.append_nil, List.getElem?_eq_none (by simp)] at e41; cases e41
        · rw [hs1, List.append_nil, List.getElem?_eq_none (by simp)] at e44; cases e44
      · exact .inl q
      · exact .inr q
    have hev : agsE S.2 V (ags (.div a r)) (evT S.2 V (.div a r)) = agE S.2 V a (ev1 S.2 V a) ++ agsE S.2 V (ags r) (evT S.2 V r) := by
      show agsE S.2 V (a :: ags r) (evT S.2 V a ++ evT S.2 V r) = _
      rw [evT_1 S.2 V hw.1 hw.2.2.2]
      rfl
    rw [hev] at h
    have pas : ∀ (e2 : Nat) (A2 : Ac) (I3 : tw_I) (L3 : tw_L) (v1 v2 v3 v4 v5 v6 v7 v8 v9 : Value), e2 ≤ 8 → A2.1 ≤ A.1 + 241 → gaR f e A (agE S.2 V a (ev1 S.2 V a) ++ agsE S.2 V (ags r) (evT S.2 V r)) = gaR f e2 A2 (agsE S.2 V (ags r) (evT S.2 V r)) → twf EVW I L I3 L3 → I3 1315 44 = zi ((pre.length + (tk a).length : Nat) : Int) →
        wp_c d 280 [.ref 1315, .int (zi 44)] (tw τ I3 L3) (ti τ fun r1 I1 L1 => wp_r d 221 (19, gaL f e2 A2 r1 [v1, v2, v3, v4, v5, v6, v7, v8, v9], [], tw τ I1 L1) (tv τ Q)) := by
      intro e2 A2 I3 L3 v1 v2 v3 v4 v5 v6 v7 v8 v9 he2 hA2 er f3 e3
      have hx3 := hx.kept hτ f3
      rw [er] at h
      rcases hs3 with ⟨rfl, el, e41⟩ | ⟨hr, el, e44, hts2, hpl⟩
      · clear hal
        refine e_passes (v := 44) hτ hx3 e3 (by omega) (by omega) (by omega) (fun z => by rw [e41] at z; cases z) (fun _ => ?_)
        rw [el] at h
        exact e_gend hτ e3 hf he2 (by omega) (by omega) fun I4 L4 f4 t4 => h I4 L4 ((f0.tr f3).tr f4) t4
      · refine e_passes (v := 44) hτ hx3 e3 (by omega) (by omega) (by omega) (fun _ I4 f4 e4 => ?_) (fun z => absurd e44 z)
        have f4' : twf EVW I3 L3 I4 L3 := f4.wi fun a i z => by unfold EVW; omega
        refine ihr hw.2.1 hl hr (by omega) _ e2 A2 I4 L3 v1 v2 v3 v4 v5 v6 v7 v8 v9 (hx3.kept hτ f4') hts2 (by rw [hpl]; exact e4) he2 (by rw [hal]; omega) ((f0.tr f3).tr f4') (fun I5 L5 f5 t5 => h I5 L5 f5 ?_)
        rw [hpl] at t5
        rw [el, show pre.length + ((tk a).length + 1 + (tk r).length) = pre.length + (tk a).length + 1 + (tk r).length by omega]
        exact t5
    refine k221_19 hτ (by omega) ⟨fun z => absurd z (by decide), fun _ => e_isArea hτ hx hw.1 hw.2.2.2 hs1 hsh hp (by omega) ?_⟩
    rw [bz_0]
    by_cases haa : ar a
    · have hB := ar_B haa
      refine ⟨fun z => (by rw [hB] at z; cases z), fun _ => e_area hτ hx haa hw.1 hs1 (stE_58 hs2) hp (by omega) fun I3 L3 f3 e3 t3 => ?_⟩
      have f3' := f3.wi ARW_EVW
      have hx3 := hx.kept hτ f3'
      rw [hB]
      refine k221_64 hτ (by omega) ?_
      match ea : arV S.2 a, t3 with
      | .inl e1, t3 =>
        rw [agE_l V _ hB ea] at pas
        have t3 : I3 1315 47 = zi e1 ∧ 1 ≤ e1 ∧ e1 ≤ 8 := t3
        have pas : ∀ (e2 : Nat) (A2 : Ac) (I3 : tw_I) (L3 : tw_L) (v1 v2 v3 v4 v5 v6 v7 v8 v9 : Value), e2 ≤ 8 → A2.1 ≤ A.1 + 241 → gaR f e A ((e1, zl 0) :: agsE S.2 V (ags r) (evT S.2 V r)) = gaR f e2 A2 (agsE S.2 V (ags r) (evT S.2 V r)) → twf EVW I L I3 L3 → I3 1315 44 = zi ((pre.length + (tk a).length : Nat) : Int) →
          wp_c d 280 [.ref 1315, .int (zi 44)] (tw τ I3 L3) (ti τ fun r1 I1 L1 => wp_r d 221 (19, gaL f e2 A2 r1 [v1, v2, v3, v4, v5, v6, v7, v8, v9], [], tw τ I1 L1) (tv τ Q)) := pas
        have er := gaR_e f e A (x := (e1, zl 0)) (show e1 ≠ 0 by omega) (agsE S.2 V (ags r) (evT S.2 V r))
        rw [t3.1, zi_eq (by omega) (by omega) (by omega) (by omega), zi_eq (by omega) (by omega) (by omega) (by omega)]
        refine ⟨fun z => ⟨fun z => absurd z (by omega), fun _ => ?_⟩, fun z => ⟨fun z => absurd z (by omega), fun _ => ?_⟩⟩
        · rw [if_pos (by omega)] at er
          exact k221_113 hτ (by omega) ⟨fun _ => pas e1 A I3 L3 _ _ _ _ _ _ _ _ _ t3.2.2 (by omega) er f3' e3, fun _ => ⟨fun _ => pas e1 A I3 L3 _ _ _ _ _ _ _ _ _ t3.2.2 (by omega) er f3' e3, fun z => absurd rfl z⟩⟩
        · rw [if_neg (by omega)] at er
          exact k221_113 hτ (by omega) ⟨fun _ => pas e A I3 L3 _ _ _ _ _ _ _ _ _ he (by omega) er f3' e3, fun _ => ⟨fun _ => pas e A I3 L3 _ _ _ _ _ _ _ _ _ he (by omega) er f3' e3, fun z => absurd rfl z⟩⟩
      | .inr (fi, la), t3 =>
        rw [agE_r V _ hB ea] at pas
        obtain ⟨t1, t2, t4, t5, t6⟩ := t3
        have pas : ∀ (e2 : Nat) (A2 : Ac) (I3 : tw_I) (L3 : tw_L) (v1 v2 v3 v4 v5 v6 v7 v8 v9 : Value), e2 ≤ 8 → A2.1 ≤ A.1 + 241 → gaR f e A (arE V (celF fi la 240) ++ agsE S.2 V (ags r) (evT S.2 V r)) = gaR f e2 A2 (agsE S.2 V (ags r) (evT S.2 V r)) → twf EVW I L I3 L3 → I3 1315 44 = zi ((pre.length + (tk a).length : Nat) : Int) →
          wp_c d 280 [.ref 1315, .int (zi 44)] (tw τ I3 L3) (ti τ fun r1 I1 L1 => wp_r d 221 (19, gaL f e2 A2 r1 [v1, v2, v3, v4, v5, v6, v7, v8, v9], [], tw τ I1 L1) (tv τ Q)) := pas
        have cells : ∀ n c e2 (A2 : Ac) (x17 : Int64) (v20 v21 : Value), 240 - c = n → c ≤ 240 → e2 ≤ 8 → A2.1 ≤ A.1 + c → gaR f e A (arE V (celF fi la 240) ++ agsE S.2 V (ags r) (evT S.2 V r)) = gaR f e2 A2 (arE V (celF fi la (240 - c)) ++ agsE S.2 V (ags r) (evT S.2 V r)) → wp_r d 221 (113, gaL f e2 A2 (zi 1) [.int (zi 1), .int (zi fi), .int (zi la), .int (zi 1), .long x17, .retAddr 0, .int (zi c), v20, v21], [], tw τ I3 L3) (tv τ Q) := by
          intro n
          induction n with
          | zero =>
            intro c e2 A2 x17 v20 v21 hn hc he2 hA2 er
            refine k221_113 hτ (by omega) ?_
            rw [zi_lt (by omega) (by omega) (by omega) (by omega)]
            refine ⟨fun _ => pas e2 A2 I3 L3 _ _ _ _ _ _ _ _ _ he2 (by omega) ?_ f3' e3, fun z => absurd (by omega) z⟩
            rw [er, hn]
            rfl
          | succ n ih =>
            intro c e2 A2 x17 v20 v21 hn hc he2 hA2 er
            have hc2 : c < 240 := by omega
            obtain ⟨w1, w2, w3⟩ := hx3.tvl hc2
            have wk := hx3.vok hc2
            refine k221_113 hτ (by omega) ?_
            rw [zi_lt (by omega) (by omega) (by omega) (by omega), zn_a c 1 1 rfl]
            refine ⟨fun z => pas e2 A2 I3 L3 _ _ _ _ _ _ _ _ _ he2 (by omega) ?_ f3' e3, fun z => ⟨fun z => absurd z (by decide), fun _ => ⟨fun z => absurd z (by decide), fun _ => t_isIn hτ (by omega) (by omega) (by omega) (by omega) ?_⟩⟩⟩
            · rw [er, celF_gt _ c rfl (by omega)]
              rfl
            rw [celF_step hc2] at er
            rw [bz_0]
            refine ⟨fun y => ?_, fun y => ⟨zn_in hc2 (by decide), ?_⟩⟩
            · rw [y] at er
              exact ih (c + 1) e2 A2 x17 v20 v21 (by omega) (by omega) he2 (by omega) er
            have y : inb c fi la = true := by
              cases w : inb c fi la with
              | true => rfl
              | false => exact absurd w y
            rw [if_pos y, arE_step] at er
            rw [zn_ix (by omega), w1, zi_eq (by omega) (by omega) (by omega) (by omega)]
            refine ⟨fun k0 => ?_, fun k0 => k221_155 hτ (by omega) ⟨fun z => absurd z (by decide), fun _ => ⟨zn_in hc2 (by decide), ?_⟩⟩⟩
            · rw [if_pos (by omega)] at er
              exact ih (c + 1) e2 A2 x17 v20 v21 (by omega) (by omega) he2 (by omega) er
            rw [if_neg (by omega)] at er
            rw [zn_ix (by omega), w1, w2, zi_eq (by omega) (by omega) (by omega) (by omega), zi_eq (by omega) (by omega) (by omega) (by omega), zn_a c 1 1 rfl]
            refine ⟨fun k2 => ?_, fun k2 => ?_⟩
            · rcases wk with wk | wk | ⟨-, e1, he1, g1, g8⟩
              · omega
              · omega
              have tv : tkV V c = (e1, zl 0) := by
                unfold tkV
                rw [if_pos (by omega), he1, zl_toInt (by omega) (by omega)]
                congr 1
              rw [tv, List.cons_append, gaR_e _ _ _ (x := (e1, zl 0)) (show e1 ≠ 0 by omega)] at er
              rw [he1, zl_i]
              refine ⟨fun z2 => ?_, fun z2 => ?_⟩
              · rw [if_pos (by omega)] at er
                exact ih (c + 1) e1 A2 x17 v20 v21 (by omega) (by omega) g8 (by omega) er
              · rw [if_neg (by omega)] at er
                exact ih (c + 1) e2 A2 x17 v20 v21 (by omega) (by omega) he2 (by omega) er
            · have tv : tkV V c = (0, (V c).2) := by
                unfold tkV
                rw [if_neg (by omega)]
              rw [tv, List.cons_append, gaR_n] at er
              refine e_gstep hτ (by omega) (by omega) ?_
              rw [zn_a c 1 1 rfl]
              exact ih (c + 1) e2 (acS A2 (V c).2) x17 _ _ (by omega) (by omega) he2 (show A2.1 + 1 ≤ _ by omega) er
        have l0 := cells _ fi e A (L3 1315 46) v8 v9 rfl (by omega) he (by omega) (by rw [celF_lo (by omega) fi (Nat.le_refl _)])
        rw [t1, t2, t4]
        refine ⟨fun z => ⟨fun _ => ?_, fun z => absurd rfl z⟩, fun z => ⟨fun _ => l0, fun z => absurd rfl z⟩⟩
        rw [zi_eq (by omega) (by omega) (by omega) (by omega)] at z
        have z : e = 0 := by omega
        subst z
        exact l0
    · have hB := ar_nB haa
      have hlv : 1 ≤ lv a := by rcases hw.2.2.2 with q | q; exact absurd q haa; exact q
      have hag : agE S.2 V a (ev1 S.2 V a) = [ev1 S.2 V a] := by unfold agE; rw [if_neg (by rw [hB]; simp)]
      rw [hag] at pas
      refine ⟨fun _ => iE a pre s d I L _ hw.1 hlv han hx hs1 hs2 (by omega) hp fun I3 L3 f3 t3 => ?_, fun z => absurd hB z⟩
      obtain ⟨t1, t2, t4, t5⟩ := t3
      rintro I13 rfl I14 rfl I15 rfl
      rw [hB]
      generalize hx1 : ev1 S.2 V a = x at *
      have e8 := t5.1
      have fr : twf EVW I3 L3 (cm_u2 (cm_u2 (cm_u2 I3 1315 47 (I3 1315 45)) 1315 48 (zi 0)) 1315 49 (zi 0)) L3 := ((twf.rf.pI (by unfold EVW; omega) _).pI (by unfold EVW; omega) _).pI (by unfold EVW; omega) _
      have g44 : (cm_u2 (cm_u2 (cm_u2 I3 1315 47 (I3 1315 45)) 1315 48 (zi 0)) 1315 49 (zi 0)) 1315 44 = zi ((pre.length + (tk a).length : Nat) : Int) := by rw [u2_nj _ _ _ _ _ (by omega), u2_nj _ _ _ _ _ (by omega), u2_nj _ _ _ _ _ (by omega)]; exact t1
      have g47 : (cm_u2 (cm_u2 (cm_u2 I3 1315 47 (I3 1315 45)) 1315 48 (zi 0)) 1315 49 (zi 0)) 1315 47 = zi x.1 := by rw [u2_nj _ _ _ _ _ (by omega), u2_nj _ _ _ _ _ (by omega), u2_same]; exact t2
      have g48 : (cm_u2 (cm_u2 (cm_u2 I3 1315 47 (I3 1315 45)) 1315 48 (zi 0)) 1315 49 (zi 0)) 1315 48 = zi 0 := by rw [u2_nj _ _ _ _ _ (by omega), u2_same]
      have g49 : (cm_u2 (cm_u2 (cm_u2 I3 1315 47 (I3 1315 45)) 1315 48 (zi 0)) 1315 49 (zi 0)) 1315 49 = zi 0 := by rw [u2_same]
      generalize cm_u2 (cm_u2 (cm_u2 I3 1315 47 (I3 1315 45)) 1315 48 (zi 0)) 1315 49 (zi 0) = I15 at *
      have f15 := f3.tr fr
      refine k221_64 hτ (by omega) ?_
      rw [g47, g48, g49, t4, zi_eq (by omega) (by omega) (by omega) (by omega), zi_eq (by omega) (by omega) (by omega) (by omega)]
      by_cases x0 : x.1 = 0
      · have ex : x = (0, x.2) := by rw [← x0]
        have er := gaR_n f e A x.2 (agsE S.2 V (ags r) (evT S.2 V r))
        rw [← ex] at er
        have go : ∀ (v8 v9 : Value), wp_r d 221 (113, gaL f e A (zi 1) [.int (bz false), .int (zi 0), .int (zi 0), .int (zi 1), .long x.2, .retAddr 0, .int (zi 0), v8, v9], [], tw τ I15 L3) (tv τ Q) := by
          intro v8 v9
          refine k221_113 hτ (by omega) ⟨fun z => absurd z (by decide), fun _ => ⟨fun z => absurd z (by decide), fun _ => ⟨fun _ => k221_155 hτ (by omega) ⟨fun _ => e_gstep hτ (by omega) (by omega) ?_, fun z => absurd rfl z⟩, fun z => absurd rfl z⟩⟩⟩
          refine k221_113 hτ (by omega) ⟨fun _ => pas e (acS A x.2) I15 L3 _ _ _ _ _ _ _ _ _ he (show A.1 + 1 ≤ _ by omega) er f15 g44, fun z => absurd (by decide) z⟩
        refine ⟨fun z => ⟨fun _ => ?_, fun z => absurd (by omega) z⟩, fun z => ⟨fun _ => go _ _, fun z => absurd (by omega) z⟩⟩
        have z : e = 0 := by omega
        subst z
        rw [x0]
        exact go _ _
      · have er := gaR_e f e A (x := x) x0 (agsE S.2 V (ags r) (evT S.2 V r))
        refine ⟨fun z => ⟨fun z => absurd z (by omega), fun _ => ?_⟩, fun z => ⟨fun z => absurd z (by omega), fun _ => ?_⟩⟩
        · rw [if_pos (by omega)] at er
          exact k221_113 hτ (by omega) ⟨fun z => absurd z (by decide), fun _ => ⟨fun _ => pas x.1 A I15 L3 _ _ _ _ _ _ _ _ _ e8 (by omega) er f15 g44, fun z => absurd rfl z⟩⟩
        · rw [if_neg (by omega)] at er
          exact k221_113 hτ (by omega) ⟨fun z => absurd z (by decide), fun _ => ⟨fun _ => pas e A I15 L3 _ _ _ _ _ _ _ _ _ he (by omega) er f15 g44, fun z => absurd rfl z⟩⟩
  | result => intro _ _ hne; exact absurd rfl hne
  | _ => intro _ hl; exact absurd hl (by simp [isL])
end
