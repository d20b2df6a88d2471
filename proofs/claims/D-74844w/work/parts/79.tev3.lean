/-! THE TWIN: formulas are reckoned -/
theorem mtL_step (V : Nat → Vl) (w : Int64) (f l c k : Nat) (hc : c < 240) : mtL V w (celF f l (240 - c)) k = if inb c f l then (if (V c).1 = 1 ∧ (V c).2 = w then (0, zl ((k + 1 : Nat) : Int)) else mtL V w (celF f l (240 - (c + 1))) (k + 1)) else mtL V w (celF f l (240 - (c + 1))) k := by
  rw [celF_step hc]
  by_cases z : inb c f l = true
  · rw [if_pos z, if_pos z, mtL]
  · rw [if_neg z, if_neg z]
theorem ixL_step (V : Nat → Vl) (w : Int64) (f l c k : Nat) (hc : c < 240) : ixL V w (celF f l (240 - c)) k = if inb c f l then (if zl ((k + 1 : Nat) : Int) = w then tkV V c else ixL V w (celF f l (240 - (c + 1))) (k + 1)) else ixL V w (celF f l (240 - (c + 1))) k := by
  rw [celF_step hc]
  by_cases z : inb c f l = true
  · rw [if_pos z, if_pos z, ixL]
  · rw [if_neg z, if_neg z]
section
variable {τ : tw_K} {I : tw_I} {L : tw_L} {d : Nat} {B : List Nat} {S : Sh} {H : List Sh} {V O : Nat → Vl} {M W : Nat → Bool} {au : Bool} {ev : Nat}
variable {c p : Nat} {ts : List (Nat × Nat)}
theorem tev.up {I2 : tw_I} {x : Er} (h : tev I L p x) (e : I2 = cm_u2 I 1315 44 (I 1315 44 + zi 1)) : tev I2 L (p + 1) x ∧ twf EVW I L I2 L := by
  subst e
  obtain ⟨h1, h2, h3, h4⟩ := h
  rw [h1, zn_a p 1 1 rfl]
  exact ⟨⟨by rw [u2_same], by rw [u2_nj _ _ _ _ _ (by omega)]; exact h2, h3, h4⟩, twf.rf.pI (by unfold EVW; omega) _⟩
theorem e_mt (hτ : tw_ok τ) (hx : cx τ I L B S H V O M W au ev c ts) (hp : I 1315 44 = zi p) {f l : Nat} (h48 : I 1315 48 = zi f) (h49 : I 1315 49 = zi l) (hf : f < 240) (hl : l < 240) (w : Int64) {x1 : Int32} {Q : tw_I → tw_L → Prop} (hd : 4 ≤ d) (h : ∀ I2 L2, twf EVW I L I2 L2 → tev I2 L2 p (mtL V w (celF f l 240) 0) → Q I2 L2) : wp_r d 263 (62, [.ref 1315, .int x1, .long w, .retAddr 0, .int (zi 0), .int (zi 0)], [], tw τ I L) (tv τ Q) := by
  have loop : ∀ n c k, 240 - c = n → c ≤ 240 → k ≤ c → mtL V w (celF f l 240) 0 = mtL V w (celF f l (240 - c)) k → wp_r d 263 (62, [.ref 1315, .int x1, .long w, .retAddr 0, .int (zi k), .int (zi c)], [], tw τ I L) (tv τ Q) := by
    intro n
    induction n with
    | zero =>
      intro c k hn hc hk e
      have : c = 240 := by omega
      subst this
      refine k263_62 hτ (by omega) ⟨fun z => absurd z (by decide), fun _ => e_errs (e := 7) hτ hp (by omega) rfl (by omega) fun I2 L2 f2 t2 => h I2 L2 f2 ?_⟩
      rw [e]
      exact t2
    | succ n ih =>
      intro c k hn hc hk e
      have hc2 : c < 240 := by omega
      obtain ⟨w1, w2, w3⟩ := hx.tvl hc2
      rw [mtL_step V w f l c k hc2] at e
      refine k263_62 hτ (by omega) ?_
      rw [zi_lt (by omega) (by omega) (by omega) (by omega), h48, h49, zn_a c 1 1 rfl, zn_a k 1 1 rfl]
      refine ⟨fun _ => t_isIn hτ (by omega) (by omega) (by omega) (by omega) ?_, fun z => absurd (by omega) z⟩
      rw [bz_0]
      refine ⟨fun z => ?_, fun z => ⟨zn_in hc2 (by decide), ?_⟩⟩
      · rw [z] at e
        exact ih (c + 1) k (by omega) (by omega) (by omega) e
      have z : inb c f l = true := by
        cases w : inb c f l with
        | true => rfl
        | false => exact absurd w z
      rw [if_pos z] at e
      rw [zn_ix (by omega), w1, w2, zi_eq (by omega) (by omega) (by omega) (by omega), zi_l (by omega) (by omega)]
      refine ⟨fun y => ⟨fun y2 => ?_, fun y2 => ?_⟩, fun y => ?_⟩
      · rw [if_pos ⟨by omega, y2⟩] at e
        rw [e] at h
        exact e_is hτ hp _ (by omega) h
      · rw [if_neg (fun q => y2 q.2)] at e
        exact ih (c + 1) (k + 1) (by omega) (by omega) (by omega) e
      · rw [if_neg (fun q => y (by omega))] at e
        exact ih (c + 1) (k + 1) (by omega) (by omega) (by omega) e
  exact loop _ 0 0 rfl (by omega) (by omega) rfl
theorem e_ix (hτ : tw_ok τ) (hx : cx τ I L B S H V O M W au ev c ts) (hp : I 1315 44 = zi p) {f l : Nat} (hf : f < 240) (hl : l < 240) (w : Int64) {x1 : Int32} {Q : tw_I → tw_L → Prop} (hd : 4 ≤ d) (h : ∀ I2 L2, twf EVW I L I2 L2 → tev I2 L2 p (ixL V w (celF f l 240) 0) → Q I2 L2) : wp_r d 226 (63, [.ref 1315, .int x1, .int (zi f), .int (zi l), .long w, .retAddr 0, .long (zl 0), .retAddr 0, .int (zi 0)], [], tw τ I L) (tv τ Q) := by
  have loop : ∀ n c k, 240 - c = n → c ≤ 240 → k ≤ c → ixL V w (celF f l 240) 0 = ixL V w (celF f l (240 - c)) k → wp_r d 226 (63, [.ref 1315, .int x1, .int (zi f), .int (zi l), .long w, .retAddr 0, .long (zl k), .retAddr 0, .int (zi c)], [], tw τ I L) (tv τ Q) := by
    intro n
    induction n with
    | zero =>
      intro c k hn hc hk e
      have : c = 240 := by omega
      subst this
      refine k226_63 hτ (by omega) ⟨fun z => absurd z (by decide), fun _ => e_errs (e := 4) hτ hp (by omega) rfl (by omega) fun I2 L2 f2 t2 => h I2 L2 f2 ?_⟩
      rw [e]
      exact t2
    | succ n ih =>
      intro c k hn hc hk e
      have hc2 : c < 240 := by omega
      rw [ixL_step V w f l c k hc2] at e
      refine k226_63 hτ (by omega) ?_
      rw [zi_lt (by omega) (by omega) (by omega) (by omega), zn_a c 1 1 rfl, zl_add, show (k : Int) + 1 = ((k + 1 : Nat) : Int) by omega]
      refine ⟨fun _ => t_isIn hτ (by omega) (by omega) (by omega) (by omega) ?_, fun z => absurd (by omega) z⟩
      rw [bz_0]
      refine ⟨fun z => ?_, fun z => ⟨fun y => ?_, fun y => ?_⟩⟩
      · rw [z] at e
        exact ih (c + 1) k (by omega) (by omega) (by omega) e
      · have z : inb c f l = true := by
          cases w : inb c f l with
          | true => rfl
          | false => exact absurd w z
        rw [if_pos z, if_pos y] at e
        rw [e] at h
        exact e_takesValue hτ hx.1 hp hc2 (by omega) h
      · have z : inb c f l = true := by
          cases w : inb c f l with
          | true => rfl
          | false => exact absurd w z
        rw [if_pos z, if_neg y] at e
        exact ih (c + 1) (k + 1) (by omega) (by omega) (by omega) e
  exact loop _ 0 0 rfl (by omega) (by omega) rfl
theorem e_calls (hτ : tw_ok τ) {n : Nat} (iE : evS τ (fun I L => cx τ I L B S H V O M W au ev c ts) S.2 V ts 216 1 26 stE n) {pre suf : List (Nat × Nat)} {f : Nat} {as : Fm} (hw : wf as) (hl : isL as) (hs : shp f (ags as)) (hn : (tk as).length ≤ n) (hx : cx τ I L B S H V O M W au ev c ts) (hts : ts = pre ++ (tk as ++ (6, 41) :: suf)) (hp : I 1315 44 = zi pre.length) (hd : 8 * n + 29 ≤ d) {Q : tw_I → tw_L → Prop}
    (h : ∀ I2 L2, twf EVW I L I2 L2 → tev I2 L2 (pre.length + (tk as).length) (clE S.2 V f (ags as) (evT S.2 V as)) → Q I2 L2) : wp_c d 185 [.ref 1315, .int (zi f)] (tw τ I L) (tv τ Q) := by
  have hv := evT_L S.2 V as hw hl
  have f9 := shp_lt hs
  have hlen := hx.ts80
  by_cases hf4 : f < 4
  · refine k185 hτ (by omega) ⟨fun _ => k221 hτ (by omega) ?_, fun z => absurd (by rw [zi_toInt (by omega) (by omega)]; omega) z⟩
    have hs4 : 1 ≤ (ags as).length ∧ (ags as).length ≤ 8 := by
      have q : f = 0 ∨ f = 1 ∨ f = 2 ∨ f = 3 := by omega
      rcases q with rfl | rfl | rfl | rfl <;> exact ⟨hs.2.1, hs.2.2.1⟩
    refine e_gathers hτ iE hf4 (by omega) I L as hw hl (fun z => by rw [z] at hs4; simp at hs4) hn pre 0 ac0 I L _ _ _ _ _ _ _ _ _ hx hts hp (by omega) (by show 0 + _ ≤ _; omega) twf.rf (fun I2 L2 f2 t2 => h I2 L2 f2 ?_)
    have q : f = 0 ∨ f = 1 ∨ f = 2 ∨ f = 3 := by omega
    rcases q with rfl | rfl | rfl | rfl <;> exact t2
  have out : ¬ ((zi (f : Nat)).toInt < 4 ∨ 8 < (zi (f : Nat)).toInt) := by rw [zi_toInt (by omega) (by omega)]; omega
  have q : f = 4 ∨ f = 5 ∨ f = 6 ∨ f = 7 ∨ f = 8 := by omega
  rcases q with rfl | rfl | rfl | rfl | rfl
  · refine k185 hτ (by omega) ⟨fun z => absurd z out, fun _ => ⟨fun _ => k200 hτ (by omega) ?_, fun z => absurd rfl z⟩⟩
    have hs : 1 ≤ (ags as).length ∧ (ags as).length ≤ 8 ∧ ∀ a ∈ ags as, ar a := hs
    refine e_counts hτ (by omega) I L as hw hl (fun z => by rw [z] at hs; simp at hs) hs.2.2 pre 0 0 I L _ hx hts hp (by omega) (by omega) twf.rf (fun I2 L2 f2 t2 => h I2 L2 f2 ?_)
    unfold cnR at t2
    rw [if_pos rfl, Nat.zero_add] at t2
    exact t2
  · have hs : (ags as).length = 3 ∧ ∀ a ∈ ags as, 1 ≤ lv a := hs
    match hA : ags as, hs with
    | [a1, a2, a3], hs =>
      have hl1 : 1 ≤ lv a1 := hs.2 a1 (List.mem_cons_self ..)
      have hl2 : 1 ≤ lv a2 := hs.2 a2 (List.mem_cons_of_mem _ (List.mem_cons_self ..))
      have hl3 : 1 ≤ lv a3 := hs.2 a3 (List.mem_cons_of_mem _ (List.mem_cons_of_mem _ (List.mem_cons_self ..)))
      obtain ⟨r1, rfl, l1, g1⟩ := ags_c hl hA
      obtain ⟨r2, rfl, l2, g2⟩ := ags_c l1 g1
      obtain ⟨r3, rfl, l3, g3⟩ := ags_c l2 g2
      have := ags_n l3 g3
      subst this
      rw [hv, hA] at h
      have h : ∀ I2 L2, twf EVW I L I2 L2 → tev I2 L2 (pre.length + (tk (.div a1 (.div a2 (.div a3 .result)))).length) (if (ev1 S.2 V a1).1 ≠ 0 then ((ev1 S.2 V a1).1, zl 0) else if (ev1 S.2 V a1).2 = zl 0 then ev1 S.2 V a3 else ev1 S.2 V a2) → Q I2 L2 := h
      have e1 : tk (.div a1 (.div a2 (.div a3 .result))) = tk a1 ++ (6, 44) :: (tk a2 ++ (6, 44) :: tk a3) := by
        rw [tk_div a1 _ ⟨_, _, rfl⟩, tk_div a2 _ ⟨_, _, rfl⟩]
        rfl
      rw [e1] at h hn
      have w1 : wf a1 := hw.1
      have w2 : wf a2 := hw.2.1.1
      have w3 : wf a3 := hw.2.1.2.1.1
      simp only [List.length_append, List.length_cons] at h hn
      have ht1 : ts = pre ++ (tk a1 ++ (6, 44) :: (tk a2 ++ (6, 44) :: (tk a3 ++ (6, 41) :: suf))) := by rw [hts, e1]; simp
      have ht2 : ts = (pre ++ (tk a1 ++ [(6, 44)])) ++ (tk a2 ++ (6, 44) :: (tk a3 ++ (6, 41) :: suf)) := by rw [ht1]; simp
      have ht3 : ts = (pre ++ (tk a1 ++ (6, 44) :: (tk a2 ++ [(6, 44)]))) ++ (tk a3 ++ (6, 41) :: suf) := by rw [ht1]; simp
      have hl80 := hlen
      rw [ht1] at hl80
      simp only [List.length_append, List.length_cons] at hl80
      refine k185 hτ (by omega) ⟨fun z => absurd z out, fun _ => ⟨fun z => absurd z (by decide), fun _ => ⟨fun _ => k189 hτ (by omega) (iE a1 pre _ (d - 1 - 1) I L _ w1 hl1 (by omega) hx ht1 (.inr (.inr rfl)) (by omega) hp fun I1 L1 f1 t1 => ?_), fun z => absurd rfl z⟩⟩⟩
      have k1 := t1.2.2.2.1
      rw [t1.2.2.1, t1.2.1]
      have go : ∀ (s0 : Int32), ((s0 = zi 0) ↔ (ev1 S.2 V a1).2 = zl 0) → wp_r (d - 1 - 1) 189 (23, [.ref 1315, .int (zi (ev1 S.2 V a1).1), .null, .null, .null, .null], [.int s0], tw τ I1 L1) (tv τ Q) := by
        intro s0 hs0
        refine k189_23 hτ (by omega) ?_
        intro I2 e2
        obtain ⟨u2, f2⟩ := t1.up e2
        refine iE a2 _ _ (d - 1 - 1) I2 L1 _ w2 hl2 (by omega) (hx.kept hτ (f1.tr f2)) ht2 (.inr (.inr rfl)) (by omega) (by rw [u2.1]; congr 1; simp only [List.length_append, List.length_cons, List.length_nil]; omega) fun I3 L3 f3 t3 => ?_
        intro I4 e4
        obtain ⟨u4, f4⟩ := t3.up e4
        refine iE a3 _ _ (d - 1 - 1) I4 L3 _ w3 hl3 (by omega) (hx.kept hτ (((f1.tr f2).tr f3).tr f4)) ht3 (.inr (.inl rfl)) (by omega) (by rw [u4.1]; congr 1; simp only [List.length_append, List.length_cons, List.length_nil]; omega) fun I5 L5 f5 t5 => ?_
        have fa := ((((f1.tr f2).tr f3).tr f4).tr f5)
        simp only [List.length_append, List.length_cons, List.length_nil] at t5
        have hpos : pre.length + ((tk a1).length + ((tk a2).length + (0 + 1) + 1)) + (tk a3).length = pre.length + ((tk a1).length + ((tk a2).length + ((tk a3).length + 1) + 1)) := by omega
        rw [hpos] at t5
        rw [zi_eq (by omega) (by omega) (by omega) (by omega)]
        refine ⟨fun z => ⟨fun y => ?_, fun y => ?_⟩, fun z => ?_⟩
        · rw [if_neg (by simp; omega), if_pos (hs0.mp y)] at h
          exact h I5 L5 fa t5
        · rw [if_neg (by simp; omega), if_neg (fun q => y (hs0.mpr q))] at h
          rintro I6 rfl L6 rfl
          refine h _ _ ((fa.pI (by unfold EVW; omega) _).pL (by unfold EVW; omega) _) ⟨by rw [u2_nj _ _ _ _ _ (by omega)]; exact t5.1, by rw [u2_same]; exact t3.2.1, by rw [u2_same]; exact t3.2.2.1, t3.2.2.2⟩
        · rw [if_pos (by omega)] at h
          exact e_errs hτ t5.1 k1 rfl (by omega) fun I6 L6 f6 t6 => h I6 L6 (fa.tr f6) t6
      exact ⟨fun z => go _ ⟨fun _ => z, fun _ => rfl⟩, fun z => go _ ⟨fun q => absurd q (by decide), fun q => absurd q z⟩⟩
  · have hs : (ags as).length = 1 ∧ ∀ a ∈ ags as, 1 ≤ lv a := hs
    match hA : ags as, hs with
    | [a1], hs =>
      obtain ⟨r1, rfl, l1, g1⟩ := ags_c hl hA
      have := ags_n l1 g1
      subst this
      rw [hv, hA] at h
      have h : ∀ I2 L2, twf EVW I L I2 L2 → tev I2 L2 (pre.length + (tk a1).length) (if (ev1 S.2 V a1).1 ≠ 0 then ev1 S.2 V a1 else if (ev1 S.2 V a1).2 < zl 0 then subE (zl 0) (ev1 S.2 V a1).2 else ev1 S.2 V a1) → Q I2 L2 := h
      have hts : ts = pre ++ (tk a1 ++ (6, 41) :: suf) := hts
      refine k185 hτ (by omega) ⟨fun z => absurd z out, fun _ => ⟨fun z => absurd z (by decide), fun _ => ⟨fun z => absurd z (by decide), fun _ => ⟨fun _ => iE a1 pre _ (d - 1) I L _ hw.1 (hs.2 a1 (List.mem_cons_self ..)) hn hx hts (.inr (.inl rfl)) (by omega) hp fun I1 L1 f1 t1 => ?_, fun z => absurd rfl z⟩⟩⟩⟩
      have k1 := t1.2.2.2.1
      rw [t1.2.2.1, t1.2.1, zi_eq (by omega) (by omega) (by omega) (by omega)]
      refine ⟨fun z => ⟨fun y => ?_, fun y => ?_⟩, fun z => ?_⟩
      · rw [if_neg (by simp; omega), if_pos y] at h
        exact e_sub hτ t1.1 _ _ (by omega) fun I6 L6 f6 t6 => h I6 L6 (f1.tr f6) t6
      · rw [if_neg (by simp; omega), if_neg y] at h
        exact h I1 L1 f1 t1
      · rw [if_pos (by omega)] at h
        exact h I1 L1 f1 t1
  · have hs : ∃ a b, ags as = [a, b] ∧ 1 ≤ lv a ∧ ar b := hs
    obtain ⟨a1, a2, hA, hl1, ha2⟩ := hs
    obtain ⟨r1, rfl, l1, g1⟩ := ags_c hl hA
    obtain ⟨r2, rfl, l2, g2⟩ := ags_c l1 g1
    have := ags_n l2 g2
    subst this
    rw [hv, hA] at h
    have h : ∀ I2 L2, twf EVW I L I2 L2 → tev I2 L2 (pre.length + (tk (.div a1 (.div a2 .result))).length) (if (ev1 S.2 V a1).1 ≠ 0 then ((ev1 S.2 V a1).1, zl 0) else (match arV S.2 a2 with
      | .inl e => (e, zl 0)
      | .inr (f, l) => mtL V (ev1 S.2 V a1).2 (celF f l 240) 0)) → Q I2 L2 := h
    have e1 : tk (.div a1 (.div a2 .result)) = tk a1 ++ (6, 44) :: tk a2 := tk_div a1 _ ⟨_, _, rfl⟩
    rw [e1] at h hn
    simp only [List.length_append, List.length_cons] at h hn
    have ht1 : ts = pre ++ (tk a1 ++ (6, 44) :: (tk a2 ++ (6, 41) :: suf)) := by rw [hts, e1]; simp
    have ht2 : ts = (pre ++ (tk a1 ++ [(6, 44)])) ++ (tk a2 ++ (6, 41) :: suf) := by rw [ht1]; simp
    refine k185 hτ (by omega) ⟨fun z => absurd z out, fun _ => ⟨fun z => absurd z (by decide), fun _ => ⟨fun z => absurd z (by decide), fun _ => ⟨fun z => absurd z (by decide), fun _ => ⟨fun _ => k263 hτ (by omega) (iE a1 pre _ (d - 1 - 1) I L _ hw.1 hl1 (by omega) hx ht1 (.inr (.inr rfl)) (by omega) hp fun I1 L1 f1 t1 => ?_), fun z => absurd rfl z⟩⟩⟩⟩⟩
    intro I2 e2
    obtain ⟨u2, f2⟩ := t1.up e2
    have k1 := t1.2.2.2.1
    refine e_area hτ (hx.kept hτ (f1.tr f2)) ha2 hw.2.1.1 ht2 (by simp) (by rw [u2.1]; congr 1; simp only [List.length_append, List.length_cons, List.length_nil]; omega) (by omega) fun I3 L3 f3 e3 t3 => ?_
    have fa := ((f1.tr f2).tr (f3.wi ARW_EVW))
    have hx3 := hx.kept hτ fa
    simp only [List.length_append, List.length_cons, List.length_nil] at e3
    have hpos : pre.length + ((tk a1).length + (0 + 1)) + (tk a2).length = pre.length + ((tk a1).length + ((tk a2).length + 1)) := by omega
    rw [hpos] at e3
    rw [t1.2.1, t1.2.2.1, zi_eq (by omega) (by omega) (by omega) (by omega)]
    refine ⟨fun z => ?_, fun z => ?_⟩
    · rw [if_neg (by simp; omega)] at h
      match ea : arV S.2 a2, t3, h with
      | .inl e, t3, h =>
        have t3 : I3 1315 47 = zi e ∧ 1 ≤ e ∧ e ≤ 8 := t3
        rw [t3.1, zi_eq (by omega) (by omega) (by omega) (by omega)]
        exact ⟨fun z => absurd z (by omega), fun _ => e_errs hτ e3 t3.2.2 rfl (by omega) fun I6 L6 f6 t6 => h I6 L6 (fa.tr f6) t6⟩
      | .inr (fi, la), t3, h =>
        obtain ⟨q1, q2, q3, q4, q5⟩ := t3
        rw [q1]
        exact ⟨fun _ => e_mt hτ hx3 e3 q2 q3 q4 q5 _ (by omega) fun I6 L6 f6 t6 => h I6 L6 (fa.tr f6) t6, fun z => absurd rfl z⟩
    · rw [if_pos (by omega)] at h
      exact e_errs hτ e3 k1 rfl (by omega) fun I6 L6 f6 t6 => h I6 L6 (fa.tr f6) t6
  · have hs : ∃ a b, ags as = [a, b] ∧ ar a ∧ 1 ≤ lv b := hs
    obtain ⟨a1, a2, hA, ha1, hl2⟩ := hs
    obtain ⟨r1, rfl, l1, g1⟩ := ags_c hl hA
    obtain ⟨r2, rfl, l2, g2⟩ := ags_c l1 g1
    have := ags_n l2 g2
    subst this
    rw [hv, hA] at h
    have h : ∀ I2 L2, twf EVW I L I2 L2 → tev I2 L2 (pre.length + (tk (.div a1 (.div a2 .result))).length) (match arV S.2 a1 with
      | .inl e => (e, zl 0)
      | .inr (f, l) => if (ev1 S.2 V a2).1 ≠ 0 then ev1 S.2 V a2 else ixL V (ev1 S.2 V a2).2 (celF f l 240) 0) → Q I2 L2 := h
    have e1 : tk (.div a1 (.div a2 .result)) = tk a1 ++ (6, 44) :: tk a2 := tk_div a1 _ ⟨_, _, rfl⟩
    rw [e1] at h hn
    simp only [List.length_append, List.length_cons] at h hn
    have ht1 : ts = pre ++ (tk a1 ++ (6, 44) :: (tk a2 ++ (6, 41) :: suf)) := by rw [hts, e1]; simp
    have ht2 : ts = (pre ++ (tk a1 ++ [(6, 44)])) ++ (tk a2 ++ (6, 41) :: suf) := by rw [ht1]; simp
    refine k185 hτ (by omega) ⟨fun z => absurd z out, fun _ => ⟨fun z => absurd z (by decide), fun _ => ⟨fun z => absurd z (by decide), fun _ => ⟨fun z => absurd z (by decide), fun _ => ⟨fun z => absurd z (by decide), fun _ => ⟨fun _ => k226 hτ (by omega) (e_area hτ hx ha1 hw.1 ht1 (by simp) hp (by omega) fun I1 L1 f1 e1' t1 => ?_), fun z => absurd rfl z⟩⟩⟩⟩⟩⟩
    rintro I2 rfl
    rw [e1', zn_a _ 1 1 rfl]
    have f1' := f1.wi ARW_EVW
    have f2 : twf EVW I1 L1 (cm_u2 I1 1315 44 (zi ((pre.length + (tk a1).length + 1 : Nat) : Int))) L1 := twf.rf.pI (by unfold EVW; omega) _
    refine iE a2 _ _ (d - 1 - 1) _ L1 _ hw.2.1.1 hl2 (by omega) (hx.kept hτ (f1'.tr f2)) ht2 (.inr (.inl rfl)) (by omega) (by rw [u2_same]; congr 1; simp only [List.length_append, List.length_cons, List.length_nil]; omega) fun I3 L3 f3 t3 => ?_
    have fa := ((f1'.tr f2).tr f3)
    have hx3 := hx.kept hτ fa
    simp only [List.length_append, List.length_cons, List.length_nil] at t3
    have hpos : pre.length + ((tk a1).length + (0 + 1)) + (tk a2).length = pre.length + ((tk a1).length + ((tk a2).length + 1)) := by omega
    rw [hpos] at t3
    have k1 := t3.2.2.2.1
    rw [t3.2.1, t3.2.2.1, zi_eq (by omega) (by omega) (by omega) (by omega)]
    match ea : arV S.2 a1, t1, h with
    | .inl e, t1, h =>
      have t1 : I1 1315 47 = zi e ∧ 1 ≤ e ∧ e ≤ 8 := t1
      rw [t1.1, zi_eq (by omega) (by omega) (by omega) (by omega)]
      exact ⟨fun z => absurd z (by omega), fun _ => e_errs hτ t3.1 t1.2.2 rfl (by omega) fun I6 L6 f6 t6 => h I6 L6 (fa.tr f6) t6⟩
    | .inr (fi, la), t1, h =>
      obtain ⟨q1, q2, q3, q4, q5⟩ := t1
      simp only at h
      rw [q1, q2, q3]
      refine ⟨fun _ => ⟨fun z => ?_, fun z => ?_⟩, fun z => absurd rfl z⟩
      · rw [if_neg (by simp; omega)] at h
        exact e_ix hτ hx3 t3.1 q4 q5 _ (by omega) fun I6 L6 f6 t6 => h I6 L6 (fa.tr f6) t6
      · rw [if_pos (by omega)] at h
        exact h I3 L3 fa t3
end
