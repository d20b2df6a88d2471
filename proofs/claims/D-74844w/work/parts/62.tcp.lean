/-! THE TWIN: copies -/
section
variable {pre r : List (Nat × Nat)} {q a b : Nat × Nat}
theorem at0 : (pre ++ q :: r)[pre.length]? = some q := by rw [List.getElem?_append_right (Nat.le_refl _), Nat.sub_self]; rfl
theorem at1 : (pre ++ q :: r)[pre.length + 1]? = r.head? := by
  rw [List.getElem?_append_right (by omega), show pre.length + 1 - pre.length = 1 by omega, List.getElem?_cons_succ, List.head?_eq_getElem?]
theorem at2 : (pre ++ q :: a :: b :: r)[pre.length + 2]? = some b := by
  rw [List.getElem?_append_right (by omega), show pre.length + 2 - pre.length = 2 by omega]; rfl
theorem set_tk {l : List (Nat × Nat)} {w : Nat} (h : w < l.length) (p : Nat × Nat) : (l.set w p).take (w + 1) = l.take w ++ [p] := by
  rw [List.take_succ, List.getElem?_set_self h]
  congr 1
  exact List.take_set_of_le (Nat.le_refl w)
theorem set_pre {w : Nat} (h : w ≤ pre.length) (p : Nat × Nat) : ∃ pre2, (pre ++ q :: r).set w p = pre2 ++ r ∧ pre2.length = pre.length + 1 ∧ pre2.take (w + 1) = pre.take w ++ [p] := by
  refine ⟨(pre ++ [q]).set w p, ?_, ?_, ?_⟩
  · rw [show pre ++ q :: r = (pre ++ [q]) ++ r by simp, List.set_append_left _ _ (by rw [List.length_append, List.length_singleton]; omega)]
  · rw [List.length_set, List.length_append, List.length_singleton]
  · rw [set_tk (by rw [List.length_append, List.length_singleton]; omega), List.take_append_of_le_length h]
end
def TX (x a i : Nat) : Prop := (a = 1315 ∧ i = 29) ∨ (a = 1318 ∧ i = x) ∨ (a = 1319 ∧ 80 * x ≤ i ∧ i < 80 * x + 80)
section
variable {τ : tw_K} {I : tw_I} {L : tw_L} {d : Nat}
/-- one token is written, one (or more) read -/
theorem t_wt (hτ : tw_ok τ) {x w : Nat} (hx : x < 2400) {pre r : List (Nat × Nat)} {q p : Nat × Nat} (ht : ttk I L x (pre ++ q :: r)) (hw : w ≤ pre.length) (hI : I 1315 29 = zi w) (hp : tkO p) {v : Int64} (hv : v = tok p.1 p.2) {Q : tw_I → tw_L → Prop} (hd : 1 ≤ d)
    (h : ∀ I2 L2 pre2, twf (TX x) I L I2 L2 → ttk I2 L2 x (pre2 ++ r) → pre2.length = pre.length + 1 → pre2.take (w + 1) = pre.take w ++ [p] → I2 1315 29 = zi ((w + 1 : Nat) : Int) → Q I2 L2) : wp_c d 334 [.ref 1315, .int (zi x), .long v] (tw τ I L) (tv τ Q) := by
  have hl := ht.2.1
  rw [List.length_append, List.length_cons] at hl
  refine t_writes hτ hx ht (by rw [List.length_append, List.length_cons]; omega) hI hp hv hd fun I2 L2 f g e => ?_
  obtain ⟨pre2, e1, e2, e3⟩ := set_pre (q := q) (r := r) hw p
  rw [e1] at g
  exact h I2 L2 pre2 (f.wi (fun a i z => by unfold TX; omega)) g e2 e3 e
/-- tokens are passed by -/
theorem tk_pass {x w : Nat} {pre r : List (Nat × Nat)} {q : Nat × Nat} (ht : ttk I L x (pre ++ q :: r)) (hw : w ≤ pre.length) : ttk I L x ((pre ++ [q]) ++ r) ∧ (pre ++ [q]).length = pre.length + 1 ∧ (pre ++ [q]).take w = pre.take w ∧ w ≤ (pre ++ [q]).length := by
  refine ⟨by rwa [List.append_assoc, List.cons_append, List.nil_append], by rw [List.length_append, List.length_singleton], List.take_append_of_le_length hw, by rw [List.length_append, List.length_singleton]; omega⟩
theorem ttk_take {x w : Nat} {cur : List (Nat × Nat)} (ht : ttk I L x cur) (hw : w ≤ cur.length) : ttk (cm_u2 I 1318 x (zi w)) L x (cur.take w) := by
  refine ⟨by rw [u2_same, List.length_take, Nat.min_eq_left hw], by rw [List.length_take]; have := ht.2.1; omega, fun i p hp => ?_⟩
  have hi := (List.getElem?_eq_some_iff.mp hp).1
  rw [List.length_take] at hi
  rw [List.getElem?_take, if_pos (by omega)] at hp
  exact ht.2.2 i p hp
theorem mvR_tok {dc dr : Int} {v : Nat} (hv : v < 960) : (mvR dc dr v = none ∧ mvT dc dr v = zl 0) ∨ (∃ w, w < 960 ∧ mvR dc dr v = some w ∧ mvT dc dr v = tok 2 w ∧ tok 2 w ≠ zl 0) := by
  unfold mvT
  cases h : mvR dc dr v with
  | none => exact .inl ⟨rfl, rfl⟩
  | some w => have := mvR_lt hv h; exact .inr ⟨w, this, rfl, rfl, tok_0 (by omega) (by omega) (by omega)⟩
theorem t_copies_loop (hτ : tw_ok τ) {x : Nat} (hx : x < 2400) {dc dr : Int} (hc : -11 ≤ dc ∧ dc ≤ 11) (hr : -19 ≤ dr ∧ dr ≤ 19) {R : List (Nat × Nat)} (x1 : Int32) {Q : tw_I → tw_L → Prop} (hd : 3 ≤ d) (I0 : tw_I) (L0 : tw_L)
    (h : ∀ I2 L2, twf (TX x) I0 L0 I2 L2 → ttk I2 L2 x R → wp_c d 180 [.ref 1315, .int (zi x)] (tw τ I2 L2) (tv τ Q)) :
    ∀ (n : Nat) (pre sf : List (Nat × Nat)) (w : Nat) (I : tw_I) (L : tw_L) (x6 x7 x8 x9 x10 x11 x12 : Value), sf.length ≤ n → ttk I L x (pre ++ sf) → w ≤ pre.length → okl sf → pre.take w ++ tmap (frC dc dr) (fgC dc dr) fnI sf = R → I 1315 29 = zi w → twf (TX x) I0 L0 I L →
      wp_r d 196 (35, [.ref 1315, .int x1, .int (zi x), .int (zi dc), .int (zi dr), .int (zi pre.length), x6, x7, x8, x9, x10, x11, x12], [], tw τ I L) (tv τ Q) := by
  intro n
  induction n with
  | zero =>
    intro pre sf w I L x6 x7 x8 x9 x10 x11 x12 hn ht hw ho hR hI f
    have hs : sf = [] := List.length_eq_zero_iff.mp (by omega)
    subst hs
    rw [List.append_nil] at ht
    have hR : pre.take w = R := by rw [← hR]; show _ = _ ++ []; rw [List.append_nil]
    have hl := ht.2.1
    refine k196_35 hτ (by omega) ⟨zn_in hx (by omega), ?_⟩
    rw [zn_ix (by omega), ht.1, zi_lt (by omega) (by omega) (by omega) (by omega)]
    refine ⟨fun z => absurd z (by omega), fun _ => ?_⟩
    rintro I4 rfl
    rw [hI]
    have := ttk_take ht hw
    rw [hR] at this
    exact h _ _ (f.pI (by unfold TX; omega) _) this
  | succ n ih =>
    intro pre sf w I L x6 x7 x8 x9 x10 x11 x12 hn ht hw ho hR hI f
    by_cases hs : sf = []
    · subst hs
      exact ih pre [] w I L x6 x7 x8 x9 x10 x11 x12 (by simp) ht hw ho hR hI f
    have hl := ht.2.1
    rw [List.length_append] at hl
    have hpos : 0 < sf.length := List.length_pos_iff.mpr hs
    refine k196_35 hτ (by omega) ⟨zn_in hx (by omega), ?_⟩
    rw [zn_ix (by omega), ht.1, List.length_append, zi_lt (by omega) (by omega) (by omega) (by omega)]
    refine ⟨fun _ => ?_, fun z => absurd (by omega) z⟩
    rcases okl_case ho hs with ⟨u, v, r, rfl, hu, hv, hor⟩ | ⟨q, r, rfl, hne, hq, h960, hor⟩
    · rw [tmap_r] at hR
      rw [List.length_cons, List.length_cons, List.length_cons] at hn
      refine t_at hτ hx (by omega) ht (by omega) ?_
      rw [tko_some at0]
      refine t_kindOf hτ (show 2 < 8 by omega) (show u < 281474976710656 by omega) (by omega) ⟨fun _ => ?_, fun z => absurd rfl z⟩
      refine t_moved hτ hu hc hr (by omega) ?_
      refine k196_77 hτ (by omega) (t_isRange hτ hx (by omega) ht at0 (by omega) ?_)
      rw [at1, bz_0, decide_eq_false_iff_not]
      refine ⟨fun z => absurd ⟨rfl, rfl⟩ z, fun _ => ?_⟩
      rw [zn_a pre.length 2 2 rfl]
      refine t_at hτ hx (by omega) ht (by omega) ?_
      rw [tko_some at2]
      refine t_moved hτ hv hc hr (by omega) ?_
      have lost : fgC dc dr u v = .null → ∀ (s8 s10 : Int64), wp_r d 196 (125, [.ref 1315, .int x1, .int (zi x), .int (zi dc), .int (zi dr), .int (zi pre.length), .long (tok 2 u), .retAddr 0, .long s8, .retAddr 0, .long s10, .retAddr 0, x12], [.int (zi 0)], tw τ I L) (tv τ Q) := by
        intro e s8 s10
        refine k196_125 hτ (by omega) ⟨fun _ => ?_, fun z => absurd rfl z⟩
        refine t_of (k := 3) (v := 0) hτ (by omega) (by omega) ?_
        refine t_wt hτ hx ht hw hI (p := (3, 0)) ⟨by decide, by decide, by decide⟩ rfl (by omega) fun I2 L2 pre2 f2 t2 l2 tk2 e2 => ?_
        obtain ⟨t3, l3, tk3, w3⟩ := tk_pass t2 (w := w + 1) (by omega)
        obtain ⟨t4, l4, tk4, w4⟩ := tk_pass t3 (w := w + 1) w3
        have go := ih (pre2 ++ [(6, 58)] ++ [(2, v)]) r (w + 1) I2 L2 (.long (tok 2 u)) (.retAddr 0) (.long s8) (.retAddr 0) (.long s10) (.retAddr 0) (.int (zi 0)) (by omega) t4 (by omega) hor (by
          rw [tk4, tk3, tk2, ← hR, e]
          simp [tk]) e2 (f.tr f2)
        rw [l4, l3, l2] at go
        rw [show zi (pre.length : Int) + zi 3 = zi ((pre.length + 1 + 1 + 1 : Nat) : Int) by rw [zi_add]; congr 1]
        exact go
      rcases mvR_tok (dc := dc) (dr := dr) hu with ⟨m1, e1⟩ | ⟨wu, hwu, m1, e1, n1⟩
      · rw [e1]
        exact ⟨fun _ => lost (by unfold fgC; rw [m1]) _ _, fun z => absurd rfl z⟩
      rcases mvR_tok (dc := dc) (dr := dr) hv with ⟨m2, e2⟩ | ⟨wv, hwv, m2, e2, n2⟩
      · rw [e1, e2]
        exact ⟨fun z => absurd z n1, fun _ => ⟨fun _ => lost (by unfold fgC; rw [m1, m2]) _ _, fun z => absurd rfl z⟩⟩
      rw [e1, e2]
      refine ⟨fun z => absurd z n1, fun _ => ⟨fun z => absurd z n2, fun _ => ?_⟩⟩
      refine k196_125 hτ (by omega) ⟨fun z => absurd z (by decide), fun _ => ?_⟩
      refine t_wt hτ hx ht hw hI (p := (2, wu)) (tkO_mk (by omega) (by omega) (by omega)) rfl (by omega) fun I2 L2 pre2 f2 t2 l2 tk2 e2 => ?_
      refine t_of (k := 6) (v := 58) hτ (by omega) (by omega) ?_
      refine t_wt hτ hx t2 (by omega) e2 (p := (6, 58)) ⟨by decide, by decide, by decide⟩ rfl (by omega) fun I3 L3 pre3 f3 t3 l3 tk3 e3 => ?_
      refine t_wt hτ hx t3 (by omega) e3 (p := (2, wv)) (tkO_mk (by omega) (by omega) (by omega)) rfl (by omega) fun I4 L4 pre4 f4 t4 l4 tk4 e4 => ?_
      have go := ih pre4 r (w + 1 + 1 + 1) I4 L4 (.long (tok 2 u)) (.retAddr 0) (.long (tok 2 wu)) (.retAddr 0) (.long (tok 2 wv)) (.retAddr 0) (.int (zi 1)) (by omega) t4 (by omega) hor (by
        rw [tk4, tk3, tk2, ← hR, show fgC dc dr u v = .elem (.index wu) (.index wv) by unfold fgC; rw [m1, m2]]
        simp [tk]) e4 (((f.tr f2).tr f3).tr f4)
      rw [l4, l3, l2] at go
      rw [show zi (pre.length : Int) + zi 3 = zi ((pre.length + 1 + 1 + 1 : Nat) : Int) by rw [zi_add]; congr 1]
      exact go
    · rw [tmap_1 hne] at hR
      rw [List.length_cons] at hn
      refine t_at hτ hx (by omega) ht (by omega) ?_
      rw [tko_some at0]
      refine t_kindOf hτ hq.2.1 hq.2.2 (by omega) ?_
      have hk8 := hq.2.1
      rw [zi_eq (by omega) (by omega) (by omega) (by omega)]
      have go : ∀ (p : Nat × Nat) (y6 y8 : Int64), tkO p → tm1 (frC dc dr) fnI q = [p] → wp_c d 334 [.ref 1315, .int (zi x), .long (tok p.1 p.2)] (tw τ I L) (tv τ fun I4 L4 => wp_r d 196 (35, [.ref 1315, .int x1, .int (zi x), .int (zi dc), .int (zi dr), .int (zi pre.length + zi 1), .long y6, .retAddr 0, .long y8, .retAddr 0, x10, x11, x12], [], tw τ I4 L4) (tv τ Q)) := by
        intro p y6 y8 hp e
        refine t_wt hτ hx ht hw hI hp rfl (by omega) fun I2 L2 pre2 f2 t2 l2 tk2 e2 => ?_
        have go := ih pre2 r (w + 1) I2 L2 (.long y6) (.retAddr 0) (.long y8) (.retAddr 0) x10 x11 x12 (by omega) t2 (by omega) hor (by
          rw [tk2, ← hR, e]
          simp) e2 (f.tr f2)
        rw [l2] at go
        rw [zn_a pre.length 1 1 rfl]
        exact go
      have nr : ¬ (q.1 = 2 ∧ r.head? = some (6, 58)) := fun z => hne z.1 z.2
      refine ⟨fun k2 => ?_, fun k2 => ?_⟩
      · have k2 : q.1 = 2 := by omega
        obtain ⟨q1, q2⟩ := q
        simp only at k2
        subst k2
        refine t_moved hτ (h960 rfl) hc hr (by omega) ?_
        refine k196_77 hτ (by omega) (t_isRange hτ hx (by omega) ht at0 (by omega) ?_)
        rw [at1, bz_0, decide_eq_false_iff_not]
        refine ⟨fun _ => ?_, fun z => absurd nr z⟩
        rcases mvR_tok (dc := dc) (dr := dr) (h960 rfl) with ⟨m1, e1⟩ | ⟨wu, hwu, m1, e1, n1⟩
        · simp only at e1
          rw [e1]
          refine ⟨fun _ => t_of (k := 3) (v := 0) hτ (by omega) (by omega) (go (3, 0) _ _ ⟨by decide, by decide, by decide⟩ ?_), fun z => absurd rfl z⟩
          unfold tm1 frC
          simp only at m1
          rw [if_pos rfl, m1]
          rfl
        · simp only at e1
          rw [e1]
          refine ⟨fun z => absurd z n1, fun _ => go (2, wu) _ _ (tkO_mk (by omega) (by omega) (by omega)) ?_⟩
          unfold tm1 frC
          simp only at m1
          rw [if_pos rfl, m1]
          rfl
      · refine k196_77 hτ (by omega) (t_isRange hτ hx (by omega) ht at0 (by omega) ?_)
        rw [at1, bz_0, decide_eq_false_iff_not]
        refine ⟨fun _ => ⟨fun z => absurd z (tok_0 hq.2.1 hq.1 hq.2.2), fun _ => go q _ _ hq ?_⟩, fun z => absurd nr z⟩
        unfold tm1
        rw [if_neg (by omega)]
        by_cases k4 : q.1 = 4
        · rw [if_pos k4]
          obtain ⟨q1, q2⟩ := q
          simp only at k4
          subst k4
          rfl
        · rw [if_neg k4]
end
