/-! THE TWIN: rows that come and go, the whole sheet -/
theorem up_ind (N : Nat) {W P : Nat → tw_I → tw_L → Prop} (fin : ∀ I L, P N I L → W N I L) (step : ∀ c I L, c < N → P c I L → (∀ I2 L2, P (c + 1) I2 L2 → W (c + 1) I2 L2) → W c I L) : ∀ c I L, c ≤ N → P c I L → W c I L := by
  have : ∀ n c I L, N - c = n → c ≤ N → P c I L → W c I L := by
    intro n
    induction n with
    | zero =>
      intro c I L hn hc h
      have : c = N := by omega
      subst this
      exact fin I L h
    | succ n ih => exact fun c I L hn hc h => step c I L (by omega) h fun I2 L2 h2 => ih (c + 1) I2 L2 (by omega) (by omega) h2
  exact fun c I L hc h => this _ c I L rfl hc h
theorem up_id {α : Type} (f : Nat → α) (c : Nat) : up1 f c (f c) = f := by
  funext i
  unfold up1
  by_cases e : i = c
  · rw [if_pos e, e]
  · rw [if_neg e]
theorem fil_at {α : Type} (g : Nat → α) (P : Nat → Bool) (n : Nat) (base : Nat → α) {i : Nat} (h : n ≤ i) : fil g P n base i = base i := by
  unfold fil; rw [if_neg (by omega)]
def sumN (f : Nat → Nat) : Nat → Nat
  | 0 => 0
  | n + 1 => sumN f n + f n
theorem sumN_le {f : Nat → Nat} {k : Nat} (h : ∀ c, f c ≤ k) : ∀ n, sumN f n ≤ k * n := by
  intro n
  induction n with
  | zero => exact Nat.le_refl _
  | succ n ih => have := h n; show sumN f n + f n ≤ _; rw [Nat.mul_succ]; omega
/-- cells moved by a row -/
def mvS {α : Type} (ins : Bool) (b : Nat) (f : Nat → α) (e : α) : Nat → α := fun c =>
  if ins then (if c < 12 * b then f c else if c < 12 * b + 12 then e else if c < 240 then f (c - 12) else f c)
  else (if c < 12 * b then f c else if c < 228 then f (c + 12) else if c < 240 then e else f c)
def rwC (ins : Bool) (b : Nat) (q : Cn) : Cn := match q with
  | some (.inr t) => some (.inr (mp (frR ins b) (fgR ins b) fnI t))
  | q => q
def lsCn (ins : Bool) (b : Nat) (q : Cn) : Nat := match q with
  | some (.inr t) => lsC ins b t
  | _ => 0
def rwN (ins : Bool) (b : Nat) (q : Nm) : Nm := match q.2 with
  | none => q
  | some (f, l) => (q.1, match rng ins b (f / 12) (l / 12) with
    | none => none
    | some (lo, up) => some (12 * lo + f % 12, 12 * up + l % 12))
def lsN (ins : Bool) (b : Nat) (q : Nm) : Nat := match q.2 with
  | none => 0
  | some (f, l) => if rng ins b (f / 12) (l / 12) = none then 1 else 0
theorem lsN_le (ins : Bool) (b : Nat) (q : Nm) : lsN ins b q ≤ 1 := by
  unfold lsN
  split
  · omega
  · split <;> omega
theorem lsL_le {ins : Bool} {b : Nat} : ∀ n (l : List (Nat × Nat)), l.length ≤ n → lsL ins b l ≤ l.length := by
  have h1 : ∀ q, ls1 ins b q ≤ 1 := fun q => by unfold ls1 lr; split <;> (try split) <;> omega
  intro n
  induction n with
  | zero =>
    intro l hl
    have : l = [] := List.length_eq_zero_iff.mp (by omega)
    subst this
    exact Nat.le_refl _
  | succ n ih =>
    intro l hl
    match l, hl with
    | [], hl => exact Nat.le_refl _
    | [q], hl => exact h1 q
    | [q, a], hl => have := h1 q; have := h1 a; show ls1 ins b q + ls1 ins b a ≤ 2; omega
    | q :: a :: c :: r, hl =>
      simp only [List.length_cons] at hl
      have g : lg ins b q.2 c.2 ≤ 1 := by unfold lg; split <;> omega
      have i1 := ih r (by omega)
      have i2 := ih (a :: c :: r) (by simp only [List.length_cons]; omega)
      simp only [List.length_cons] at i2 ⊢
      have := h1 q
      rw [lsL]
      split <;> omega
theorem lsCn_le {ins : Bool} {b : Nat} {q : Cn} (h : cok q) : lsCn ins b q ≤ 80 := by
  match q, h with
  | none, h => exact Nat.zero_le _
  | some (.inl n), h => exact Nat.zero_le _
  | some (.inr t), h =>
    show lsC ins b t ≤ 80
    rw [← lsL_all h.1]
    have := lsL_le (ins := ins) (b := b) _ (tk t) (Nat.le_refl _)
    have := h.2.2
    omega
theorem rwC_cty (ins : Bool) (b : Nat) (q : Cn) : cty (rwC ins b q) = cty q := by
  match q with
  | none => rfl
  | some (.inl n) => rfl
  | some (.inr t) => rfl
theorem rwC_n {ins : Bool} {b : Nat} {q : Cn} (h : cty q ≠ 2) : rwC ins b q = q ∧ lsCn ins b q = 0 := by
  match q, h with
  | none, h => exact ⟨rfl, rfl⟩
  | some (.inl n), h => exact ⟨rfl, rfl⟩
  | some (.inr t), h => exact absurd rfl h
theorem rwC_cok {ins : Bool} {b : Nat} (hb : b < 20) {q : Cn} (h : cok q) : cok (rwC ins b q) := by
  match q, h with
  | none, h => exact h
  | some (.inl n), h => exact h
  | some (.inr t), h => exact mp_cok (mokR hb) h
theorem rwC_ctk {ins : Bool} {b : Nat} (hb : b < 20) {q : Cn} (h : cok q) : tmap (frR ins b) (fgR ins b) fnI (ctk q) = ctk (rwC ins b q) ∧ lsL ins b (ctk q) = lsCn ins b q := by
  match q, h with
  | none, h => exact ⟨rfl, rfl⟩
  | some (.inl n), h => exact ⟨rfl, rfl⟩
  | some (.inr t), h => exact ⟨tmap_all (mokR hb) h.1, lsL_all h.1⟩
theorem shR_tok {ins : Bool} {b v : Nat} (hv : v < 960) : (shR ins b v = none ∧ shT ins b v = zl 0) ∨ (∃ w, w < 960 ∧ shR ins b v = some w ∧ shT ins b v = tok 2 w ∧ tok 2 w ≠ zl 0) := by
  unfold shT
  cases h : shR ins b v with
  | none => exact .inl ⟨rfl, rfl⟩
  | some w => have := shR_lt hv h; exact .inr ⟨w, this, rfl, rfl, tok_0 (by omega) (by omega) (by omega)⟩
section
variable {τ : tw_K} {I : tw_I} {L : tw_L} {d : Nat} {B : List Nat} {S : Sh} {H : List Sh} {V O : Nat → Vl} {M W : Nat → Bool} {au : Bool} {ev : Nat}
theorem tst.ext {S2 : Sh} {V2 : Nat → Vl} {M2 : Nat → Bool} (h : tst τ I L B S H V O M W au ev) (hS : ∀ c, c < 240 → S2.1 c = S.1 c) (hN : S2.2 = S.2) (hV : ∀ c, c < 240 → V2 c = V c) (hM : ∀ c, c < 240 → M2 c = M c) : tst τ I L B S2 H V2 O M2 W au ev := by
  obtain ⟨h1, h2, h3, h4, h5, h6, h7, h8, h9, h10, h11⟩ := h
  refine ⟨h1, h2, ⟨fun c hc => ?_, ?_, ?_, fun n q hq => ?_⟩, h4, fun c hc => ?_, h6, fun c hc => ?_, h8, h9, h10, h11⟩
  · rw [hS c hc]; exact h3.1 c hc
  · rw [hN]; exact h3.2.1
  · rw [hN]; exact h3.2.2.1
  · rw [hN] at hq; exact h3.2.2.2 n q hq
  · rw [hV c hc]; exact h5 c hc
  · rw [hM c hc]; exact h7 c hc
/-- names are set -/
theorem tst.nms (hτ : tw_ok τ) {I2 : tw_I} {L2 : tw_L} (h : tst τ I L B S H V O M W au ev) {N : List Nm} (f : twf (fun a i => (a = 1320 ∧ i = 0) ∨ ((a = 1321 ∨ a = 1322 ∨ a = 1323) ∧ i < 10) ∨ XW a i) I L I2 L2) (h1 : I2 1320 0 = zi N.length) (h2 : N.length ≤ 10) (h3 : ∀ (n : Nat) (q : Nm), N[n]? = some q → tnm I2 L2 n q) : tst τ I2 L2 B (S.1, N) H V O M W au ev := by
  obtain ⟨g1, g2, g3, g4, g5, g6, g7, g8, g9, g10, g11⟩ := h
  refine ⟨g1.kept hτ (fun a i z => by unfold XW at z; omega) f, g2.kept f (by unfold XW; omega) (fun i => by unfold XW; omega), ⟨fun c hc => ?_, h1, h2, fun n q hq => ?_⟩, g4.kept f (by unfold XW; omega) (fun k hk a i z => by unfold XW at z; unfold KW; omega),
    g5.kept f (fun c => by unfold XW; omega) (fun c => by unfold XW; omega), g6.kept f (fun c => by unfold XW; omega) (fun c => by unfold XW; omega), g7.kept f (fun c => by unfold XW; omega), g8.kept f (fun c => by unfold XW; omega), by rw [(f _ _ (by unfold XW; omega)).1]; exact g9, by rw [(f _ _ (by unfold XW; omega)).1]; exact g10, g11⟩
  · exact (g3.1 c hc).kept f (by unfold XW; omega) (by unfold XW; omega) (by unfold XW; omega) (fun i hi => by unfold XW; omega)
  · rw [show 10 * 0 + n = n by omega]; exact h3 n q hq
theorem tst.nm (h : tst τ I L B S H V O M W au ev) {n : Nat} {q : Nm} (hq : S.2[n]? = some q) : tnm I L n q := by
  have := h.2.2.1.2.2.2 n q hq
  rwa [show 10 * 0 + n = n by omega] at this
theorem tst.nl (h : tst τ I L B S H V O M W au ev) : I 1320 0 = zi S.2.length ∧ S.2.length ≤ 10 := ⟨h.2.2.1.2.1, h.2.2.1.2.2.1⟩
/-- a mark is set -/
theorem tst.mrk (hτ : tw_ok τ) {I2 : tw_I} {L2 : tw_L} (h : tst τ I L B S H V O M W au ev) {c : Nat} {m : Bool} (hc : c < 240) (f : twf (fun a i => a = 1328 ∧ i = c) I L I2 L2) (h3 : I2 1328 c = bz m) : tst τ I2 L2 B S H V O (up1 M c m) W au ev := by
  obtain ⟨v1, v2, v3⟩ := h.2.2.2.2.1 c hc
  have := h.val hτ (v := V c) hc (f.wi fun a i z => by omega) (by rw [(f _ _ (by omega)).1]; exact v1) (by rw [(f _ _ (by omega)).2]; exact v2) h3 v3
  rwa [up_id] at this
theorem tst.mk1 (h : tst τ I L B S H V O M W au ev) {c : Nat} (hc : c < 240) : I 1328 c = bz (M c) := h.2.2.2.2.2.2.1 c hc
theorem tst.ty (h : tst τ I L B S H V O M W au ev) {c : Nat} (hc : c < 240) : I 1316 c = zi (cty (S.1 c)) := (h.cell hc).1
theorem cty_lt (q : Cn) : cty q < 3 := by
  match q with
  | none => decide
  | some (.inl n) => exact (by decide : 1 < 3)
  | some (.inr t) => exact (by decide : 2 < 3)
theorem t_shiftsTokens_loop (hτ : tw_ok τ) {ins : Bool} {b x : Nat} (hx : x < 2400) {R : List (Nat × Nat)} {N : Nat} (hN9 : N < 90000) {Q : tw_I → tw_L → Prop} (hd : 4 ≤ d) (I0 : tw_I) (L0 : tw_L)
    (h : ∀ I2 L2, twf (TY x) I0 L0 I2 L2 → tch I2 ins b → ttk I2 L2 x R → I2 1315 34 = zi N → Q I2 L2) :
    ∀ (n : Nat) (pre sf : List (Nat × Nat)) (w k : Nat) (I : tw_I) (L : tw_L) (x3 x4 x5 x6 : Value), sf.length ≤ n → tch I ins b → ttk I L x (pre ++ sf) → w ≤ pre.length → okl sf → pre.take w ++ tmap (frR ins b) (fgR ins b) fnI sf = R → k + lsL ins b sf = N → I 1315 29 = zi w → I 1315 34 = zi k → twf (TY x) I0 L0 I L →
      wp_r d 313 (7, [.ref 1315, .int (zi x), .int (zi pre.length), x3, x4, x5, x6], [], tw τ I L) (tv τ Q) := by
  intro n
  induction n with
  | zero =>
    intro pre sf w k I L x3 x4 x5 x6 hn hb ht hw ho hR hN hI hk f
    have hs : sf = [] := List.length_eq_zero_iff.mp (by omega)
    subst hs
    rw [List.append_nil] at ht
    have hR : pre.take w = R := by rw [← hR]; show _ = _ ++ []; rw [List.append_nil]
    have hl := ht.2.1
    refine k313_7 hτ (by omega) ⟨zn_in hx (by omega), ?_⟩
    rw [zn_ix (by omega), ht.1, zi_lt (by omega) (by omega) (by omega) (by omega)]
    refine ⟨fun z => absurd z (by omega), fun _ => ?_⟩
    rintro I4 rfl
    rw [hI]
    have := ttk_take ht hw
    rw [hR] at this
    have f2 : twf (TY x) I L (cm_u2 I 1318 x (zi w)) L := twf.rf.pI (by unfold TY; omega) _
    refine h _ _ (f.tr f2) (hb.kept f2) this ?_
    rw [u2_ne _ _ _ _ (by omega), hk]
    congr 2
  | succ n ih =>
    intro pre sf w k I L x3 x4 x5 x6 hn hb ht hw ho hR hN hI hk f
    by_cases hs : sf = []
    · subst hs
      exact ih pre [] w k I L x3 x4 x5 x6 (by simp) hb ht hw ho hR hN hI hk f
    have hl := ht.2.1
    rw [List.length_append] at hl
    have hpos : 0 < sf.length := List.length_pos_iff.mpr hs
    refine k313_7 hτ (by omega) ⟨zn_in hx (by omega), ?_⟩
    rw [zn_ix (by omega), ht.1, List.length_append, zi_lt (by omega) (by omega) (by omega) (by omega)]
    refine ⟨fun _ => ?_, fun z => absurd (by omega) z⟩
    rcases okl_case ho hs with ⟨u, v, r, rfl, hu, hv, hor⟩ | ⟨q, r, rfl, hne, hq, h960, hor⟩
    · rw [tmap_r] at hR
      rw [lsL_r] at hN
      rw [List.length_cons, List.length_cons, List.length_cons] at hn
      refine t_at hτ hx (by omega) ht (by omega) ?_
      rw [tko_some at0]
      refine t_isRange hτ hx (by omega) ht at0 (by omega) ?_
      rw [at1, bz_0, decide_eq_false_iff_not]
      refine ⟨fun z => absurd ⟨rfl, rfl⟩ z, fun _ => ?_⟩
      refine t_shiftsRange hτ hb hx hu hv ht hw hI hk (by omega) (by omega) fun I2 L2 pre2 w2 f2 t2 l2 hw2 tk2 e29 e34 => ?_
      have go := ih pre2 r w2 (k + lg ins b u v) I2 L2 (.long (tok 2 u)) (.retAddr 0) x5 x6 (by omega) (hb.kept f2) t2 hw2 hor (by rw [tk2, ← hR, List.append_assoc]) (by omega) e29 e34 (f.tr f2)
      rw [l2] at go
      rw [show zi (pre.length : Int) + zi 3 = zi ((pre.length + 3 : Nat) : Int) by rw [zi_add]; congr 1]
      exact go
    · rw [tmap_1 hne] at hR
      rw [lsL_1 hne] at hN
      rw [List.length_cons] at hn
      refine t_at hτ hx (by omega) ht (by omega) ?_
      rw [tko_some at0]
      have nr : ¬ (q.1 = 2 ∧ r.head? = some (6, 58)) := fun z => hne z.1 z.2
      refine t_isRange hτ hx (by omega) ht at0 (by omega) ?_
      rw [at1, bz_0, decide_eq_false_iff_not]
      refine ⟨fun _ => ?_, fun z => absurd nr z⟩
      refine t_kindOf hτ hq.2.1 hq.2.2 (by omega) ?_
      have hk8 := hq.2.1
      rw [zi_eq (by omega) (by omega) (by omega) (by omega)]
      have go : ∀ (p : Nat × Nat) (s : Int64) (j : Nat), tkO p → tm1 (frR ins b) fnI q = [p] → ls1 ins b q = j → ∀ I1, I1 = cm_u2 I 1315 34 (zi ((k + j : Nat) : Int)) → wp_c d 334 [.ref 1315, .int (zi x), .long (tok p.1 p.2)] (tw τ I1 L) (tv τ fun I4 L4 => wp_r d 313 (7, [.ref 1315, .int (zi x), .int (zi pre.length + zi 1), .long (tok q.1 q.2), .retAddr 0, .long s, .retAddr 0], [], tw τ I4 L4) (tv τ Q)) := by
        intro p s j hp e ej I1 hI1
        subst hI1
        have f1 : twf (TY x) I L (cm_u2 I 1315 34 (zi ((k + j : Nat) : Int))) L := twf.rf.pI (by unfold TY; omega) _
        refine t_wt hτ hx (pre := pre) (r := r) (q := q) ⟨by rw [u2_ne _ _ _ _ (by omega)]; exact ht.1, ht.2⟩ hw (by rw [u2_nj _ _ _ _ _ (by omega)]; exact hI) hp rfl (by omega) fun I2 L2 pre2 f2 t2 l2 tk2 e2 => ?_
        have go := ih pre2 r (w + 1) (k + j) I2 L2 (.long (tok q.1 q.2)) (.retAddr 0) (.long s) (.retAddr 0) (by omega) (hb.kept (f1.tr (f2.wi (TX_TY x)))) t2 (by omega) hor (by
          rw [tk2, ← hR, e]
          simp) (by omega) e2 (by rw [(f2 _ _ (by unfold TX; omega)).1, u2_same]) ((f.tr f1).tr (f2.wi (TX_TY x)))
        rw [l2] at go
        rw [zn_a pre.length 1 1 rfl]
        exact go
      refine ⟨fun k2 => ?_, fun k2 => ?_⟩
      · have k2 : q.1 = 2 := by omega
        obtain ⟨q1, q2⟩ := q
        simp only at k2
        subst k2
        refine t_shiftedCell hτ hb (h960 rfl) (by omega) ?_
        refine k313_62 hτ (by omega) ?_
        rcases shR_tok (ins := ins) (b := b) (h960 rfl) with ⟨m1, e1⟩ | ⟨wu, hwu, m1, e1, n1⟩
        · simp only at e1 m1
          rw [e1]
          refine ⟨fun _ => ?_, fun z => absurd rfl z⟩
          rintro I1 rfl
          rw [hk, zn_a k 1 1 rfl]
          refine t_of (k := 3) (v := 0) hτ (by omega) (by omega) (go (3, 0) _ 1 ⟨by decide, by decide, by decide⟩ ?_ ?_ _ rfl)
          · unfold tm1 frR
            rw [if_pos rfl, m1]
            rfl
          · unfold ls1 lr
            rw [if_pos rfl, if_pos m1]
        · simp only at e1 m1
          rw [e1]
          refine ⟨fun z => absurd z n1, fun _ => ?_⟩
          rintro I1 rfl
          rw [hk, zn_a k 0 0 rfl]
          refine go (2, wu) _ 0 (tkO_mk (by omega) (by omega) (by omega)) ?_ ?_ _ rfl
          · unfold tm1 frR
            rw [if_pos rfl, m1]
            rfl
          · unfold ls1 lr
            rw [if_pos rfl, if_neg (by rw [m1]; simp)]
      · refine k313_62 hτ (by omega) ⟨fun z => absurd z (tok_0 hq.2.1 hq.1 hq.2.2), fun _ => ?_⟩
        rintro I1 rfl
        rw [hk, zn_a k 0 0 rfl]
        refine go q _ 0 hq ?_ ?_ _ rfl
        · unfold tm1
          rw [if_neg (by omega)]
          by_cases k4 : q.1 = 4
          · rw [if_pos k4]
            obtain ⟨q1, q2⟩ := q
            simp only at k4
            subst k4
            rfl
          · rw [if_neg k4]
        · unfold ls1
          rw [if_neg (by omega)]
theorem t_shiftsTokens (hτ : tw_ok τ) (h0 : tst τ I L B S H V O M W au ev) {ins : Bool} {b c k : Nat} (hc : c < 240) (hb : tch I ins b) (hk : I 1315 34 = zi k) (hk9 : k < 80000) {Q : tw_I → tw_L → Prop} (hd : 5 ≤ d)
    (h : ∀ I2 L2, tst τ I2 L2 B (up1 S.1 c (rwC ins b (S.1 c)), S.2) H V O M W au ev → tch I2 ins b → I2 1315 34 = zi ((k + lsCn ins b (S.1 c) : Nat) : Int) → Q I2 L2) : wp_c d 313 [.ref 1315, .int (zi c)] (tw τ I L) (tv τ Q) := by
  have hq := h0.cell hc
  have hok := hq.2.2.1
  refine k313 hτ (by omega) ?_
  rintro I1 rfl
  have f1 : twf (TY c) I L (cm_u2 I 1315 29 (zi 0)) L := twf.rf.pI (by unfold TY; omega) _
  have hl := lsCn_le (ins := ins) (b := b) hok
  refine t_shiftsTokens_loop hτ (by omega) (R := ctk (rwC ins b (S.1 c))) (N := k + lsCn ins b (S.1 c)) (by omega) (by omega) I L (fun I2 L2 f2 b2 t2 e2 => h I2 L2 ?_ b2 e2) _ [] (ctk (S.1 c)) 0 k _ L _ _ _ _ (Nat.le_refl _) (hb.kept f1) ⟨by rw [u2_ne _ _ _ _ (by omega)]; exact hq.2.1.1, hq.2.1.2⟩ (by simp) (ctk_okl hok) (by show [] ++ _ = _; rw [List.nil_append, (rwC_ctk hb.2.2 hok).1]) (by rw [(rwC_ctk hb.2.2 hok).2]) (by rw [u2_same]; rfl) (by rw [u2_nj _ _ _ _ _ (by omega)]; exact hk) f1
  refine h0.put2 hτ hc (f2.wi fun a i z => by unfold TY at z; unfold CW XW; omega) ⟨?_, t2, rwC_cok hb.2.2 hok, fun n hn => ?_⟩
  · rw [(f2 _ _ (by unfold TY; omega)).1, rwC_cty]; exact hq.1
  · rw [(f2 _ _ (by unfold TY; omega)).2]
    refine hq.2.2.2 n ?_
    revert hn
    match S.1 c with
    | none => exact id
    | some (.inl n) => exact id
    | some (.inr t) => intro z; cases z
/-- a list changed up to a place -/
def mpto {α : Type} (f : α → α) (n : Nat) (l : List α) : List α := l.mapIdx fun i a => if i < n then f a else a
theorem mpto_len {α : Type} (f : α → α) (n : Nat) (l : List α) : (mpto f n l).length = l.length := by unfold mpto; simp
theorem mpto_at {α : Type} (f : α → α) (n : Nat) (l : List α) (i : Nat) : (mpto f n l)[i]? = (l[i]?).map fun a => if i < n then f a else a := by unfold mpto; rw [List.getElem?_mapIdx]
theorem mpto_0 {α : Type} (f : α → α) (l : List α) : mpto f 0 l = l := by
  apply List.ext_getElem?
  intro i
  rw [mpto_at]
  cases l[i]? <;> simp
theorem mpto_all {α : Type} (f : α → α) (l : List α) : mpto f l.length l = l.map f := by
  apply List.ext_getElem?
  intro i
  rw [mpto_at, List.getElem?_map]
  by_cases hi : i < l.length
  · simp [hi]
  · rw [List.getElem?_eq_none (by omega)]; rfl
def lsS (ins : Bool) (b : Nat) (l : List Nm) : Nat := (l.map (lsN ins b)).sum
theorem lsS_step {ins : Bool} {b : Nat} {l : List Nm} {n : Nat} {q : Nm} (h : l[n]? = some q) : lsS ins b (l.take (n + 1)) = lsS ins b (l.take n) + lsN ins b q := by
  unfold lsS
  rw [List.take_succ, h]
  simp
theorem lsS_le (ins : Bool) (b : Nat) (l : List Nm) : lsS ins b l ≤ l.length := by
  unfold lsS
  induction l with
  | nil => exact Nat.le_refl _
  | cons a r ih => have := lsN_le ins b a; rw [List.map_cons, List.sum_cons, List.length_cons]; omega
def rwS (ins : Bool) (b : Nat) (S : Sh) : Sh := (fun c => rwC ins b (S.1 c), S.2.map (rwN ins b))
def lsSh (ins : Bool) (b : Nat) (S : Sh) : Nat := sumN (fun c => lsCn ins b (S.1 c)) 240 + lsS ins b S.2
theorem rwN_ok {ins : Bool} {b : Nat} (hb : b < 20) {q : Nm} (h : nok q) : nok (rwN ins b q) := by
  obtain ⟨c, r⟩ := q
  cases r with
  | none => exact h
  | some p =>
    obtain ⟨f, l⟩ := p
    obtain ⟨h1, h2⟩ := h
    have h2 : box f l := h2
    unfold box at h2
    show nok (c, match rng ins b (f / 12) (l / 12) with
    | none => none
    | some (lo, up) => some (12 * lo + f % 12, 12 * up + l % 12))
    cases hr : rng ins b (f / 12) (l / 12) with
    | none => exact ⟨h1, trivial⟩
    | some p =>
      obtain ⟨lo, up⟩ := p
      have := rng_lt hb (by omega) (by omega) hr
      refine ⟨h1, ?_⟩
      show box (12 * lo + f % 12) (12 * up + l % 12)
      unfold box
      omega
theorem t_shiftsAll (hτ : tw_ok τ) (h0 : tst τ I L B S H V O M W au ev) {ins : Bool} {b : Nat} (hb : tch I ins b) {Q : tw_I → tw_L → Prop} (hd : 6 ≤ d)
    (h : ∀ I2 L2, tst τ I2 L2 B (rwS ins b S) H V O (fun c => decide (cty (S.1 c) = 2)) W au ev → I2 1315 34 = zi (lsSh ins b S) → Q I2 L2) : wp_c d 310 [.ref 1315] (tw τ I L) (tv τ Q) := by
  have hok : ∀ c, c < 240 → cok (S.1 c) := fun c hc => (h0.cell hc).2.2.1
  have hs : ∀ n, n ≤ 240 → sumN (fun c => lsCn ins b (S.1 c)) n ≤ 80 * n := by
    intro n
    induction n with
    | zero => intro _; exact Nat.le_refl _
    | succ n ih =>
      intro hn
      have := ih (by omega)
      have := lsCn_le (ins := ins) (b := b) (hok n (by omega))
      show sumN _ n + lsCn ins b (S.1 n) ≤ _
      omega
  have hs240 := hs 240 (by omega)
  have hnl := h0.nl
  have hls := fun n => lsS_le ins b (S.2.take n)
  refine k310 hτ (by omega) ?_
  rintro I1 rfl
  have marks : ∀ c I L, c ≤ 240 → (tst τ I L B (rwS ins b S) H V O (fil (fun c => decide (cty (S.1 c) = 2)) (fun _ => true) c M) W au ev ∧ I 1315 34 = zi (lsSh ins b S)) → ∀ x2, wp_r (d - 1) 310 (170, [.ref 1315, .int (zi c), x2], [], tw τ I L) (tv τ Q) := by
    refine up_ind 240 (W := fun c I L => ∀ x2, wp_r (d - 1) 310 (170, [.ref 1315, .int (zi c), x2], [], tw τ I L) (tv τ Q)) (P := fun c I L => (tst τ I L B (rwS ins b S) H V O (fil (fun c => decide (cty (S.1 c) = 2)) (fun _ => true) c M) W au ev ∧ I 1315 34 = zi (lsSh ins b S))) (fun I L hP x2 => ?_) (fun c I L hc hP ih x2 => ?_)
    · refine k310_170 hτ (by omega) ⟨fun z => absurd z (by decide), fun _ => h I L (hP.1.ext (fun _ _ => rfl) rfl (fun _ _ => rfl) fun c hc => ?_) hP.2⟩
      unfold fil
      rw [if_pos ⟨hc, rfl⟩]
    · have e := hP.1.ty hc
      have e : I 1316 c = zi (cty (S.1 c)) := by rw [e]; show zi (cty (rwC ins b (S.1 c))) = _; rw [rwC_cty]
      have l3 := cty_lt (S.1 c)
      refine k310_170 hτ (by omega) ?_
      rw [zn_ix (by omega), e, zi_lt (by omega) (by omega) (by omega) (by omega), zn_a c 1 1 rfl]
      refine ⟨fun _ => ⟨zn_in (show c < 2400 by omega) (by omega), ?_⟩, fun z => absurd (by omega) z⟩
      rw [zi_eq (by omega) (by omega) (by omega) (by omega)]
      have go : ∀ m : Bool, m = decide (cty (S.1 c) = 2) → ∀ I1, I1 = cm_u2 I 1328 c (bz m) → wp_r (d - 1) 310 (170, [.ref 1315, .int (zi ((c + 1 : Nat) : Int)), x2], [], tw τ I1 L) (tv τ Q) := by
        intro m hm I1 e1
        subst e1
        refine ih _ _ ⟨?_, by rw [u2_ne _ _ _ _ (by omega)]; exact hP.2⟩ x2
        rw [fil_t _ _ _ _ rfl]
        have := hP.1.mrk hτ (m := m) hc (I2 := cm_u2 I 1328 c (bz m)) (L2 := L) (twf.rf.pI ⟨by omega, by omega⟩ _) (by rw [u2_same])
        rw [hm] at this ⊢
        exact this
      refine ⟨fun z => ⟨zn_in hc (by omega), go true (by rw [decide_eq_true (by omega)])⟩, fun z => ⟨zn_in hc (by omega), go false (by rw [decide_eq_false (by omega)])⟩⟩
  have nms : ∀ n I L, n ≤ S.2.length → (tst τ I L B ((rwS ins b S).1, mpto (rwN ins b) n S.2) H V O M W au ev ∧ tch I ins b ∧ I 1315 34 = zi ((sumN (fun c => lsCn ins b (S.1 c)) 240 + lsS ins b (S.2.take n) : Nat) : Int)) → ∀ x2, wp_r (d - 1) 310 (37, [.ref 1315, .int (zi n), x2], [], tw τ I L) (tv τ Q) := by
    refine up_ind S.2.length (W := fun n I L => ∀ x2, wp_r (d - 1) 310 (37, [.ref 1315, .int (zi n), x2], [], tw τ I L) (tv τ Q)) (P := fun n I L => (tst τ I L B ((rwS ins b S).1, mpto (rwN ins b) n S.2) H V O M W au ev ∧ tch I ins b ∧ I 1315 34 = zi ((sumN (fun c => lsCn ins b (S.1 c)) 240 + lsS ins b (S.2.take n) : Nat) : Int))) (fun I L hP x2 => ?_) (fun n I L hn hP ih x2 => ?_)
    · obtain ⟨g, gb, g34⟩ := hP
      have e20 := g.nl.1
      rw [mpto_len] at e20
      rw [mpto_all] at g
      rw [List.take_length] at g34
      refine k310_37 hτ (by omega) ⟨by decide, ?_⟩
      rw [show cm_ix (zi 0) = 0 from rfl, e20, zi_lt (by omega) (by omega) (by omega) (by omega)]
      refine ⟨fun z => absurd z (by omega), fun _ => marks 0 I L (by omega) ⟨?_, g34⟩ x2⟩
      rw [fil_0]
      exact g
    · obtain ⟨g, gb, g34⟩ := hP
      have e20 := g.nl.1
      rw [mpto_len] at e20
      obtain ⟨q, hq⟩ : ∃ q, S.2[n]? = some q := ⟨S.2[n], List.getElem?_eq_getElem hn⟩
      have hq2 : (mpto (rwN ins b) n S.2)[n]? = some q := by rw [mpto_at, hq]; simp
      obtain ⟨t1, t2, t3⟩ := g.nm hq2
      have hln := hls n
      rw [List.length_take] at hln
      have ste := lsS_step (ins := ins) (b := b) hq
      refine k310_37 hτ (by omega) ⟨by decide, ?_⟩
      rw [show cm_ix (zi 0) = 0 from rfl, e20, zi_lt (by omega) (by omega) (by omega) (by omega), zn_a n 1 1 rfl]
      refine ⟨fun _ => ⟨zn_in (show n < 100 by omega) (by omega), ?_⟩, fun z => absurd (by omega) z⟩
      rw [zn_ix (by omega)]
      have go : ∀ (q2 : Nm) (I4 : tw_I) (L4 : tw_L) (x2 : Value), q2 = rwN ins b q → twf (fun a i => (a = 1315 ∧ (i = 32 ∨ i = 33 ∨ i = 34)) ∨ ((a = 1321 ∨ a = 1322 ∨ a = 1323) ∧ i = n)) I L I4 L4 → tnm I4 L4 n q2 → I4 1315 34 = zi ((sumN (fun c => lsCn ins b (S.1 c)) 240 + lsS ins b (S.2.take n) + lsN ins b q : Nat) : Int) → wp_r (d - 1) 310 (37, [.ref 1315, .int (zi ((n + 1 : Nat) : Int)), x2], [], tw τ I4 L4) (tv τ Q) := by
        intro q2 I4 L4 x2 e f4 t4 e34
        refine ih I4 L4 ⟨?_, ⟨by rw [(f4 _ _ (by omega)).1]; exact gb.1, by rw [(f4 _ _ (by omega)).1]; exact gb.2.1, gb.2.2⟩, by rw [ste, e34, Nat.add_assoc]⟩ x2
        refine g.nms hτ (f4.wi fun a i z => by unfold XW; omega) (by rw [(f4 _ _ (by omega)).1, mpto_len]; exact e20) (by rw [mpto_len]; exact hnl.2) (fun i p hp => ?_)
        rw [mpto_at] at hp
        by_cases ei : i = n
        · subst ei
          rw [hq] at hp
          simp only [Option.map_some, Nat.lt_succ_self, if_true, Option.some.injEq] at hp
          rw [← hp, ← e]
          exact t4
        · have hp2 : (mpto (rwN ins b) n S.2)[i]? = some p := by
            rw [mpto_at, ← hp]
            congr 1
            funext a
            by_cases h2 : i < n
            · rw [if_pos h2, if_pos (by omega)]
            · rw [if_neg h2, if_neg (by omega)]
          exact (g.nm hp2).kept f4 (by omega) (by omega) (by omega)
      obtain ⟨c, r⟩ := q
      cases r with
      | none =>
        have t3 : I 1322 n = zi (-1) ∧ I 1323 n = zi (-1) := t3
        rw [t3.1]
        refine ⟨fun _ => go (c, none) I L x2 rfl twf.rf ⟨t1, t2, t3⟩ (by rw [g34, show lsN ins b (c, none) = 0 from rfl, Nat.add_zero]), fun z => absurd z (by decide)⟩
      | some p =>
        obtain ⟨fi, la⟩ := p
        have t3 : I 1322 n = zi fi ∧ I 1323 n = zi la := t3
        have bx : box fi la := t2.2
        unfold box at bx
        rw [t3.1, zi_lt (by omega) (by omega) (by omega) (by omega)]
        refine ⟨fun z => absurd z (by omega), fun _ => ?_⟩
        refine t_rowOf hτ (by omega) (by omega) ?_
        rw [t3.2]
        refine t_rowOf hτ (by omega) (by omega) ?_
        refine t_shiftsRows hτ gb (by omega) (by omega) (by omega) (fun hno I2 f2 => ?_) (fun lo up hso I2 f2 e32 e33 => ?_)
        · refine ⟨fun _ => ?_, fun z => absurd rfl z⟩
          rintro I4 rfl I5 rfl I6 rfl
          have e34 : I2 1315 34 = zi ((sumN (fun c => lsCn ins b (S.1 c)) 240 + lsS ins b (S.2.take n) : Nat) : Int) := by rw [(f2 _ _ (by omega)).1]; exact g34
          refine go (c, none) _ _ _ ?_ ((((f2.wi fun a i z => by omega).pI (by omega) _).pI (by omega) _).pI (by omega) _) ⟨t1, ⟨t2.1, trivial⟩, by rw [u2_ne _ _ _ _ (by omega), u2_same], by rw [u2_same]⟩ ?_
          · unfold rwN
            simp only
            rw [hno]
          · rw [u2_ne _ _ _ _ (by omega), u2_ne _ _ _ _ (by omega), u2_same, e34, zn_a _ 1 1 rfl]
            unfold lsN
            simp only
            rw [if_pos hno]
        · refine ⟨fun z => absurd z (by decide), fun _ => ?_⟩
          rintro I4 rfl
          have g := rng_lt gb.2.2 (by omega) (by omega) hso
          have e34 : I2 1315 34 = zi ((sumN (fun c => lsCn ins b (S.1 c)) 240 + lsS ins b (S.2.take n) : Nat) : Int) := by rw [(f2 _ _ (by omega)).1]; exact g34
          have f4 : twf (fun a i => (a = 1315 ∧ (i = 32 ∨ i = 33 ∨ i = 34)) ∨ ((a = 1321 ∨ a = 1322 ∨ a = 1323) ∧ i = n)) I L (cm_u2 I2 1315 34 (I2 1315 34 + zi 0)) L := (f2.wi fun a i z => by omega).pI (by omega) _
          generalize hI4 : cm_u2 I2 1315 34 (I2 1315 34 + zi 0) = I4 at f4
          have g32 : I4 1315 32 = zi lo := by rw [← hI4, u2_nj _ _ _ _ _ (by omega)]; exact e32
          have g33 : I4 1315 33 = zi up := by rw [← hI4, u2_nj _ _ _ _ _ (by omega)]; exact e33
          have g34' : I4 1315 34 = zi ((sumN (fun c => lsCn ins b (S.1 c)) 240 + lsS ins b (S.2.take n) : Nat) : Int) := by rw [← hI4, u2_same, e34, zn_a _ 0 0 rfl, Nat.add_zero]
          rw [show I4 1322 n = zi fi by rw [← hI4, u2_ne _ _ _ _ (by omega), (f2 _ _ (by omega)).1]; exact t3.1]
          refine t_columnOf hτ (by omega) (by omega) ?_
          rw [g32, zi_mul, zi_add]
          rintro I9 rfl
          rw [u2_ne _ _ _ _ (by omega), show I4 1323 n = zi la by rw [← hI4, u2_ne _ _ _ _ (by omega), (f2 _ _ (by omega)).1]; exact t3.2]
          refine t_columnOf hτ (by omega) (by omega) ?_
          rw [u2_ne _ _ _ _ (by omega), g33, zi_mul, zi_add]
          rintro I11 rfl
          refine go (c, some (12 * lo + fi % 12, 12 * up + la % 12)) _ _ _ ?_ ((f4.pI (by omega) _).pI (by omega) _) ⟨t1, ?_, by rw [u2_ne _ _ _ _ (by omega), u2_same]; congr 1, by rw [u2_same]; congr 1⟩ ?_
          · unfold rwN
            simp only
            rw [hso]
          · have := rwN_ok (ins := ins) gb.2.2 t2
            unfold rwN at this
            simp only at this
            rw [hso] at this
            exact this
          · rw [u2_ne _ _ _ _ (by omega), u2_ne _ _ _ _ (by omega), g34']
            unfold lsN
            simp only
            rw [hso, if_neg (by simp), Nat.add_zero]
  have cells : ∀ c I L, c ≤ 240 → (tst τ I L B (fil (fun c => rwC ins b (S.1 c)) (fun _ => true) c S.1, S.2) H V O M W au ev ∧ tch I ins b ∧ I 1315 34 = zi (sumN (fun c => lsCn ins b (S.1 c)) c)) → ∀ x2, wp_r (d - 1) 310 (7, [.ref 1315, .int (zi c), x2], [], tw τ I L) (tv τ Q) := by
    refine up_ind 240 (W := fun c I L => ∀ x2, wp_r (d - 1) 310 (7, [.ref 1315, .int (zi c), x2], [], tw τ I L) (tv τ Q)) (P := fun c I L => (tst τ I L B (fil (fun c => rwC ins b (S.1 c)) (fun _ => true) c S.1, S.2) H V O M W au ev ∧ tch I ins b ∧ I 1315 34 = zi (sumN (fun c => lsCn ins b (S.1 c)) c))) (fun I L hP x2 => ?_) (fun c I L hc hP ih x2 => ?_)
    · refine k310_7 hτ (by omega) ⟨fun z => absurd z (by decide), fun _ => nms 0 I L (by omega) ⟨?_, hP.2.1, by rw [List.take_zero, show lsS ins b [] = 0 from rfl, Nat.add_zero]; exact hP.2.2⟩ x2⟩
      rw [mpto_0]
      refine hP.1.ext (fun c hc => ?_) rfl (fun _ _ => rfl) fun _ _ => rfl
      show rwC ins b (S.1 c) = fil (fun c => rwC ins b (S.1 c)) (fun _ => true) 240 S.1 c
      unfold fil
      rw [if_pos ⟨hc, rfl⟩]
    · have e := hP.1.ty hc
      simp only at e
      rw [fil_at _ _ _ _ (Nat.le_refl _)] at e
      have l3 := cty_lt (S.1 c)
      have hsc := hs c (by omega)
      refine k310_7 hτ (by omega) ?_
      rw [zn_ix (by omega), e, zi_lt (by omega) (by omega) (by omega) (by omega), zn_a c 1 1 rfl]
      refine ⟨fun _ => ⟨zn_in (show c < 2400 by omega) (by omega), ?_⟩, fun z => absurd (by omega) z⟩
      rw [zi_eq (by omega) (by omega) (by omega) (by omega)]
      refine ⟨fun z => ?_, fun z => ?_⟩
      · refine t_shiftsTokens hτ hP.1 hc hP.2.1 hP.2.2 (by omega) (by omega) fun I2 L2 g2 b2 e2 => ih I2 L2 ⟨?_, b2, ?_⟩ x2
        · rw [fil_t _ _ _ _ rfl]
          simp only at g2
          rw [fil_at _ _ _ _ (Nat.le_refl _)] at g2
          exact g2
        · simp only at e2
          rw [fil_at _ _ _ _ (Nat.le_refl _)] at e2
          exact e2
      · have hn := rwC_n (ins := ins) (b := b) (show cty (S.1 c) ≠ 2 by omega)
        refine ih I L ⟨?_, hP.2.1, ?_⟩ x2
        · rw [fil_t _ _ _ _ rfl, hn.1]
          have := up_id (fil (fun c => rwC ins b (S.1 c)) (fun _ => true) c S.1) c
          rw [fil_at _ _ _ _ (Nat.le_refl _)] at this
          rw [this]
          exact hP.1
        · rw [show sumN (fun c => lsCn ins b (S.1 c)) (c + 1) = sumN (fun c => lsCn ins b (S.1 c)) c + lsCn ins b (S.1 c) from rfl, hn.2]
          exact hP.2.2
  have f1 : twf XW I L (cm_u2 I 1315 34 (zi 0)) L := twf.rf.pI (by unfold XW; omega) _
  refine cells 0 _ L (by omega) ⟨?_, ⟨by rw [u2_nj _ _ _ _ _ (by omega)]; exact hb.1, by rw [u2_nj _ _ _ _ _ (by omega)]; exact hb.2.1, hb.2.2⟩, by rw [u2_same]; rfl⟩ _
  rw [fil_0]
  exact h0.kept hτ f1
end
