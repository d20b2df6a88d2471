/-! ENGINE: sheets in the heap -/
/-- a content at x -/
def cn (G : Nat → Prop) (σ : cm_S) (x : Nat) (q : Cn) : Prop := cok q ∧ match q with
  | none => x = 0
  | some (.inl n) => inH G σ x 9 ∧ cm_L σ x 0 = zl n ∧ cm_R σ x 1 = 0
  | some (.inr t) => inH G σ x 9 ∧ nd G σ t (cm_R σ x 1) 0
/-- a name at x -/
def rnm (G : Nat → Prop) (σ : cm_S) (x : Nat) (q : Nm) : Prop := nok q ∧ inH G σ x 23 ∧ sIn G σ (cm_R σ x 0) (dec q.1) ∧ 322 ≤ cm_R σ x 0 ∧ match q.2 with
  | none => cm_I σ x 1 = zi (-1) ∧ cm_I σ x 2 = zi (-1)
  | some (a, b) => cm_I σ x 1 = zi a ∧ cm_I σ x 2 = zi b
/-- the list of names at l, with its array b -/
def nme (G : Nat → Prop) (σ : cm_S) (l b : Nat) (N : List Nm) : Prop := ∃ c xs, ls σ l b c xs ∧ (b = 330 ∨ 1346 ≤ b) ∧ b < cm_nx σ ∧ 1 ≤ c ∧ N.length ≤ 10 ∧ xs.length = N.length ∧ (N.map Prod.fst).Nodup ∧ ∀ (n : Nat) (q : Nm), N[n]? = some q → ∃ x, xs[n]? = some x ∧ rnm G σ x q
def shE (G : Nat → Prop) (σ : cm_S) (s : Nat) (S : Sh) : Prop := (cm_tg σ s = 5 ∧ cm_R σ s 0 = s + 1 ∧ cm_tg σ (s + 1) = 107 ∧ cm_ln σ (s + 1) = 240 ∧ cm_R σ s 1 = s + 2 ∧ cm_tg σ (s + 2) = 6 ∧ cm_R σ (s + 2) 0 = s + 3 ∧ (s = 326 ∨ 1346 ≤ s) ∧ s + 3 < cm_nx σ) ∧
  (∀ k, k < 240 → cn G σ (cm_R σ (s + 1) k) (S.1 k)) ∧ nme G σ (s + 3) (cm_R σ (s + 3) 1) S.2
/-- the objects of a sheet itself -/
def shF (σ : cm_S) (s a : Nat) : Prop := a = s ∨ a = s + 1 ∨ a = s + 2 ∨ a = s + 3 ∨ a = cm_R σ (s + 3) 1
section
variable {G G2 : Nat → Prop} {σ σ2 : cm_S} {s x : Nat} {S : Sh} {X Y : Nat → Prop} {n : Nat}
theorem cok_wf {t : Fm} (h : cok (some (.inr t))) : wf t ∧ nn t := ⟨h.1, Or.inr h.2.1⟩
theorem cn_sm (hG : ∀ a, G a → G2 a ∧ sm σ σ2 a) {q : Cn} (h : cn G σ x q) : cn G2 σ2 x q := by
  obtain ⟨h1, h2⟩ := h
  refine ⟨h1, ?_⟩
  cases q with
  | none => exact h2
  | some r =>
    cases r with
    | inl n =>
      obtain ⟨⟨t, g⟩, e1, e2⟩ := h2
      have := hG _ g
      exact ⟨⟨this.2.1.trans t, this.1⟩, by rw [this.2.2.2.2.1]; exact e1, (this.2.Rr 1).trans e2⟩
    | inr t =>
      obtain ⟨⟨t1, g⟩, e1⟩ := h2
      have := hG _ g
      refine ⟨⟨this.2.1.trans t1, this.1⟩, ?_⟩
      rw [this.2.Rr]
      exact nd_sm hG t h1.1 _ _ e1
theorem rnm_sm (hG : ∀ a, G a → G2 a ∧ sm σ σ2 a) {q : Nm} (h : rnm G σ x q) : rnm G2 σ2 x q := by
  obtain ⟨h1, ⟨t, g⟩, h2, h3, h4⟩ := h
  have := hG _ g
  have e := fun i => this.2.It t (by decide) i
  refine ⟨h1, ⟨this.2.1.trans t, this.1⟩, by rw [this.2.Rr]; exact sIn_sm hG h2, by rw [this.2.Rr]; exact h3, ?_⟩
  obtain ⟨c, o⟩ := q
  cases o with
  | none => exact ⟨(e 1).trans h4.1, (e 2).trans h4.2⟩
  | some ab => exact ⟨(e 1).trans h4.1, (e 2).trans h4.2⟩
theorem nme_sm (hG : ∀ a, G a → G2 a ∧ sm σ σ2 a) (hn : cm_nx σ ≤ cm_nx σ2) {l b : Nat} {N : List Nm} (h : nme G σ l b N) (h1 : sm σ σ2 l) (h2 : sm σ σ2 b) : nme G2 σ2 l b N := by
  obtain ⟨c, xs, g1, g2, g3, g4, g5, g6, g7, g8⟩ := h
  refine ⟨c, xs, ls_sm g1 h1 h2, g2, Nat.lt_of_lt_of_le g3 hn, g4, g5, g6, g7, fun n q hq => ?_⟩
  obtain ⟨x, hx, hr⟩ := g8 n q hq
  exact ⟨x, hx, rnm_sm hG hr⟩
theorem shE_sm (hG : ∀ a, G a → G2 a ∧ sm σ σ2 a) (hn : cm_nx σ ≤ cm_nx σ2) (h : shE G σ s S) (hs : ∀ a, shF σ s a → sm σ σ2 a) : shE G2 σ2 s S := by
  obtain ⟨⟨a1, a2, a3, a4, a5, a6, a7, a8, a9⟩, h2, h3⟩ := h
  have s0 := hs s (Or.inl rfl)
  have s1 := hs (s + 1) (Or.inr (Or.inl rfl))
  have s2 := hs (s + 2) (Or.inr (Or.inr (Or.inl rfl)))
  have s3 := hs (s + 3) (Or.inr (Or.inr (Or.inr (Or.inl rfl))))
  have s4 := hs _ (Or.inr (Or.inr (Or.inr (Or.inr rfl))))
  refine ⟨⟨s0.1.trans a1, (s0.Rr 0).trans a2, s1.1.trans a3, s1.2.1.trans a4, (s0.Rr 1).trans a5, s2.1.trans a6, (s2.Rr 0).trans a7, a8, Nat.lt_of_lt_of_le a9 hn⟩, fun k hk => ?_, ?_⟩
  · rw [s1.Rr]; exact cn_sm hG (h2 k hk)
  · rw [s3.Rr]; exact nme_sm hG hn h3 s3 s4
theorem shE.lt (h : shE G σ s S) {a : Nat} (ha : shF σ s a) : a < cm_nx σ := by
  obtain ⟨⟨a1, a2, a3, a4, a5, a6, a7, a8, a9⟩, h2, c, xs, g1, g2, g3, _⟩ := h
  rcases ha with e | e | e | e | e <;> omega
/-- where a sheet's objects lie -/
theorem shE.out (h : shE G σ s S) {a : Nat} (ha : shF σ s a) : (326 ≤ a ∧ a ≤ 330) ∨ 1346 ≤ a := by
  obtain ⟨⟨a1, a2, a3, a4, a5, a6, a7, a8, a9⟩, h2, c, xs, g1, g2, g3, _⟩ := h
  rcases ha with e | e | e | e | e <;> omega
theorem shE_fr (h : shE G σ s S) (hg : gk G σ) (hf : fr X Y n σ σ2) (hx : ∀ a, G a → ¬ X a ∧ ¬ Y a) (hs : ∀ a, shF σ s a → ¬ X a ∧ ¬ Y a) : shE G σ2 s S :=
  shE_sm (fun a ha => ⟨ha, fr_sm hf (hg.1 a ha).1 (hx a ha).1 (hx a ha).2⟩) hf.1 h (fun a ha => fr_sm hf (h.lt ha) (hs a ha).1 (hs a ha).2)
theorem shE_no (h : shE G σ s S) (hg : gk G σ) (hf : fr no_ no_ n σ σ2) : shE G σ2 s S := shE_fr h hg hf (fun _ _ => ⟨fun z => z, fun z => z⟩) (fun _ _ => ⟨fun z => z, fun z => z⟩)
/-- among the fixed objects, but none of a sheet's -/
def mid (a : Nat) : Prop := 322 ≤ a ∧ a < 1346 ∧ ¬ (326 ≤ a ∧ a ≤ 330)
theorem gk_mid (hg : gk G σ) {a : Nat} (ha : G a) : ¬ mid a := fun z => by
  have := (hg.1 a ha).2.1
  unfold outF at this
  unfold mid at z
  omega
theorem shE_mid (h : shE G σ s S) (hg : gk G σ) (hf : fr X Y n σ σ2) (hx : ∀ a, X a → mid a) (hy : ∀ a, Y a → mid a) : shE G σ2 s S :=
  shE_fr h hg hf (fun a ha => ⟨fun z => gk_mid hg ha (hx a z), fun z => gk_mid hg ha (hy a z)⟩) (fun a ha => by
    have := h.out ha
    exact ⟨fun z => by have := hx a z; unfold mid at this; omega, fun z => by have := hy a z; unfold mid at this; omega⟩)
theorem nd_mid {a i : Nat} {t : Fm} (hw : wf t) (h0 : nd G σ t a i) (hg : gk G σ) (hf : fr X Y n σ σ2) (hx : ∀ a, X a → mid a) (hy : ∀ a, Y a → mid a) : nd G σ2 t a i :=
  nd_fr hw h0 hg hf (fun a ha => ⟨fun z => gk_mid hg ha (hx a z), fun z => gk_mid hg ha (hy a z)⟩)
theorem shE.shk (h : shE G σ s S) : shk S := by
  obtain ⟨_, h2, c, xs, g1, g2, g3, g4, g5, g6, g7, g8⟩ := h
  refine ⟨fun c hc => (h2 c hc).1, fun q hq => ?_⟩
  obtain ⟨i, hi, rfl⟩ := List.mem_iff_getElem.mp hq
  obtain ⟨x, _, hr⟩ := g8 i _ (List.getElem?_eq_getElem hi)
  exact hr.1
/-- a name by its text -/
def nmTx (N : List Nm) (u : List Nat) : Option Nat := N.findIdx? fun q => decide (dec q.1 = u)
def opm (o : Option Nat) : Int32 := match o with
  | some n => zi n
  | none => zi (-1)
theorem dec_inj {a b : Nat} (ha : okN a) (hb : okN b) : dec a = dec b ↔ a = b := ⟨fun z => by rw [← (okN_dec ha).1, z, (okN_dec hb).1], fun z => by rw [z]⟩
theorem nmTx_at {N : List Nm} (hN : nmo N) {c : Nat} (hc : okN c) : nmTx N (dec c) = nmAt N c := by
  unfold nmTx nmAt
  induction N with
  | nil => rfl
  | cons q N ih =>
    rw [List.findIdx?_cons, List.findIdx?_cons, ih (fun q hq => hN q (List.mem_cons_of_mem _ hq))]
    have e : decide (dec q.1 = dec c) = (q.1 == c) := by
      by_cases z : q.1 = c
      · rw [z]; simp
      · rw [decide_eq_false (fun y => z ((dec_inj (hN q List.mem_cons_self).1 hc).mp y))]
        exact (beq_eq_false_iff_ne.mpr z).symm
    rw [e]
variable {d : Nat} {Q : cm_O → Prop}
theorem r_size (h0 : shE G σ s S) (hd : 2 ≤ d) (h : Q (false, .int (zi (S.2.length : Nat)), σ)) : wp_c d 116 [.ref (s + 2)] σ Q := by
  obtain ⟨⟨a1, a2, a3, a4, a5, a6, a7, a8, a9⟩, h2, c, xs, g1, g2, g3, g4, g5, g6, g7, g8⟩ := h0
  refine k116 hd ⟨a6, by rw [a7]; exact g1.1.1, ?_⟩
  rw [a7]
  exact l_size g1 (by omega) ⟨_, _, rfl, by rw [g6]; exact h⟩
theorem r_get (h0 : shE G σ s S) {k : Nat} {q : Nm} (hq : S.2[k]? = some q) (hd : 6 ≤ d) (h : ∀ x, rnm G σ x q → Q (false, .ref x, σ)) : wp_c d 113 [.ref (s + 2), .int (zi (k : Int))] σ Q := by
  obtain ⟨⟨a1, a2, a3, a4, a5, a6, a7, a8, a9⟩, h2, c, xs, g1, g2, g3, g4, g5, g6, g7, g8⟩ := h0
  obtain ⟨x, hx, hr⟩ := g8 k q hq
  refine k113 (by omega) ⟨a6, by rw [a7]; exact g1.1.1, ?_⟩
  rw [a7]
  exact l_get g1 hx (by omega) ⟨_, _, rfl, Or.inr (by rw [hr.2.1.1]; rfl), h x hr⟩
theorem r_find (h0 : shE G σ s S) {u : List Nat} (hx : isStr σ x u) (hx0 : x ≠ 0) (hd : 8 ≤ d) (h : Q (false, .int (opm (nmTx S.2 u)), σ)) : wp_c d 112 [.ref (s + 2), .ref x] σ Q := by
  obtain ⟨⟨a1, a2, a3, a4, a5, a6, a7, a8, a9⟩, h2, c, xs, g1, g2, g3, g4, g5, g6, g7, g8⟩ := h0
  have key : ∀ n k : Nat, k + n = S.2.length → (∀ j, j < k → ∀ q, S.2[j]? = some q → dec q.1 ≠ u) → wp_r (d - 1) 112 (2, [.ref (s + 2), .ref x, .int (zi (k : Int))], [], σ) Q := by
    intro n
    induction n with
    | zero =>
      intro k hk hj
      refine k112_2 (by omega) ⟨a6, by rw [a7]; exact g1.1.1, ?_⟩
      rw [a7]
      refine l_size g1 (by omega) ⟨_, _, rfl, fun z => ?_, fun _ => ?_⟩
      · rw [zi_lt (by omega) (by omega) (by omega) (by omega)] at z; omega
      · have : nmTx S.2 u = none := by
          unfold nmTx
          rw [List.findIdx?_eq_none_iff]
          intro q hq
          obtain ⟨i, hi, rfl⟩ := List.mem_iff_getElem.mp hq
          exact decide_eq_false (hj i (by omega) _ (List.getElem?_eq_getElem hi))
        rw [this] at h; exact h
    | succ n ih =>
      intro k hk hj
      refine k112_2 (by omega) ⟨a6, by rw [a7]; exact g1.1.1, ?_⟩
      rw [a7]
      refine l_size g1 (by omega) ⟨_, _, rfl, fun _ => ⟨a6, by rw [a7]; exact g1.1.1, ?_⟩, fun z => ?_⟩
      · rw [a7]
        have hkl : k < S.2.length := (by omega)
        obtain ⟨y, hy, hr⟩ := g8 k _ (List.getElem?_eq_getElem hkl)
        refine l_get g1 hy (by omega) ⟨_, _, rfl, Or.inr (by rw [hr.2.1.1]; rfl), hr.2.1.1, k448 (by omega) ⟨hr.2.1.1, _, _, rfl, hr.2.2.1.1.1, s_equals hr.2.2.1.1 hx (Or.inr (Or.inr (Or.inr (Or.inl hr.2.2.2.1)))) hx0 (by omega) ⟨_, _, rfl, fun z => ?_, fun z => ?_⟩⟩⟩
        · rw [bz_0, decide_eq_false_iff_not] at z
          rw [zn_a k 1 1 rfl]
          refine ih (k + 1) (by omega) fun j hj2 q hq => ?_
          by_cases e : j = k
          · subst e
            rw [List.getElem?_eq_getElem hkl] at hq
            cases hq; exact z
          · exact hj j (by omega) q hq
        · rw [bz_0, Bool.not_eq_false, decide_eq_true_eq] at z
          have : nmTx S.2 u = some k := by
            unfold nmTx
            rw [List.findIdx?_eq_some_iff_getElem]
            exact ⟨hkl, decide_eq_true z, fun j hj2 y => hj j hj2 _ (List.getElem?_eq_getElem (by omega)) (of_decide_eq_true y)⟩
          rw [this] at h; exact h
      · rw [zi_lt (by omega) (by omega) (by omega) (by omega)] at z; omega
  exact k112 (by omega) (key S.2.length 0 (by omega) (fun j hj => absurd hj (Nat.not_lt_zero j)))
theorem e_in {a b c : Int} (hE : en_ok σ) (ha : -2147483648 ≤ a ∧ a < 2147483648) (hb : -2147483648 ≤ b ∧ b < 2147483648) (hc : -2147483648 ≤ c ∧ c < 2147483648) (hd : 1 ≤ d) (h : Q (false, .int (bz (decide (b ≤ a ∧ a ≤ c))), σ)) : wp_c d 38 [.int (zi a), .int (zi b), .int (zi c)] σ Q := by
  refine k38 hE hd ⟨fun z => ?_, fun z => ⟨fun y => ?_, fun y => ?_⟩⟩
  · rw [zi_lt (by omega) (by omega) (by omega) (by omega)] at z; rw [decide_eq_false (by omega)] at h; exact h
  · rw [zi_lt (by omega) (by omega) (by omega) (by omega)] at y; rw [decide_eq_false (by omega)] at h; exact h
  · rw [zi_lt (by omega) (by omega) (by omega) (by omega)] at z y; rw [decide_eq_true (by omega)] at h; exact h
theorem e_within {c f l : Nat} (hE : en_ok σ) (hc : c < 1000) (hf : f < 1000) (hl : l < 1000) (hd : 2 ≤ d) (h : Q (false, .int (bz (inb c f l)), σ)) : wp_c d 45 [.int (zi (c : Int)), .int (zi (f : Int)), .int (zi (l : Int))] σ Q := by
  refine k45 hE (by omega) ?_
  rw [zi_rem (by omega) (by omega) (by omega) (by omega), zi_rem (by omega) (by omega) (by omega) (by omega), zi_rem (by omega) (by omega) (by omega) (by omega)]
  refine e_in hE ⟨by omega, by omega⟩ ⟨by omega, by omega⟩ ⟨by omega, by omega⟩ (by omega) ⟨_, _, rfl, fun z => ?_, fun z => ?_⟩
  · rw [bz_0, decide_eq_false_iff_not] at z
    unfold inb at h
    rw [decide_eq_false (fun y => z (by omega))] at h; exact h
  · rw [bz_0, Bool.not_eq_false, decide_eq_true_eq] at z
    rw [zi_div (by omega) (by omega) (by omega) (by omega), zi_div (by omega) (by omega) (by omega) (by omega), zi_div (by omega) (by omega) (by omega) (by omega)]
    refine e_in hE ⟨by omega, by omega⟩ ⟨by omega, by omega⟩ ⟨by omega, by omega⟩ (by omega) ⟨_, _, rfl, fun y => ?_, fun y => ?_⟩
    · rw [bz_0, decide_eq_false_iff_not] at y
      unfold inb at h
      rw [decide_eq_false (fun w => y (by omega))] at h; exact h
    · rw [bz_0, Bool.not_eq_false, decide_eq_true_eq] at y
      unfold inb at h
      rw [decide_eq_true (by omega)] at h; exact h
/-- corners of a range -/
def rgF (u v : Nat) : Nat := 12 * min (u % 240 / 12) (v % 240 / 12) + min (u % 240 % 12) (v % 240 % 12)
def rgL (u v : Nat) : Nat := 12 * max (u % 240 / 12) (v % 240 / 12) + max (u % 240 % 12) (v % 240 % 12)
theorem e_first {x u v : Nat} (hE : en_ok σ) (h0 : cm_tg σ x = 16) (h1 : nref G σ (cm_R σ x 0) u) (h2 : nref G σ (cm_R σ x 1) v) (hd : 2 ≤ d) (h : Q (false, .int (zi ((rgF u v : Nat) : Int)), σ)) : wp_c d 26 [.ref x] σ Q := by
  refine k26 hE (by omega) ⟨h0, h1.1.1, h2.1.1, ?_⟩
  rw [h1.2.2.1, h2.2.2.1]
  refine m_min ⟨by omega, by omega⟩ ⟨by omega, by omega⟩ (by omega) ⟨_, _, rfl, h0, h1.1.1, h2.1.1, ?_⟩
  rw [h1.2.1, h2.2.1]
  refine m_min ⟨by omega, by omega⟩ ⟨by omega, by omega⟩ (by omega) ⟨_, _, rfl, ?_⟩
  dsimp only
  rw [zi_mul, zi_add]
  unfold rgF at h
  rw [show 12 * min ((u % 240 / 12 : Nat) : Int) ((v % 240 / 12 : Nat) : Int) + min ((u % 240 % 12 : Nat) : Int) ((v % 240 % 12 : Nat) : Int) = ((12 * min (u % 240 / 12) (v % 240 / 12) + min (u % 240 % 12) (v % 240 % 12) : Nat) : Int) from (by omega)]
  exact h
theorem e_last {x u v : Nat} (hE : en_ok σ) (h0 : cm_tg σ x = 16) (h1 : nref G σ (cm_R σ x 0) u) (h2 : nref G σ (cm_R σ x 1) v) (hd : 2 ≤ d) (h : Q (false, .int (zi ((rgL u v : Nat) : Int)), σ)) : wp_c d 48 [.ref x] σ Q := by
  refine k48 hE (by omega) ⟨h0, h1.1.1, h2.1.1, ?_⟩
  rw [h1.2.2.1, h2.2.2.1]
  refine m_max ⟨by omega, by omega⟩ ⟨by omega, by omega⟩ (by omega) ⟨_, _, rfl, h0, h1.1.1, h2.1.1, ?_⟩
  rw [h1.2.1, h2.2.1]
  refine m_max ⟨by omega, by omega⟩ ⟨by omega, by omega⟩ (by omega) ⟨_, _, rfl, ?_⟩
  dsimp only
  rw [zi_mul, zi_add]
  unfold rgL at h
  rw [show 12 * max ((u % 240 / 12 : Nat) : Int) ((v % 240 / 12 : Nat) : Int) + max ((u % 240 % 12 : Nat) : Int) ((v % 240 % 12 : Nat) : Int) = ((12 * max (u % 240 / 12) (v % 240 / 12) + max (u % 240 % 12) (v % 240 % 12) : Nat) : Int) from (by omega)]
  exact h
theorem e_cell {x v : Nat} (h1 : nref G σ x v) (hd : 1 ≤ d) (h : Q (false, .int (zi ((v % 240 : Nat) : Int)), σ)) : wp_c d 381 [.ref x] σ Q := by
  refine k381 hd ⟨h1.1.1, ?_⟩
  rw [h1.2.1, h1.2.2.1, zi_mul, zi_add, show 12 * ((v % 240 / 12 : Nat) : Int) + ((v % 240 % 12 : Nat) : Int) = ((v % 240 : Nat) : Int) from (by omega)]
  exact h
theorem rgF_box (u v : Nat) : box (rgF u v) (rgL u v) := by unfold box rgF rgL; omega
theorem bxd_rg (u v e : Nat) : inb e (rgF u v) (rgL u v) = bxd (u % 240) (v % 240) e := by
  unfold inb bxd rgF rgL
  apply decide_eq_decide.mpr
  omega
theorem bxd_box {a b : Nat} (h : box a b) (e : Nat) : inb e a b = bxd a b e := by
  unfold inb bxd
  unfold box at h
  apply decide_eq_decide.mpr
  omega
end
