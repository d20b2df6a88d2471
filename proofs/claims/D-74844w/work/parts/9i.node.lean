/-! FORMULAS IN THE HEAP. G: addresses whose objects don't change any more -/
theorem fm_ind {P : Fm → Prop} (h1 : ∀ n, n < 1000000000 → P (.arg n)) (h2 : ∀ v, v < 960 → P (.index v)) (h3 : P .null) (h4 : ∀ c, okN c → P (.length (.arg c))) (h5 : ∀ u v, u < 960 → v < 960 → P (.elem (.index u) (.index v)))
    (h6 : ∀ o l r, wf (.op2 o l r) → wf l → wf r → P l → P r → P (.op2 o l r)) (h7 : ∀ a, wf a → P a → P (.op1 .lneg a)) (h8 : ∀ a, wf a → P a → P (.old a)) (h9 : ∀ f as, wf (.mul (.arg f) as) → wf as → isL as → shp f (ags as) → P as → P (.mul (.arg f) as))
    (h10 : ∀ a r, wf a → wf r → isL r → P a → P r → P (.div a r)) (h11 : P .result) : ∀ t : Fm, wf t → P t := by
  intro t
  induction t with
  | arg n => exact h1 n
  | index v => exact h2 v
  | null => exact fun _ => h3
  | length a iha =>
    intro h
    cases a with
    | arg c => exact h4 c h
    | _ => exact absurd h (by simp [wf])
  | elem a b _ _ =>
    intro h
    cases a with
    | index u =>
      cases b with
      | index v => exact h5 u v h.1 h.2
      | _ => exact absurd h (by simp [wf])
    | _ => exact absurd h (by simp [wf])
  | op2 o l r ihl ihr => intro h; exact h6 o l r h h.1 h.2.1 (ihl h.1) (ihr h.2.1)
  | op1 o a iha => intro h; cases o <;> first | exact h7 a h.1 (iha h.1) | exact absurd h (by simp [wf])
  | old a iha => intro h; exact h8 a h.1 (iha h.1)
  | mul a as _ ih =>
    intro h
    cases a with
    | arg f => exact h9 f as h h.1 h.2.1 h.2.2 (ih h.1)
    | _ => exact absurd h (by simp [wf])
  | div a r iha ihr => intro h; exact h10 a r h.1 h.2.1 h.2.2.1 (iha h.1) (ihr h.2.1)
  | result => exact fun _ => h11
  | _ => intro h; exact absurd h (by simp [wf])
/-- not among the fixed objects -/
def outF (a : Nat) : Prop := a < 322 ∨ 1346 ≤ a
def gk (G : Nat → Prop) (σ : cm_S) : Prop := (∀ a, G a → a < cm_nx σ ∧ outF a ∧ 0 < a) ∧ ∀ a, 0 < a → a < 322 → G a
def inH (G : Nat → Prop) (σ : cm_S) (a t : Nat) : Prop := cm_tg σ a = t ∧ G a
def sIn (G : Nat → Prop) (σ : cm_S) (x : Nat) (s : List Nat) : Prop := isStr σ x s ∧ G x ∧ G (cm_R σ x 0)
def hsh (s : List Nat) : Int32 := s.foldl (fun (h : Int32) (x : Nat) => zi 31 * h + zi (x : Int)) (zi 0)
/-- an operator's text: its hash is unknown or right -/
def opS (G : Nat → Prop) (σ : cm_S) (x : Nat) (s : List Nat) : Prop := sIn G σ x s ∧ (cm_I σ x 2 = hsh s ∨ (cm_I σ x 2 = zi 0 ∧ 322 ≤ x ∧ 322 ≤ cm_R σ x 0)) ∧ cm_I σ x 3 = zi 0 ∧ (x < 34 ∨ 322 ≤ x)
def nref (G : Nat → Prop) (σ : cm_S) (a v : Nat) : Prop := inH G σ a 15 ∧ cm_I σ a 0 = zi ((v % 240 % 12 : Nat) : Int) ∧ cm_I σ a 1 = zi ((v % 240 / 12 : Nat) : Int) ∧ cm_I σ a 2 = bz (decide (v / 240 % 2 = 1)) ∧ cm_I σ a 3 = bz (decide (v / 240 / 2 = 1))
/-- the formula at a; arguments: those of the array a from i on -/
def nd (G : Nat → Prop) (σ : cm_S) : Fm → Nat → Nat → Prop
  | .arg n, a, _ => inH G σ a 11 ∧ cm_I σ a 0 = zi (n : Int)
  | .index v, a, _ => nref G σ a v
  | .null, a, _ => inH G σ a 14
  | .length (.arg c), a, _ => inH G σ a 13 ∧ sIn G σ (cm_R σ a 0) (dec c) ∧ 322 ≤ cm_R σ a 0
  | .elem (.index u) (.index v), a, _ => inH G σ a 16 ∧ nref G σ (cm_R σ a 0) u ∧ nref G σ (cm_R σ a 1) v
  | .op2 o l r, a, _ => inH G σ a 19 ∧ opS G σ (cm_R σ a 0) (opT (opc o)) ∧ nd G σ l (cm_R σ a 1) 0 ∧ nd G σ r (cm_R σ a 2) 0
  | .op1 _ t, a, _ => inH G σ a 18 ∧ nd G σ t (cm_R σ a 0) 0
  | .old t, a, _ => inH G σ a 12 ∧ nd G σ t (cm_R σ a 0) 0
  | .mul (.arg f) as, a, _ => inH G σ a 17 ∧ cm_R σ a 0 = f + 1 ∧ (∃ b c xs, ls σ (cm_R σ a 1) b c xs ∧ xs.length = (ags as).length ∧ G (cm_R σ a 1)) ∧ nd G σ as (cm_R σ (cm_R σ a 1) 1) 0
  | .div t r, a, i => G a ∧ nd G σ t (cm_R σ a i) 0 ∧ nd G σ r a (i + 1)
  | .result, a, _ => G a
  | _, _, _ => False
/-- an object is the same, but for a string's hash -/
def sm (σ σ2 : cm_S) (a : Nat) : Prop := cm_tg σ2 a = cm_tg σ a ∧ cm_ln σ2 a = cm_ln σ a ∧ cm_R σ2 a = cm_R σ a ∧ cm_L σ2 a = cm_L σ a ∧ ∀ i, cm_I σ2 a i = cm_I σ a i ∨ (i = 2 ∧ cm_tg σ a = 29 ∧ 322 ≤ a ∧ ∃ s, isStr σ a s ∧ cm_I σ2 a 2 = hsh s)
section
variable {G G2 : Nat → Prop} {σ σ2 : cm_S} {a i x l b c : Nat} {s xs : List Nat}
theorem sm.I (h : sm σ σ2 a) (hn : i ≠ 2 ∨ cm_tg σ a ≠ 29) : cm_I σ2 a i = cm_I σ a i := by
  rcases h.2.2.2.2 i with e | ⟨e1, e2, _⟩
  · exact e
  · exact absurd hn (fun z => z.elim (fun z => z e1) (fun z => z e2))
theorem sm.It (h : sm σ σ2 a) {t : Nat} (ht : cm_tg σ a = t) (hn : t ≠ 29) (i : Nat) : cm_I σ2 a i = cm_I σ a i := h.I (Or.inr (by rw [ht]; exact hn))
theorem sm.Rr (h : sm σ σ2 a) (i : Nat) : cm_R σ2 a i = cm_R σ a i := congrFun h.2.2.1 i
theorem isStr_sm (h : isStr σ x s) (h1 : sm σ σ2 x) (h2 : sm σ σ2 (cm_R σ x 0)) : isStr σ2 x s := by
  obtain ⟨g1, g2, g3, g4, g5, g6⟩ := h
  refine ⟨h1.1.trans g1, (h1.I (Or.inl (by decide))).trans g2, by rw [h1.Rr, h2.1]; exact g3, by rw [h1.Rr, h2.2.1]; exact g4, g5, fun i y hy => ?_⟩
  rw [h1.Rr, h2.It g3 (by decide)]
  exact g6 i y hy
theorem sIn_sm (hG : ∀ a, G a → G2 a ∧ sm σ σ2 a) (h : sIn G σ x s) : sIn G2 σ2 x s := by
  obtain ⟨h1, h2, h3⟩ := h
  exact ⟨isStr_sm h1 (hG _ h2).2 (hG _ h3).2, (hG _ h2).1, by rw [(hG _ h2).2.Rr]; exact (hG _ h3).1⟩
theorem opS_sm (hG : ∀ a, G a → G2 a ∧ sm σ σ2 a) (h : opS G σ x s) : opS G2 σ2 x s := by
  obtain ⟨h1, h2, h3⟩ := h
  have hx := (hG _ h1.2.1).2
  refine ⟨sIn_sm hG h1, ?_, (hx.I (Or.inl (by decide))).trans h3.1, h3.2⟩
  rcases hx.2.2.2.2 2 with e | ⟨_, _, e3, s2, e4, e5⟩
  · rw [e, hx.Rr]; exact h2
  · rw [e5, str_inj e4 h1.1]; exact Or.inl rfl
theorem nref_sm (hG : ∀ a, G a → G2 a ∧ sm σ σ2 a) {v : Nat} (h : nref G σ a v) : nref G2 σ2 a v := by
  obtain ⟨⟨t, g⟩, h1, h2, h3, h4⟩ := h
  have hx := (hG _ g).2
  have e := fun i => hx.It t (by decide) i
  exact ⟨⟨hx.1.trans t, (hG _ g).1⟩, (e 0).trans h1, (e 1).trans h2, (e 2).trans h3, (e 3).trans h4⟩
theorem ls_sm (h : ls σ l b c xs) (h1 : sm σ σ2 l) (h2 : sm σ σ2 b) : ls σ2 l b c xs := by
  obtain ⟨⟨t1, r1, t2, l2, a1, b1, c1⟩, i1, hn, hr, hz⟩ := h
  exact ⟨⟨h1.1.trans t1, (h1.Rr 1).trans r1, h2.1.trans t2, h2.2.1.trans l2, a1, b1, c1⟩, (h1.It t1 (by decide) 2).trans i1, hn, fun i x hx => (h2.Rr i).trans (hr i x hx), fun i hi => (h2.Rr i).trans (hz i hi)⟩
theorem nd_G : ∀ t : Fm, wf t → ∀ a i, nd G σ t a i → G a := by
  refine fm_ind (fun n _ a i h => h.1.2) (fun v _ a i h => h.1.2) (fun a i h => h.2) (fun c _ a i h => h.1.2) (fun u v _ _ a i h => h.1.2) (fun o l r _ _ _ _ _ a i h => h.1.2) (fun t _ _ a i h => h.1.2) (fun t _ _ a i h => h.1.2) (fun f as _ _ _ _ _ a i h => h.1.2) (fun t r _ _ _ _ _ a i h => h.1) (fun a i h => h)
theorem nd_sm (hG : ∀ a, G a → G2 a ∧ sm σ σ2 a) : ∀ t : Fm, wf t → ∀ a i, nd G σ t a i → nd G2 σ2 t a i := by
  have hi : ∀ {a t}, inH G σ a t → inH G2 σ2 a t := fun h => ⟨(hG _ h.2).2.1.trans h.1, (hG _ h.2).1⟩
  have hr : ∀ {a t} (j : Nat), inH G σ a t → cm_R σ2 a j = cm_R σ a j := fun j h => (hG _ h.2).2.Rr j
  refine fm_ind (fun n _ a i h => ⟨hi h.1, ((hG _ h.1.2).2.It h.1.1 (by decide) 0).trans h.2⟩) (fun v _ a i h => nref_sm hG h) (fun a i h => hi h) (fun c _ a i h => ⟨hi h.1, by rw [hr 0 h.1]; exact sIn_sm hG h.2.1, by rw [hr 0 h.1]; exact h.2.2⟩)
    (fun u v _ _ a i h => ⟨hi h.1, by rw [hr 0 h.1]; exact nref_sm hG h.2.1, by rw [hr 1 h.1]; exact nref_sm hG h.2.2⟩) ?_ (fun t _ ih a i h => ⟨hi h.1, by rw [hr 0 h.1]; exact ih _ _ h.2⟩) (fun t _ ih a i h => ⟨hi h.1, by rw [hr 0 h.1]; exact ih _ _ h.2⟩) ?_
    (fun t r _ _ _ iht ihr a i h => ⟨(hG _ h.1).1, by rw [(hG _ h.1).2.Rr]; exact iht _ _ h.2.1, ihr _ _ h.2.2⟩) (fun a i h => (hG _ h).1)
  · intro o l r _ _ _ ihl ihr a i h
    exact ⟨hi h.1, by rw [hr 0 h.1]; exact opS_sm hG h.2.1, by rw [hr 1 h.1]; exact ihl _ _ h.2.2.1, by rw [hr 2 h.1]; exact ihr _ _ h.2.2.2⟩
  · intro f as _ hw hL _ ih a i h
    obtain ⟨h1, h2, ⟨b, c, xs, h3, h4, h5⟩, h6⟩ := h
    have hb : G b := by
      have := nd_G as hw _ _ h6
      rw [h3.1.2.1] at this; exact this
    refine ⟨hi h1, (hr 0 h1).trans h2, ⟨b, c, xs, by rw [hr 1 h1]; exact ls_sm h3 (hG _ h5).2 (hG _ hb).2, h4, by rw [hr 1 h1]; exact (hG _ h5).1⟩, ?_⟩
    rw [hr 1 h1, (hG _ h5).2.Rr]
    exact ih _ _ h6
theorem nd_mono (h : ∀ a, G a → G2 a) {t : Fm} (hw : wf t) (h0 : nd G σ t a i) : nd G2 σ t a i := nd_sm (fun a ha => ⟨h a ha, rfl, rfl, rfl, rfl, fun _ => Or.inl rfl⟩) t hw a i h0
variable {X Y : Nat → Prop} {n : Nat}
theorem fr_sm (hf : fr X Y n σ σ2) (ha : a < cm_nx σ) (hx : ¬ X a) (hy : ¬ Y a) : sm σ σ2 a := ⟨hf.tg ha, hf.ln ha, hf.R ha hy, hf.L ha hx, fun i => Or.inl (congrFun (hf.I ha hx) i)⟩
theorem nd_fr {t : Fm} (hw : wf t) (h0 : nd G σ t a i) (hg : gk G σ) (hf : fr X Y n σ σ2) (hx : ∀ a, G a → ¬ X a ∧ ¬ Y a) : nd G σ2 t a i := nd_sm (fun a ha => ⟨ha, fr_sm hf (hg.1 a ha).1 (hx a ha).1 (hx a ha).2⟩) t hw a i h0
theorem gk_nx (hg : gk G σ) (hn : cm_nx σ ≤ cm_nx σ2) : gk G σ2 := ⟨fun a ha => ⟨Nat.lt_of_lt_of_le (hg.1 a ha).1 hn, (hg.1 a ha).2⟩, hg.2⟩
end
/-- what was made meanwhile belongs to it too -/
def gx (G : Nat → Prop) (σ σ2 : cm_S) : Nat → Prop := fun a => G a ∨ (cm_nx σ ≤ a ∧ a < cm_nx σ2)
theorem gk_gx {G : Nat → Prop} {σ σ2 : cm_S} (hg : gk G σ) (h : 1346 ≤ cm_nx σ) (hn : cm_nx σ ≤ cm_nx σ2) : gk (gx G σ σ2) σ2 :=
  ⟨fun a ha => ha.elim (fun z => (gk_nx hg hn).1 a z) (fun z => ⟨z.2, Or.inr (Nat.le_trans h z.1), (by omega)⟩), fun a h1 h2 => Or.inl (hg.2 a h1 h2)⟩
/-- how high a tree is -/
def hh : Fm → Nat
  | .op2 _ l r => max (hh l) (hh r) + 1
  | .op1 _ a => hh a + 1
  | .old a => hh a + 1
  | .mul _ as => hh as + 1
  | .div a r => max (hh a) (hh r)
  | _ => 0
/-- calls in a tree -/
def nca : Fm → Nat
  | .op2 _ l r => nca l + nca r
  | .op1 _ a => nca a
  | .old a => nca a
  | .mul _ as => nca as + 1
  | .div a r => nca a + nca r
  | _ => 0
/-- bytes that a tree takes at least -/
def wt : Fm → Nat
  | .index _ => 2
  | .elem _ _ => 5
  | .op2 _ l r => wt l + wt r + 1
  | .op1 _ a => wt a + 1
  | .old a => wt a + 2
  | .mul _ as => wt as + 4
  | .div a .result => wt a
  | .div a r => wt a + wt r + 1
  | .result => 0
  | _ => 1
/-- a formula, no row of arguments -/
def nn (t : Fm) : Prop := ar t ∨ 1 ≤ lv t
theorem nn_lv {t : Fm} {k : Nat} (h : k ≤ lv t) (hk : 1 ≤ k) : nn t := Or.inr (Nat.le_trans hk h)
theorem fm_ind2 {P R : Fm → Prop} (h1 : ∀ n, n < 1000000000 → P (.arg n)) (h2 : ∀ v, v < 960 → P (.index v)) (h3 : P .null) (h4 : ∀ c, okN c → P (.length (.arg c))) (h5 : ∀ u v, u < 960 → v < 960 → P (.elem (.index u) (.index v)))
    (h6 : ∀ o l r, ocl o ≠ 0 → wf l → wf r → nn l → nn r → P l → P r → P (.op2 o l r)) (h7 : ∀ a, wf a → nn a → P a → P (.op1 .lneg a)) (h8 : ∀ a, wf a → nn a → P a → P (.old a)) (h9 : ∀ f as, wf as → isL as → shp f (ags as) → R as → P (.mul (.arg f) as))
    (h10 : ∀ a r, wf a → wf r → nn a → isL r → P a → R r → R (.div a r)) (h11 : R .result) (t : Fm) (hw : wf t) : (nn t → P t) ∧ (isL t → R t) := by
  induction t with
  | arg n => exact ⟨fun _ => h1 n hw, fun z => z.elim⟩
  | index v => exact ⟨fun _ => h2 v hw, fun z => z.elim⟩
  | null => exact ⟨fun _ => h3, fun z => z.elim⟩
  | length a iha =>
    cases a with
    | arg c => exact ⟨fun _ => h4 c hw, fun z => z.elim⟩
    | _ => exact absurd hw (by simp [wf])
  | elem a b _ _ =>
    cases a with
    | index u =>
      cases b with
      | index v => exact ⟨fun _ => h5 u v hw.1 hw.2, fun z => z.elim⟩
      | _ => exact absurd hw (by simp [wf])
    | _ => exact absurd hw (by simp [wf])
  | op2 o l r ihl ihr =>
    obtain ⟨w1, w2, w3, w4, w5⟩ := hw
    have n1 : nn l := by
      refine Or.inr (Nat.le_trans ?_ w4)
      by_cases e : ocl o = 1
      · rw [if_pos e]; omega
      · rw [if_neg e]; omega
    have n2 : nn r := Or.inr (Nat.le_trans (by omega) w5)
    exact ⟨fun _ => h6 o l r w3 w1 w2 n1 n2 ((ihl w1).1 n1) ((ihr w2).1 n2), fun z => z.elim⟩
  | op1 o a iha =>
    cases o <;> first
      | exact ⟨fun _ => h7 a hw.1 (nn_lv hw.2 (by decide)) ((iha hw.1).1 (nn_lv hw.2 (by decide))), fun z => z.elim⟩
      | exact absurd hw (by simp [wf])
  | old a iha => exact ⟨fun _ => h8 a hw.1 (Or.inr hw.2) ((iha hw.1).1 (Or.inr hw.2)), fun z => z.elim⟩
  | mul a as _ ih =>
    cases a with
    | arg f => exact ⟨fun _ => h9 f as hw.1 hw.2.1 hw.2.2 ((ih hw.1).2 hw.2.1), fun z => z.elim⟩
    | _ => exact absurd hw (by simp [wf])
  | div a r iha ihr => exact ⟨fun z => z.elim (fun z => z.elim) (fun z => absurd (show 1 ≤ 0 from z) (by decide)), fun _ => h10 a r hw.1 hw.2.1 hw.2.2.2 hw.2.2.1 ((iha hw.1).1 hw.2.2.2) ((ihr hw.2.1).2 hw.2.2.1)⟩
  | result => exact ⟨fun z => z.elim (fun z => z.elim) (fun z => absurd (show 1 ≤ 0 from z) (by decide)), fun _ => h11⟩
  | _ => exact absurd hw (by simp [wf])
theorem nd_tg {G : Nat → Prop} {σ : cm_S} {t : Fm} (hw : wf t) (hn : nn t) {a : Nat} (h : nd G σ t a 0) : 11 ≤ cm_tg σ a ∧ cm_tg σ a ≤ 19 := by
  refine (fm_ind2 (P := fun t => ∀ a, nd G σ t a 0 → 11 ≤ cm_tg σ a ∧ cm_tg σ a ≤ 19) (R := fun _ => True) ?_ ?_ ?_ ?_ ?_ ?_ ?_ ?_ ?_ (fun _ _ _ _ _ _ _ _ => trivial) trivial t hw).1 hn a h
  · intro n _ a h; rw [h.1.1]; decide
  · intro n _ a h; rw [h.1.1]; decide
  · intro a h; rw [h.1]; decide
  · intro n _ a h; rw [h.1.1]; decide
  · intro u v _ _ a h; rw [h.1.1]; decide
  · intro o l r _ _ _ _ _ _ _ a h; rw [h.1.1]; decide
  · intro o _ _ _ a h; rw [h.1.1]; decide
  · intro o _ _ _ a h; rw [h.1.1]; decide
  · intro o l _ _ _ _ a h; rw [h.1.1]; decide
theorem cast_n (t : Nat) (h1 : 11 ≤ t) (h2 : t ≤ 19) : cp_cast 0 t = some true := by
  have : ∀ k, k < 9 → cp_cast 0 (11 + k) = some true := by decide +kernel
  have h := this (t - 11) (by omega)
  rw [show 11 + (t - 11) = t from (by omega)] at h
  exact h
theorem nd_cast {G : Nat → Prop} {σ : cm_S} {t : Fm} (hw : wf t) (hn : nn t) {a : Nat} (h : nd G σ t a 0) : cp_cast 0 (cm_tg σ a) = some true := cast_n _ (nd_tg hw hn h).1 (nd_tg hw hn h).2
theorem nd_asg {G : Nat → Prop} {σ : cm_S} {t : Fm} (hw : wf t) (hn : nn t) {a : Nat} (h : nd G σ t a 0) : 0 < cm_tg σ a ∧ cm_tg σ a < 32 := by have := nd_tg hw hn h; omega
