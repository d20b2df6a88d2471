/-! ENGINE: the finder (whether a name occurs) -/
/-- a text at x -/
def tx (σ : cm_S) (x : Nat) (s : List Nat) : Prop := isStr σ x s ∧ 322 ≤ x ∧ x < cm_nx σ ∧ cm_R σ x 0 < cm_nx σ
theorem tx_fr {X Y : Nat → Prop} {n x : Nat} {s : List Nat} {σ σ2 : cm_S} (h : tx σ x s) (hf : fr X Y n σ σ2) (hx : ¬ X x) (hy : ¬ Y x) (hr : ¬ X (cm_R σ x 0)) : tx σ2 x s := by
  obtain ⟨h1, h2, h3, h4⟩ := h
  obtain ⟨g1, g2⟩ := isStr_fr h1 hf h3 h4 hx hy hr
  exact ⟨g1, h2, Nat.lt_of_lt_of_le h3 hf.1, by rw [g2]; exact Nat.lt_of_lt_of_le h4 hf.1⟩
def fiT (s : List Nat) : Fm → Bool
  | .length (.arg c) => decide (dec c = s)
  | .op2 _ l r => fiT s l || fiT s r
  | .op1 _ a => fiT s a
  | .old a => fiT s a
  | .mul (.arg _) as => fiT s as
  | .div a r => fiT s a || fiT s r
  | _ => false
/-- the text that is sought -/
def ftx (σ : cm_S) (s : List Nat) : Prop := tx σ (cm_R σ 325 0) s
section
variable {G : Nat → Prop} {s : List Nat}
theorem ftx_fr {σ σ2 : cm_S} {X : Nat → Prop} {n : Nat} (hn : 1346 ≤ cm_nx σ) (h : ftx σ s) (hf : fr X no_ n σ σ2) (hx : ¬ X (cm_R σ 325 0)) (hr : ¬ X (cm_R σ (cm_R σ 325 0) 0)) : ftx σ2 s := by
  have e : cm_R σ2 325 0 = cm_R σ 325 0 := congrFun (hf.R (by omega) (fun z => z)) 0
  unfold ftx
  rw [e]
  exact tx_fr h hf hx (fun z => z) hr
theorem ftx_no {σ σ2 : cm_S} {n : Nat} (hn : 1346 ≤ cm_nx σ) (h : ftx σ s) (hf : fr no_ no_ n σ σ2) : ftx σ2 s := ftx_fr hn h hf (fun z => z) (fun z => z)
/-- a formula's turn -/
def fdP (G : Nat → Prop) (s : List Nat) (t : Fm) : Prop := ∀ (a d : Nat) (σ : cm_S) (Q : cm_O → Prop), nd G σ t a 0 → eB G σ → ftx σ s → 4 * hh t + 12 ≤ d → (∀ σ2, fr no_ no_ (nca t) σ σ2 → Q (false, .ref (bo (fiT s t)), σ2)) → acc d 325 a σ Q
def fdR (G : Nat → Prop) (s : List Nat) (t : Fm) : Prop := ∀ (σ : cm_S) (d : Nat) (Q : cm_O → Prop) (i it l b c : Nat) (xs : List Nat) (x : Bool) (x1 : Nat) (x4 : Value), nd G σ t b i → eB G σ → ftx σ s → ls σ l b c xs → itr σ it l i → xs.length = i + (ags t).length → G l → ¬ G it → it < cm_nx σ → 4 * hh t + 13 ≤ d →
  (∀ σ2, fr (fun y => y = it) no_ (nca t) σ σ2 → Q (false, .ref (bo (x || fiT s t)), σ2)) → wp_r d 95 (12, [.ref 325, .ref x1, .int (bz x), .ref it, x4], [], σ) Q
theorem fi_all (t : Fm) (hw : wf t) : (nn t → fdP G s t) ∧ (isL t → fdR G s t) := by
  refine fm_ind2 (P := fdP G s) (R := fdR G s) ?_ ?_ ?_ ?_ ?_ ?_ ?_ ?_ ?_ ?_ ?_ t hw
  · intro n _ a d σ Q h0 hE hs hd h
    exact fi_lit hE.1 h0.1.1 (by omega) (k98 hE.1 (by omega) (j_bo false (by omega) ⟨_, _, rfl, _, _, rfl, h σ fr_0⟩))
  · intro n _ a d σ Q h0 hE hs hd h
    exact fi_ref hE.1 h0.1.1 (by omega) (k108 hE.1 (by omega) (j_bo false (by omega) ⟨_, _, rfl, _, _, rfl, h σ fr_0⟩))
  · intro a d σ Q h0 hE hs hd h
    exact fi_bro hE.1 h0.1 (by omega) (k93 hE.1 (by omega) (j_bo false (by omega) ⟨_, _, rfl, _, _, rfl, h σ fr_0⟩))
  · intro c hc a d σ Q h0 hE hs hd h
    refine fi_nam hE.1 h0.1.1 (by omega) (k100 hE.1 (by omega) ⟨h0.1.1, h0.2.1.1.1, s_equals h0.2.1.1 hs.1 (Or.inr (Or.inr (Or.inr (Or.inl h0.2.2)))) (by have := hs.2.1; omega) (by omega) ⟨_, _, rfl, j_bo _ (by omega) ⟨_, _, rfl, _, _, rfl, h σ fr_0⟩⟩⟩)
  · intro u v _ _ a d σ Q h0 hE hs hd h
    exact fi_rng hE.1 h0.1.1 (by omega) (k106 hE.1 (by omega) (j_bo false (by omega) ⟨_, _, rfl, _, _, rfl, h σ fr_0⟩))
  · intro o l r _ wl wr nl nr ihl ihr a d σ Q h0 hE hs hd h
    obtain ⟨⟨t0, g0⟩, h1, h2, h3⟩ := h0
    have ha := (hE.2.2.1 _ g0).1
    have hd : 4 * (max (hh l) (hh r) + 1) + 12 ≤ d := hd
    refine fi_bin hE.1 t0 (by omega) (k91 hE.1 (by omega) ⟨t0, ihl _ _ _ _ h2 hE hs (by omega) fun σ1 f1 => ⟨_, _, rfl, ?_⟩⟩)
    have hE1 := eB_no hE f1
    have hs1 := ftx_no hE.1.1 hs f1
    obtain ⟨b1, _⟩ := bo_tg hE1.2.1 (fiT s l)
    refine ⟨Or.inr (by rw [b1]; rfl), b1, j_bv hE1.2.1 _ (by omega) ⟨_, _, rfl, fun z => ?_, fun z => ?_⟩⟩
    · rw [bz_0] at z
      have e : cm_R σ1 a = cm_R σ a := f1.R ha (fun z => z)
      have h3' := nd_no wr h3 hE.2.2 f1
      rw [e]
      refine ⟨(f1.tg ha).trans t0, ihr _ _ _ _ h3' hE1 hs1 (by omega) fun σ2 f2 => ⟨_, _, rfl, ?_⟩⟩
      have hE2 := eB_no hE1 f2
      obtain ⟨b2, _⟩ := bo_tg hE2.2.1 (fiT s r)
      refine ⟨Or.inr (by rw [b2]; rfl), b2, j_bv hE2.2.1 _ (by omega) ⟨_, _, rfl, fun z2 => ?_, fun z2 => ?_⟩⟩
      · rw [bz_0] at z2
        have := h σ2 (f1.tr_ f2)
        rw [show fiT s (.op2 o l r) = (fiT s l || fiT s r) from rfl, z, z2] at this
        exact j_bo false (by omega) ⟨_, _, rfl, _, _, rfl, this⟩
      · rw [bz_0, Bool.not_eq_false] at z2
        have := h σ2 (f1.tr_ f2)
        rw [show fiT s (.op2 o l r) = (fiT s l || fiT s r) from rfl, z, z2] at this
        exact j_bo true (by omega) ⟨_, _, rfl, _, _, rfl, this⟩
    · rw [bz_0, Bool.not_eq_false] at z
      have := h σ1 (f1.le_ (Nat.le_add_right _ _))
      rw [show fiT s (.op2 o l r) = (fiT s l || fiT s r) from rfl, z] at this
      exact j_bo true (by omega) ⟨_, _, rfl, _, _, rfl, this⟩
  · intro t wt _ ih a d σ Q h0 hE hs hd h
    have hd : 4 * (hh t + 1) + 12 ≤ d := hd
    refine fi_neg hE.1 h0.1.1 (by omega) (k102 hE.1 (by omega) ⟨h0.1.1, ih _ _ _ _ h0.2 hE hs (by omega) fun σ1 f1 => ⟨_, _, rfl, Or.inr ?_, _, _, rfl, h σ1 f1⟩⟩)
    rw [(bo_tg (eB_no hE f1).2.1 _).1]; rfl
  · intro t wt _ ih a d σ Q h0 hE hs hd h
    have hd : 4 * (hh t + 1) + 12 ≤ d := hd
    refine fi_par hE.1 h0.1.1 (by omega) (k104 hE.1 (by omega) ⟨h0.1.1, ih _ _ _ _ h0.2 hE hs (by omega) fun σ1 f1 => ⟨_, _, rfl, Or.inr ?_, _, _, rfl, h σ1 f1⟩⟩)
    rw [(bo_tg (eB_no hE f1).2.1 _).1]; rfl
  · intro f as was hL hsh ih a d σ Q h0 hE hs hd h
    obtain ⟨⟨t0, g0⟩, h1, ⟨b, c, xs, h3, h4, h5⟩, h6⟩ := h0
    have hd : 4 * (hh as + 1) + 12 ≤ d := hd
    have hl := (hE.2.2.1 _ h5).1
    refine fi_cal hE.1 t0 (by omega) (k95 hE.1 (by omega) ⟨t0, h3.1.1, l_iter h3 hl (by omega) fun σ1 f1 hx hi => ⟨_, _, rfl, ?_⟩⟩)
    have f1' := f1 no_ no_
    have hE1 := eB_no hE f1'
    have hb : G b := by
      have := nd_G as was _ _ h6
      rw [h3.1.2.1] at this; exact this
    rw [h3.1.2.1] at h6
    have hit : ¬ G (cm_nx σ) := fun z => absurd (hE.2.2.1 _ z).1 (Nat.lt_irrefl _)
    refine ih σ1 _ _ 0 (cm_nx σ) (cm_R σ a 1) b c xs false a .null (nd_no was h6 hE.2.2 f1') hE1 (ftx_no hE.1.1 hs f1') (ls_fr h3 f1' hl (hE.2.2.1 _ hb).1 (fun z => z) (fun z => z) (fun z => z)) hi (by rw [h4]; omega) h5 hit (by omega) (by omega) fun σ2 f2 => ⟨_, _, rfl, h σ2 ?_⟩
    exact (fr_tr f1' f2 (X2 := fun y => y = cm_nx σ) (fun y hy z => absurd z (Nat.ne_of_lt hy)) (fun _ _ z => z)).le_ (by show 1 + nca as ≤ nca as + 1; omega)
  · intro t r wt wr nt hL iht ihr σ d Q i it l b c xs x x1 x4 h0 hE hs hl hi hx gl git hit hd h
    obtain ⟨gb, h1, h2⟩ := h0
    have hd : 4 * max (hh t) (hh r) + 13 ≤ d := hd
    have hx : xs.length = i + ((ags r).length + 1) := hx
    have hln := (hE.2.2.1 _ gl).1
    have hbn := (hE.2.2.1 _ gb).1
    obtain ⟨y, hy⟩ : ∃ y, xs[i]? = some y := ⟨_, List.getElem?_eq_getElem (show i < xs.length from (by omega))⟩
    have ey : cm_R σ b i = y := hl.2.2.2.1 i y hy
    rw [ey] at h1
    refine k95_12 hE.1 (by omega) ⟨hi.1, i_has hl hi (by omega) (by omega) ⟨_, _, rfl, fun z => ?_, fun _ => ⟨hi.1, i_next hl hi hy (by omega) fun σ1 f1 hi1 hl1 => ⟨_, _, rfl, ?_⟩⟩⟩⟩
    · rw [bz_0, decide_eq_false_iff_not] at z; omega
    have hG1 : ∀ a, G a → ¬ (fun y => y = it) a ∧ ¬ no_ a := fun a ha => ⟨fun e => git (e ▸ ha), fun z => z⟩
    have hE1 := eB_fr0 hE f1 (fun a e => by have := hi.2.2.2.2; omega)
    have h1' := nd_fr wt h1 hE.2.2 f1 hG1
    have h2' := nd_fr wr h2 hE.2.2 f1 hG1
    have hs1 : ftx σ1 s := ftx_fr hE.1.1 hs f1 (fun e => by have := hs.1.1; rw [e, hi.1] at this; cases this) (fun e => by have := hs.1.2.2.1; rw [e, hi.1] at this; cases this)
    refine ⟨Or.inr (nd_cast wt nt h1'), fun z => ?_, fun z => ?_⟩
    · rw [bz_0] at z
      subst z
      refine iht _ _ _ _ h1' hE1 hs1 (by omega) fun σ2 f2 => ⟨_, _, rfl, ?_⟩
      have hE2 := eB_no hE1 f2
      have hs2 := ftx_no hE1.1.1 hs1 f2
      have hl2 := ls_fr hl1 f2 (Nat.lt_of_lt_of_le hln f1.1) (Nat.lt_of_lt_of_le hbn f1.1) (fun z => z) (fun z => z) (fun z => z)
      have hi2 := itr_fr hi1 f2 (Nat.lt_of_lt_of_le hit f1.1) (Nat.lt_of_lt_of_le hln f1.1) (fun z => z) (fun z => z) (fun z => z)
      have key : ∀ q : Bool, fiT s t = q → wp_r d 95 (12, [.ref 325, .ref x1, .int (bz q), .ref it, .ref y], [], σ2) Q := fun q e => by
        refine ihr σ2 d Q (i + 1) it l b c xs q x1 _ (nd_no wr h2' hE1.2.2 f2) hE2 hs2 hl2 hi2 (by omega) gl git (Nat.lt_of_lt_of_le hit (Nat.le_trans f1.1 f2.1)) (by omega) fun σ3 f3 => ?_
        have := h σ3 ((fr_tr (fr_tr f1 f2 (fun _ _ z => z.elim) (fun _ _ z => z)) f3 (fun _ _ z => z) (fun _ _ z => z)).le_ (by show 0 + nca t + nca r ≤ nca t + nca r; omega))
        rw [show fiT s (.div t r) = (fiT s t || fiT s r) from rfl, Bool.false_or, e] at this
        exact this
      obtain ⟨b1, _⟩ := bo_tg hE2.2.1 (fiT s t)
      refine ⟨Or.inr (by rw [b1]; rfl), b1, j_bv hE2.2.1 _ (by omega) ⟨_, _, rfl, fun z => ?_, fun z => ?_⟩⟩
      · rw [bz_0] at z; exact key false z
      · rw [bz_0, Bool.not_eq_false] at z; exact key true z
    · rw [bz_0, Bool.not_eq_false] at z
      subst z
      refine ihr σ1 d Q (i + 1) it l b c xs true x1 _ h2' hE1 hs1 hl1 hi1 (by omega) gl git (Nat.lt_of_lt_of_le hit f1.1) (by omega) fun σ3 f3 => ?_
      have := h σ3 ((f1.tr_ f3).le_ (by show 0 + nca r ≤ nca t + nca r; omega))
      exact this
  · intro σ d Q i it l b c xs x x1 x4 h0 hE hs hl hi hx gl git hit hd h
    have hx : xs.length = i + 0 := hx
    refine k95_12 hE.1 (by omega) ⟨hi.1, i_has hl hi (by omega) (by omega) ⟨_, _, rfl, fun z => ?_, fun z => ?_⟩⟩
    · have := h σ fr_0
      rw [show fiT s .result = false from rfl, Bool.or_false] at this
      exact j_bo x (by omega) ⟨_, _, rfl, this⟩
    · rw [bz_0, decide_eq_false_iff_not] at z; omega
theorem fi_acc {t : Fm} (hw : wf t) (hn : nn t) : fdP G s t := (fi_all t hw).1 hn
end
theorem fiT_occ {c0 : Nat} (h0 : okN c0) (t : Fm) (hw : wf t) : fiT (dec c0) t = decide (0 < occL c0 (tk t)) := by
  have ap : ∀ (l r : List (Nat × Nat)), decide (0 < occL c0 (l ++ r)) = (decide (0 < occL c0 l) || decide (0 < occL c0 r)) := fun l r => by
    rw [occL_app]
    by_cases e : 0 < occL c0 l
    · rw [decide_eq_true e, decide_eq_true (by omega)]; rfl
    · rw [decide_eq_false e, show occL c0 l + occL c0 r = occL c0 r from (by omega)]; rfl
  have cn : ∀ (k v : Nat) (r : List (Nat × Nat)), k ≠ 4 → occL c0 ((k, v) :: r) = occL c0 r := fun k v r hk => by
    show (if (k, v) = (4, c0) then 1 else 0) + occL c0 r = _
    rw [if_neg (fun e => hk (congrArg Prod.fst e)), Nat.zero_add]
  refine fm_ind (P := fun t => fiT (dec c0) t = decide (0 < occL c0 (tk t))) ?_ ?_ ?_ ?_ ?_ ?_ ?_ ?_ ?_ ?_ ?_ t hw
  · intro n _; rfl
  · intro n _; rfl
  · rfl
  · intro c hc
    have e9 : occL c0 (tk (.length (.arg c))) = (if (4, c) = (4, c0) then 1 else 0) + 0 := rfl
    show decide (dec c = dec c0) = _
    apply decide_eq_decide.mpr
    rw [e9]
    by_cases e : c = c0
    · subst e; rw [if_pos rfl]; exact ⟨fun _ => by decide, fun _ => rfl⟩
    · rw [if_neg (fun z => e (congrArg Prod.snd z))]
      exact ⟨fun z => absurd (by rw [← (okN_dec hc).1, z, (okN_dec h0).1]) e, fun z => absurd z (by decide)⟩
  · intro u v _ _; rfl
  · intro o l r _ _ _ ihl ihr
    show (fiT _ l || fiT _ r) = decide (0 < occL c0 (tk l ++ (6, opc o) :: tk r))
    rw [ap, cn _ _ _ (by decide), ihl, ihr]
  · intro a _ ih
    show fiT _ a = decide (0 < occL c0 ((6, 45) :: tk a))
    rw [cn _ _ _ (by decide), ih]
  · intro a _ ih
    show fiT _ a = decide (0 < occL c0 ((6, 40) :: (tk a ++ [(6, 41)])))
    rw [cn _ _ _ (by decide), ap, cn _ _ _ (by decide), ih]
    show _ = (_ || false)
    rw [Bool.or_false]
  · intro f as _ _ _ _ ih
    show fiT _ as = decide (0 < occL c0 ((5, f) :: (6, 40) :: (tk as ++ [(6, 41)])))
    rw [cn _ _ _ (by decide), cn _ _ _ (by decide), ap, cn _ _ _ (by decide), ih]
    show _ = (_ || false)
    rw [Bool.or_false]
  · intro a r wa wr hL iha ihr
    show (fiT _ a || fiT _ r) = _
    rcases isL_div hL with z | z
    · subst z
      show (fiT _ a || false) = decide (0 < occL c0 (tk a))
      rw [Bool.or_false, iha]
    · rw [tk_divL a z, ap, cn _ _ _ (by decide), iha, ihr]
  · rfl
