/-! ENGINE: the collector (cells of a formula) -/
section
variable {G : Nat → Prop} {σ : cm_S} {d : Nat} {Q : cm_O → Prop} {S : Sh} {A W s : Nat}
theorem bs_ext {a w m : Nat} {f g : Nat → Bool} (h : bs σ a w m f) (e : ∀ k, g k = f k) : bs σ a w m g := by
  rw [show g = f from funext e]; exact h
theorem c_add {D : Nat → Bool} {f l : Nat} (hE : en_ok σ) (hc : cm_R σ 347 0 = A) (hb : bs σ A W 4 D) (hA : ∀ X : Nat → Prop, (∀ a, X a → a = A ∨ a = W) → ∀ a, X a → 322 ≤ a) (hbx : box f l) (hd : 6 ≤ d) (h : ∀ σ2, bs σ2 A W 4 (fun e => D e || inb e f l) → fr (fun a => a = A ∨ a = W) no_ 0 σ σ2 → Q (false, .ref A, σ2)) : wp_c d 117 [.ref 347, .int (zi (f : Int)), .int (zi (l : Int))] σ Q := by
  have hbx2 := id hbx
  unfold box at hbx2
  have key : ∀ n k : Nat, ∀ σ1, k + n = l + 1 → f ≤ k → bs σ1 A W 4 (fun e => D e || (decide (e < k) && inb e f l)) → fr (fun a => a = A ∨ a = W) no_ 0 σ σ1 → wp_r (d - 1) 117 (2, [.ref 347, .int (zi (f : Int)), .int (zi (l : Int)), .int (zi (k : Int))], [], σ1) Q := by
    intro n
    induction n with
    | zero =>
      intro k σ1 hk hf hb1 fr1
      have hE1 := en_fr hE fr1 (fun a z => z.elim)
      have hc1 : cm_R σ1 347 0 = A := (congrFun (fr1.R (by have := hE.1; omega) (fun z => z)) 0).trans hc
      refine k117_2 hE1 (by omega) ⟨fun _ => ?_, fun z => ?_⟩
      · rw [hc1]
        refine h σ1 (bs_ext hb1 fun e => ?_) fr1
        cases he : inb e f l with
        | false => simp
        | true =>
          have := inb_le he
          rw [decide_eq_true (by omega)]; rfl
      · rw [zi_lt (by omega) (by omega) (by omega) (by omega)] at z; omega
    | succ n ih =>
      intro k σ1 hk hf hb1 fr1
      have hE1 := en_fr hE fr1 (fun a z => z.elim)
      have hc1 : cm_R σ1 347 0 = A := (congrFun (fr1.R (by have := hE.1; omega) (fun z => z)) 0).trans hc
      refine k117_2 hE1 (by omega) ⟨fun z => ?_, fun _ => e_within hE1 (by omega) (by omega) (by omega) (by omega) ⟨_, _, rfl, fun z => ?_, fun z => ⟨hE1, ?_⟩⟩⟩
      · rw [zi_lt (by omega) (by omega) (by omega) (by omega)] at z; omega
      · rw [bz_0] at z
        rw [zn_a k 1 1 rfl]
        refine ih (k + 1) σ1 (by omega) (by omega) (bs_ext hb1 fun e => ?_) fr1
        by_cases q : e = k
        · subst q; rw [z]; simp
        · rw [show decide (e < k + 1) = decide (e < k) from decide_eq_decide.mpr ⟨fun _ => (by omega), fun _ => (by omega)⟩]
      · rw [bz_0, Bool.not_eq_false] at z
        rw [hc1]
        refine ⟨hb1.1.1, bs_set4 hb1 (by omega) (by omega) fun σ2 hb2 fr2 => ⟨rfl, ?_⟩⟩
        rw [zn_a k 1 1 rfl]
        refine ih (k + 1) σ2 (by omega) (by omega) (bs_ext hb2 fun e => ?_) (fr1.tr_ fr2)
        unfold up1
        by_cases q : e = k
        · subst q; rw [if_pos rfl, z, decide_eq_true (by omega)]; simp
        · rw [if_neg q, show decide (e < k + 1) = decide (e < k) from decide_eq_decide.mpr ⟨fun _ => (by omega), fun _ => (by omega)⟩]
  refine k117 hE (by omega) (key (l + 1 - f) f σ (by omega) (Nat.le_refl _) (bs_ext hb fun e => ?_) fr_0)
  cases he : inb e f l with
  | false => simp
  | true =>
    have := inb_le he
    rw [decide_eq_false (by omega)]; simp
end
/-- the place of a set of cells -/
def dpl (A W : Nat) : Prop := 355 ≤ A ∧ A < 1315 ∧ 355 ≤ W ∧ W < 1315
section
variable {G : Nat → Prop} {S : Sh} {A W s : Nat}
theorem dpl_mid (h : dpl A W) : ∀ a, (fun a => a = A ∨ a = W) a → mid a := fun a e => by
  unfold dpl at h
  unfold mid
  rcases e with e | e <;> omega
/-- what the collector rests on -/
def coI (G : Nat → Prop) (S : Sh) (A W : Nat) (σ : cm_S) (D : Nat → Bool) : Prop := eB G σ ∧ shE G σ (cm_R σ 322 4) S ∧ cm_R σ 347 0 = A ∧ bs σ A W 4 D ∧ dpl A W
theorem coI_fr {σ σ2 : cm_S} {D D2 : Nat → Bool} {n : Nat} (h : coI G S A W σ D) (hf : fr (fun a => a = A ∨ a = W) no_ n σ σ2) (hb : bs σ2 A W 4 D2) : coI G S A W σ2 D2 := by
  obtain ⟨h1, h2, h3, h4, h5⟩ := h
  have hm := dpl_mid h5
  have hn := h1.1.1
  have e : ∀ a, a < 1346 → cm_R σ2 a = cm_R σ a := fun a ha => hf.R (by omega) (fun z => z)
  refine ⟨eB_fr0 h1 hf (fun a z => (hm a z).1), ?_, by rw [e _ (by omega)]; exact h3, hb, h5⟩
  rw [e _ (by omega)]
  exact shE_mid h2 h1.2.2 hf hm (fun _ z => z.elim)
/-- the cells of a name -/
def nmB (q : Nm) (e : Nat) : Bool := match q.2 with
  | some (a, b) => bxd a b e
  | none => false
def coP (G : Nat → Prop) (S : Sh) (A W : Nat) (t : Fm) : Prop := ∀ (a d : Nat) (σ : cm_S) (Q : cm_O → Prop) (D : Nat → Bool), nd G σ t a 0 → coI G S A W σ D → 4 * hh t + 20 ≤ d → (∀ σ2, bs σ2 A W 4 (fun e => D e || dpT S.2 t e) → fr (fun a => a = A ∨ a = W) no_ (nca t) σ σ2 → Q (false, .ref A, σ2)) → acc d 347 a σ Q
def coR (G : Nat → Prop) (S : Sh) (A W : Nat) (t : Fm) : Prop := ∀ (σ : cm_S) (d : Nat) (Q : cm_O → Prop) (D : Nat → Bool) (i it l b c : Nat) (xs : List Nat) (x1 : Nat) (x3 : Value), nd G σ t b i → coI G S A W σ D → ls σ l b c xs → itr σ it l i → xs.length = i + (ags t).length → G l → ¬ G it → 1346 ≤ it → ¬ shF σ (cm_R σ 322 4) it → it < cm_nx σ → 4 * hh t + 21 ≤ d →
  (∀ σ2, bs σ2 A W 4 (fun e => D e || dpT S.2 t e) → fr (fun y => y = it ∨ (y = A ∨ y = W)) no_ (nca t) σ σ2 → Q (false, .ref A, σ2)) → wp_r d 123 (10, [.ref 347, .ref x1, .ref it, x3], [], σ) Q
theorem co_leaf {σ : cm_S} {Q : cm_O → Prop} {D : Nat → Bool} {t : Fm} (hI : coI G S A W σ D) (ht : ∀ e, dpT S.2 t e = false) (h : ∀ σ2, bs σ2 A W 4 (fun e => D e || dpT S.2 t e) → fr (fun a => a = A ∨ a = W) no_ (nca t) σ σ2 → Q (false, .ref A, σ2)) : Q (false, .ref (cm_R σ 347 0), σ) := by
  rw [hI.2.2.1]
  exact h σ (bs_ext hI.2.2.2.1 fun e => by rw [ht, Bool.or_false]) fr_0
theorem co_all (t : Fm) (hw : wf t) : (nn t → coP G S A W t) ∧ (isL t → coR G S A W t) := by
  refine fm_ind2 (P := coP G S A W) (R := coR G S A W) ?_ ?_ ?_ ?_ ?_ ?_ ?_ ?_ ?_ ?_ ?_ t hw
  · intro n _ a d σ Q D h0 hI hd h
    exact co_lit hI.1.1 h0.1.1 (by omega) (k126 hI.1.1 (by omega) ⟨_, _, rfl, co_leaf hI (fun _ => rfl) h⟩)
  · intro v _ a d σ Q D h0 hI hd h
    have hE := hI.1.1
    refine co_ref hE h0.1.1 (by omega) (k136 hE (by omega) ⟨h0.1.1, e_cell h0 (by omega) ⟨_, _, rfl, h0.1.1, e_cell h0 (by omega) ⟨_, _, rfl, hE, ?_⟩⟩⟩)
    refine c_add hE hI.2.2.1 hI.2.2.2.1 (fun X hX a ha => ?_) (show box (v % 240) (v % 240) from by unfold box; omega) (by omega) fun σ2 hb hf => ⟨_, _, rfl, _, _, rfl, h σ2 (bs_ext hb fun e => ?_) hf⟩
    · exact (dpl_mid hI.2.2.2.2 a (hX a ha)).1
    · rw [bxd_box (show box (v % 240) (v % 240) from by unfold box; omega)]; rfl
  · intro a d σ Q D h0 hI hd h
    exact co_bro hI.1.1 h0.1 (by omega) (k121 hI.1.1 (by omega) ⟨_, _, rfl, co_leaf hI (fun _ => rfl) h⟩)
  · intro c hc a d σ Q D h0 hI hd h
    have hE := hI.1.1
    have hS := hI.2.1
    have t5 := hS.1.1
    have e5 := hS.1.2.2.2.2.1
    have t6 := hS.1.2.2.2.2.2.1
    have hN := hS.shk.2
    have hs0 : cm_R σ a 0 ≠ 0 := by have := h0.2.2; omega
    refine co_nam hE h0.1.1 (by omega) (k128 hE (by omega) ⟨t5, h0.1.1, by rw [e5]; exact t6, ?_⟩)
    rw [e5]
    refine r_find hS h0.2.1.1 hs0 (by omega) ⟨_, _, rfl, fun z => ⟨hE, ?_⟩, fun z => ⟨hE, t5, by rw [e5]; exact t6, ?_⟩⟩
    · rw [nmTx_at hN hc] at z
      refine ⟨_, _, rfl, co_leaf hI (fun e => ?_) h⟩
      show nmd S.2 c e = false
      unfold nmd
      cases hn : nmAt S.2 c with
      | none => rfl
      | some k =>
        rw [hn] at z
        have := nmAt_some hn
        have h10 : S.2.length ≤ 10 := by obtain ⟨_, _, _, _, _, _, g5, _⟩ := hS.2.2; exact g5
        have z : zi (k : Int) < zi 0 := z
        rw [zi_lt (by omega) (by omega) (by omega) (by omega)] at z; omega
    · rw [nmTx_at hN hc] at z ⊢
      rw [e5]
      cases hn : nmAt S.2 c with
      | none => rw [hn] at z; exact absurd (by decide) z
      | some k =>
        have hk := nmAt_some hn
        have hq : S.2[k]? = some S.2[k] := List.getElem?_eq_getElem hk
        obtain ⟨q, eq⟩ : ∃ q, q = S.2[k] := ⟨_, rfl⟩
        rw [← eq] at hq
        show wp_c _ 113 [_, .int (zi (k : Int))] σ _
        have hd9 : ∀ e, dpT S.2 (.length (.arg c)) e = nmB q e := fun e => by
          show nmd S.2 c e = _
          unfold nmd
          rw [hn]
          show (match S.2[k]? with
            | some (_, some (a, b)) => bxd a b e
            | _ => false) = _
          rw [hq]
          unfold nmB
          obtain ⟨c9, o⟩ := q
          cases o <;> rfl
        refine r_get hS hq (by omega) fun y hy => ⟨_, _, rfl, Or.inr (by rw [hy.2.1.1]; rfl), hy.2.1.1, k447 (by omega) ⟨hy.2.1.1, fun z => ?_, fun z => ?_⟩⟩
        · refine ⟨_, _, rfl, fun z2 => absurd z2 (by decide), fun _ => ⟨hE, _, _, rfl, co_leaf hI (fun e => ?_) h⟩⟩
          rw [hd9]
          obtain ⟨c9, o⟩ := q
          cases o with
          | none => rfl
          | some ab =>
            obtain ⟨a1, b1⟩ := ab
            have hbx : box a1 b1 := hy.1.2
            rw [hy.2.2.2.2.1] at z
            unfold box at hbx
            rw [zi_lt (by omega) (by omega) (by omega) (by omega)] at z; omega
        · refine ⟨_, _, rfl, fun _ => ⟨hE, t5, by rw [e5]; exact t6, ?_⟩, fun z2 => absurd rfl z2⟩
          rw [e5]
          refine r_get hS hq (by omega) fun y2 hy2 => ⟨_, _, rfl, Or.inr (by rw [hy2.2.1.1]; rfl), hy2.2.1.1, hE, t5, by rw [e5]; exact t6, ?_⟩
          rw [e5]
          refine r_get hS hq (by omega) fun y3 hy3 => ⟨_, _, rfl, Or.inr (by rw [hy3.2.1.1]; rfl), hy3.2.1.1, hE, ?_⟩
          obtain ⟨c9, o⟩ := q
          cases o with
          | none => rw [hy.2.2.2.2.1] at z; exact absurd (by decide) z
          | some ab =>
            obtain ⟨a1, b1⟩ := ab
            have hbx : box a1 b1 := hy.1.2
            rw [hy2.2.2.2.2.1, hy3.2.2.2.2.2]
            refine c_add hE hI.2.2.1 hI.2.2.2.1 (fun X hX a ha => (dpl_mid hI.2.2.2.2 a (hX a ha)).1) hbx (by omega) fun σ2 hb hf => ⟨_, _, rfl, _, _, rfl, h σ2 (bs_ext hb fun e => ?_) hf⟩
            rw [hd9, bxd_box hbx]; rfl
  · intro u v _ _ a d σ Q D h0 hI hd h
    have hE := hI.1.1
    refine co_rng hE h0.1.1 (by omega) (k134 hE (by omega) (e_first hE h0.1.1 h0.2.1 h0.2.2 (by omega) ⟨_, _, rfl, e_last hE h0.1.1 h0.2.1 h0.2.2 (by omega) ⟨_, _, rfl, hE, ?_⟩⟩))
    refine c_add hE hI.2.2.1 hI.2.2.2.1 (fun X hX a ha => (dpl_mid hI.2.2.2.2 a (hX a ha)).1) (rgF_box u v) (by omega) fun σ2 hb hf => ⟨_, _, rfl, _, _, rfl, h σ2 (bs_ext hb fun e => ?_) hf⟩
    rw [bxd_rg]; rfl
  · intro o l r _ wl wr nl nr ihl ihr a d σ Q D h0 hI hd h
    obtain ⟨⟨t0, g0⟩, h1, h2, h3⟩ := h0
    have hE := hI.1
    have ha := (hE.2.2.1 _ g0).1
    have hd : 4 * (max (hh l) (hh r) + 1) + 20 ≤ d := hd
    have hm := dpl_mid hI.2.2.2.2
    refine co_bin hE.1 t0 (by omega) (k119 hE.1 (by omega) ⟨t0, ihl _ _ _ _ D h2 hI (by omega) fun σ1 b1 f1 => ⟨_, _, rfl, ?_⟩⟩)
    have hI1 := coI_fr hI f1 b1
    have e : cm_R σ1 a = cm_R σ a := f1.R ha (fun z => z)
    dsimp only
    rw [e]
    refine ⟨(f1.tg ha).trans t0, ihr _ _ _ _ _ (nd_mid wr h3 hE.2.2 f1 hm (fun _ z => z.elim)) hI1 (by omega) fun σ2 b2 f2 => ⟨_, _, rfl, Or.inr (by rw [b2.1.1]; rfl), _, _, rfl, h σ2 (bs_ext b2 fun e => ?_) (f1.tr_ f2)⟩⟩
    show (D e || (dpT S.2 l e || dpT S.2 r e)) = _
    rw [Bool.or_assoc]
  · intro t wt _ ih a d σ Q D h0 hI hd h
    have hd : 4 * (hh t + 1) + 20 ≤ d := hd
    exact co_neg hI.1.1 h0.1.1 (by omega) (k130 hI.1.1 (by omega) ⟨h0.1.1, ih _ _ _ _ D h0.2 hI (by omega) fun σ1 b1 f1 => ⟨_, _, rfl, Or.inr (by rw [b1.1.1]; rfl), _, _, rfl, h σ1 b1 f1⟩⟩)
  · intro t wt _ ih a d σ Q D h0 hI hd h
    have hd : 4 * (hh t + 1) + 20 ≤ d := hd
    exact co_par hI.1.1 h0.1.1 (by omega) (k132 hI.1.1 (by omega) ⟨h0.1.1, ih _ _ _ _ D h0.2 hI (by omega) fun σ1 b1 f1 => ⟨_, _, rfl, Or.inr (by rw [b1.1.1]; rfl), _, _, rfl, h σ1 b1 f1⟩⟩)
  · intro f as was hL hsh ih a d σ Q D h0 hI hd h
    obtain ⟨⟨t0, g0⟩, h1, ⟨b, c, xs, h3, h4, h5⟩, h6⟩ := h0
    have hE := hI.1
    have hd : 4 * (hh as + 1) + 20 ≤ d := hd
    have hl := (hE.2.2.1 _ h5).1
    have hn := hE.1.1
    refine co_cal hE.1 t0 (by omega) (k123 hE.1 (by omega) ⟨t0, h3.1.1, l_iter h3 hl (by omega) fun σ1 f1 hx hi => ⟨_, _, rfl, ?_⟩⟩)
    have hb : G b := by
      have := nd_G as was _ _ h6
      rw [h3.1.2.1] at this; exact this
    rw [h3.1.2.1] at h6
    have hit : ¬ G (cm_nx σ) := fun z => absurd (hE.2.2.1 _ z).1 (Nat.lt_irrefl _)
    have f1' := f1 no_ no_
    have f1A := f1 (fun a => a = A ∨ a = W) no_
    have hI1 := coI_fr hI f1A (bs_fr hI.2.2.2.1 f1' (by have := hI.2.2.2.2; unfold dpl at this; omega) (by have := hI.2.2.2.2; unfold dpl at this; omega) (fun z => z) (fun z => z) (fun z => z))
    have eR : cm_R σ1 322 4 = cm_R σ 322 4 := congrFun (f1'.R (by omega) (fun z => z)) 4
    refine ih σ1 _ _ D 0 (cm_nx σ) (cm_R σ a 1) b c xs a .null (nd_no was h6 hE.2.2 f1') hI1 (ls_fr h3 f1' hl (hE.2.2.1 _ hb).1 (fun z => z) (fun z => z) (fun z => z)) hi (by rw [h4]; omega) h5 hit hn ?_ (by omega) (by omega) fun σ2 b2 f2 => ⟨_, _, rfl, h σ2 b2 ?_⟩
    · intro z
      rw [eR] at z
      have hz : shF σ (cm_R σ 322 4) (cm_nx σ) := by
        have h3' : cm_R σ1 (cm_R σ 322 4 + 3) 1 = cm_R σ (cm_R σ 322 4 + 3) 1 := congrFun (f1'.R (hI.2.1.lt (Or.inr (Or.inr (Or.inr (Or.inl rfl))))) (fun z => z)) 1
        unfold shF at z ⊢
        rw [h3'] at z
        exact z
      exact absurd (hI.2.1.lt hz) (Nat.lt_irrefl _)
    · exact (fr_tr f1A f2 (X2 := fun y => y = cm_nx σ ∨ (y = A ∨ y = W)) (fun y hy z => z.elim (fun z => absurd z (Nat.ne_of_lt hy)) id) (fun _ _ z => z)).le_ (by show 1 + nca as ≤ nca as + 1; omega)
  · intro t r wt wr nt hL iht ihr σ d Q D i it l b c xs x1 x4 h0 hI hl hi hx gl git g46 gsh hit hd h
    obtain ⟨gb, h1, h2⟩ := h0
    have hE := hI.1
    have hd : 4 * max (hh t) (hh r) + 21 ≤ d := hd
    have hx : xs.length = i + ((ags r).length + 1) := hx
    have hln := (hE.2.2.1 _ gl).1
    have hbn := (hE.2.2.1 _ gb).1
    have hm := dpl_mid hI.2.2.2.2
    have hn := hE.1.1
    have hAW := hI.2.2.2.2
    unfold dpl at hAW
    obtain ⟨y, hy⟩ : ∃ y, xs[i]? = some y := ⟨_, List.getElem?_eq_getElem (show i < xs.length from (by omega))⟩
    have ey : cm_R σ b i = y := hl.2.2.2.1 i y hy
    rw [ey] at h1
    refine k123_10 hE.1 (by omega) ⟨hi.1, i_has hl hi (by omega) (by omega) ⟨_, _, rfl, fun z => ?_, fun _ => ⟨hi.1, i_next hl hi hy (by omega) fun σ1 f1 hi1 hl1 => ⟨_, _, rfl, ?_⟩⟩⟩⟩
    · rw [bz_0, decide_eq_false_iff_not] at z; omega
    have hG1 : ∀ a, G a → ¬ (fun y => y = it) a ∧ ¬ no_ a := fun a ha => ⟨fun e => git (e ▸ ha), fun z => z⟩
    have e1 : ∀ a, a < 1346 → cm_R σ1 a = cm_R σ a := fun a ha => f1.R (by omega) (fun z => z)
    have hE1 := eB_fr0 hE f1 (fun a e => by have : a = it := e; omega)
    have hS1 : shE G σ1 (cm_R σ1 322 4) S := by
      rw [e1 _ (by omega)]
      exact shE_fr hI.2.1 hE.2.2 f1 hG1 (fun a ha => ⟨fun e => gsh (e ▸ ha), fun z => z⟩)
    have hb1 : bs σ1 A W 4 D := bs_fr hI.2.2.2.1 f1 (by omega) (by omega) (fun z => by have : A = it := z; omega) (fun z => z) (fun z => by have : W = it := z; omega)
    have hI1 : coI G S A W σ1 D := ⟨hE1, hS1, by rw [e1 _ (by omega)]; exact hI.2.2.1, hb1, hI.2.2.2.2⟩
    have h1' := nd_fr wt h1 hE.2.2 f1 hG1
    have h2' := nd_fr wr h2 hE.2.2 f1 hG1
    refine ⟨Or.inr (nd_cast wt nt h1'), iht _ _ _ _ D h1' hI1 (by omega) fun σ2 b2 f2 => ⟨_, _, rfl, ?_⟩⟩
    have hI2 := coI_fr hI1 f2 b2
    have gA : ∀ a, G a → ¬ (a = A ∨ a = W) := fun a ha z => gk_mid hE.2.2 ha (hm a z)
    have hl2 := ls_fr hl1 f2 (Nat.lt_of_lt_of_le hln f1.1) (Nat.lt_of_lt_of_le hbn f1.1) (gA _ gl) (fun z => z) (fun z => z)
    have hi2 := itr_fr hi1 f2 (Nat.lt_of_lt_of_le hit f1.1) (Nat.lt_of_lt_of_le hln f1.1) (fun z => by rcases z with z | z <;> omega) (fun z => z) (gA _ gl)
    have hs2 : ¬ shF σ2 (cm_R σ2 322 4) it := by
      have a1 : cm_R σ2 322 = cm_R σ 322 := (f2.R (by have := f1.1; omega) (fun z => z)).trans (e1 _ (by omega))
      have hlt := hI.2.1.lt (Or.inr (Or.inr (Or.inr (Or.inl rfl))))
      have a2 : cm_R σ2 (cm_R σ 322 4 + 3) = cm_R σ (cm_R σ 322 4 + 3) := (f2.R (Nat.lt_of_lt_of_le hlt f1.1) (fun z => z)).trans (f1.R hlt (fun z => z))
      unfold shF at gsh ⊢
      rw [a1, a2]
      exact gsh
    refine ihr σ2 d Q _ (i + 1) it l b c xs x1 _ (nd_mid wr h2' hE1.2.2 f2 hm (fun _ z => z.elim)) hI2 hl2 hi2 (by omega) gl git g46 hs2 (Nat.lt_of_lt_of_le hit (Nat.le_trans f1.1 f2.1)) (by omega) fun σ3 b3 f3 => h σ3 (bs_ext b3 fun e => ?_) ?_
    · show (D e || (dpT S.2 t e || dpT S.2 r e)) = _
      rw [Bool.or_assoc]
    · have g1 : fr (fun y => y = it ∨ (y = A ∨ y = W)) no_ 0 σ σ1 := fr_mono f1 (fun _ _ z => Or.inl z) (fun _ _ z => z) (Nat.le_refl _)
      exact (fr_tr (fr_tr g1 f2 (fun _ _ z => Or.inr z) (fun _ _ z => z)) f3 (fun _ _ z => z) (fun _ _ z => z)).le_ (by show 0 + nca t + nca r ≤ nca t + nca r; omega)
  · intro σ d Q D i it l b c xs x1 x4 h0 hI hl hi hx gl git g46 gsh hit hd h
    have hx : xs.length = i + 0 := hx
    refine k123_10 hI.1.1 (by omega) ⟨hi.1, i_has hl hi (by omega) (by omega) ⟨_, _, rfl, fun z => ⟨hI.1.1, ?_⟩, fun z => ?_⟩⟩
    · rw [hI.2.2.1]
      exact h σ (bs_ext hI.2.2.2.1 fun e => by show (D e || false) = _; rw [Bool.or_false]) fr_0
    · rw [bz_0, decide_eq_false_iff_not] at z; omega
end
