/-! ENGINE: the rewriter's shared methods -/
section
variable {G : Nat → Prop} {v : Nat} {vs : cm_S → Nat → Prop} {m1 : Nat → Fm} {m2 : Nat → Nat → Fm} {m3 : Nat → Fm} {cf : Fm → Nat}
theorem mp_nn (hm : mok m1 m2 m3) {t : Fm} (hw : wf t) (hn : nn t) : wf (mp m1 m2 m3 t) ∧ nn (mp m1 m2 m3 t) := by
  obtain ⟨⟨a, b, c, _⟩, _⟩ := mp_wf hm t hw
  exact ⟨a, hn.imp c (fun z => Nat.le_trans z b)⟩
/-- a tree made meanwhile stays when only objects outside are written -/
theorem nd_out {U X Y : Nat → Prop} {σ σ2 : cm_S} {t : Fm} {a n : Nat} (hw : wf t) (h : nd U σ t a 0) (hg : gk U σ) (hf : fr X Y n σ σ2) (hx : ∀ a, U a → ¬ X a) (hy : ∀ a, U a → ¬ Y a) : nd U σ2 t a 0 := nd_fr hw h hg hf (fun a ha => ⟨hx a ha, hy a ha⟩)
theorem rw_op2 (hm : mok m1 m2 m3) (hk : vsk G v vs) (hc : cfk cf) {tv : Nat} (hvw : vways tv) (hvt : ∀ σ k, vs σ k → cm_tg σ v = tv) {o : Jvm.Binary} {l r : Fm} (wl : wf l) (wr : wf r) (nl : nn l) (nr : nn r) (ihl : rwP G v vs m1 m2 m3 cf l) (ihr : rwP G v vs m1 m2 m3 cf r) : rwP G v vs m1 m2 m3 cf (.op2 o l r) := by
  intro a d σ Q k h0 hE hv gv v46 vn hd h
  obtain ⟨⟨t0, g0⟩, h1, h2, h3⟩ := h0
  have hd : 6 * (max (hh l) (hh r) + 1) + 30 ≤ d := hd
  have ha := (hE.2.2.1 _ g0).1
  have hn := hE.1.1
  refine (hvw d v a σ Q (hvt σ k hv) (by omega)).2.2.1 t0 (k415 (by omega) ?_)
  rintro _ rfl
  have f1 : ∀ X Y, fr X Y 1 σ (cm_al σ 19 3) := fun X Y => fr_al (by omega) (by omega)
  have nx1 : cm_nx (cm_al σ 19 3) = cm_nx σ + 1 := rfl
  have tn : cm_tg (cm_al σ 19 3) (cm_nx σ) = 19 := u1_at _ _ _
  generalize cm_al σ 19 3 = σ1 at f1 nx1 tn ⊢
  have f1' := f1 no_ no_
  have e1 : cm_R σ1 a = cm_R σ a := f1'.R ha (fun z => z)
  have hE1 := eB_no hE f1'
  rw [e1]
  refine ⟨(f1'.tg ha).trans t0, ihl _ _ σ1 _ k (nd_no wl h2 hE.2.2 f1') hE1 (hk _ _ _ _ _ _ hv vn f1' (fun z => z) (fun z => z) hE.2.2 (fun _ _ => ⟨fun z => z, fun z => z⟩)) gv v46 (by omega) (by omega) fun σ2 b2 f2 v2 n2 => ⟨_, _, rfl, ?_⟩⟩
  have F2 : fr (fun x => x = v) no_ (1 + wt l) σ σ2 := fr_tr (f1 _ _) f2 (fun _ _ z => z) (fun _ _ z => z)
  have hE2 := eB_fr0 hE F2 (fun a z => by have : a = v := z; omega)
  have gG : ∀ a, G a → ¬ (fun x => x = v) a ∧ ¬ no_ a := fun a ha => ⟨fun z => gv (z ▸ ha), fun z => z⟩
  obtain ⟨wl', nl'⟩ := mp_nn hm wl nl
  obtain ⟨wr', nr'⟩ := mp_nn hm wr nr
  have n2x : cm_nx σ ≤ cm_nx σ2 := F2.1
  dsimp only
  rw [show cm_R σ2 a = cm_R σ a from F2.R ha (fun z => z)]
  refine ⟨Or.inr (nd_cast wl' nl' n2), (F2.tg ha).trans t0, ihr _ _ σ2 _ _ (nd_fr wr h3 hE.2.2 F2 gG) hE2 v2 gv v46 (by omega) (by omega) fun σ3 b3 f3 v3 n3 => ⟨_, _, rfl, Or.inr (nd_cast wr' nr' n3), ?_⟩⟩
  have F3 : fr (fun x => x = v) no_ (1 + wt l + wt r) σ σ3 := fr_tr F2 f3 (fun _ _ z => z) (fun _ _ z => z)
  have n12 : cm_nx σ1 ≤ cm_nx σ2 := f2.1
  have n23 : cm_nx σ2 ≤ cm_nx σ3 := f3.1
  have t3 : cm_tg σ3 (cm_nx σ) = 19 := (f3.tg (by omega)).trans ((f2.tg (by omega)).trans tn)
  refine ⟨⟨by rw [t3]; decide, by rw [t3]; decide⟩, k393 (by omega) ⟨⟨by rw [t3]; decide, by rw [t3]; decide⟩, k363 (by omega) ⟨by rw [t3]; decide, rfl, t3, show 322 ≤ cm_nx σ from (by omega), ?_⟩⟩⟩
  rintro _ rfl
  rintro _ rfl
  rintro _ rfl
  have f6 : fr no_ (fun x => x = cm_nx σ) 0 σ3 (cm_pR (cm_pR (cm_pR σ3 (cm_nx σ) 0 (cm_R σ a 0)) (cm_nx σ) 1 b2) (cm_nx σ) 2 b3) := ((fr_pR (X := no_) (Y := fun x => x = cm_nx σ) (Or.inl rfl)).tr_ (fr_pR (Or.inl rfl))).tr_ (fr_pR (Or.inl rfl))
  have r0 : cm_R (cm_pR (cm_pR (cm_pR σ3 (cm_nx σ) 0 (cm_R σ a 0)) (cm_nx σ) 1 b2) (cm_nx σ) 2 b3) (cm_nx σ) 0 = cm_R σ a 0 := by
    show cm_u2 (cm_u2 (cm_u2 (cm_R σ3) (cm_nx σ) 0 _) (cm_nx σ) 1 _) (cm_nx σ) 2 _ (cm_nx σ) 0 = _
    rw [u2_nj _ _ _ _ _ (by decide), u2_nj _ _ _ _ _ (by decide), u2_same]
  have r1 : cm_R (cm_pR (cm_pR (cm_pR σ3 (cm_nx σ) 0 (cm_R σ a 0)) (cm_nx σ) 1 b2) (cm_nx σ) 2 b3) (cm_nx σ) 1 = b2 := by
    show cm_u2 (cm_u2 (cm_u2 (cm_R σ3) (cm_nx σ) 0 _) (cm_nx σ) 1 _) (cm_nx σ) 2 _ (cm_nx σ) 1 = _
    rw [u2_nj _ _ _ _ _ (by decide), u2_same]
  have r2 : cm_R (cm_pR (cm_pR (cm_pR σ3 (cm_nx σ) 0 (cm_R σ a 0)) (cm_nx σ) 1 b2) (cm_nx σ) 2 b3) (cm_nx σ) 2 = b3 := u2_same _ _ _ _
  have nx6 : cm_nx (cm_pR (cm_pR (cm_pR σ3 (cm_nx σ) 0 (cm_R σ a 0)) (cm_nx σ) 1 b2) (cm_nx σ) 2 b3) = cm_nx σ3 := rfl
  generalize cm_pR (cm_pR (cm_pR σ3 (cm_nx σ) 0 (cm_R σ a 0)) (cm_nx σ) 1 b2) (cm_nx σ) 2 b3 = σ6 at f6 r0 r1 r2 nx6 ⊢
  have F6 : fr (fun x => x = v) no_ (1 + wt l + wt r + 0) σ σ6 := fr_tr F3 f6 (fun _ _ z => z.elim) (fun y hy z => absurd z (Nat.ne_of_lt hy))
  refine ⟨rfl, _, _, rfl, h σ6 (cm_nx σ) (F6.le_ (by show _ ≤ wt l + wt r + 1; omega)) ?_ ⟨⟨(f6.tg (by omega)).trans t3, Or.inr ⟨Nat.le_refl _, (by omega)⟩⟩, ?_, ?_, ?_⟩⟩
  · rw [hc.1, ← Nat.add_assoc]
    exact hk _ _ _ _ _ _ v3 (by omega) f6 (fun z => z) (fun z => absurd z (Nat.ne_of_lt vn)) (gk_nx hE.2.2 F3.1) (fun x hx => ⟨fun z => z, fun z => absurd z (Nat.ne_of_lt (hE.2.2.1 x hx).1)⟩)
  · rw [r0]
    exact opS_sm (fun x hx => ⟨Or.inl hx, fr_sm F6 (hE.2.2.1 x hx).1 (gG x hx).1 (gG x hx).2⟩) h1
  · rw [r1]
    have g2 : gk (gx G σ1 σ2) σ2 := gk_gx hE1.2.2 hE1.1.1 n12
    have p3 := nd_out wl' n2 g2 f3 (fun x hx z => hx.elim (fun y => gv (z ▸ y)) (fun y => by have : x = v := z; omega)) (fun _ _ z => z)
    have p6 := nd_out wl' p3 (gk_nx g2 n23) f6 (fun _ _ z => z) (fun x hx z => hx.elim (fun y => by have := (hE.2.2.1 x y).1; have : x = cm_nx σ := z; omega) (fun y => by have : x = cm_nx σ := z; omega))
    exact nd_mono (fun x hx => gx_sub (by omega) (by omega) x hx) wl' p6
  · rw [r2]
    have g3 : gk (gx G σ2 σ3) σ3 := gk_gx hE2.2.2 hE2.1.1 n23
    have p6 := nd_out wr' n3 g3 f6 (fun _ _ z => z) (fun x hx z => hx.elim (fun y => by have := (hE.2.2.1 x y).1; have : x = cm_nx σ := z; omega) (fun y => by have : x = cm_nx σ := z; omega))
    exact nd_mono (fun x hx => gx_sub (by omega) (by omega) x hx) wr' p6
/-- nodes over one other: tags 18 and 12 -/
theorem rw_one {tg9 : Nat} {A B : Prop} (h9 : tg9 = 18 ∨ tg9 = 12) (hm : mok m1 m2 m3) (hk : vsk G v vs) {t : Fm} (wt_ : wf t) (nt : nn t) (ih : rwP G v vs m1 m2 m3 cf t) {a d : Nat} {σ : cm_S} {Q : cm_O → Prop} {k : Nat} (t0 : cm_tg σ a = tg9) (g0 : G a) (h2 : nd G σ t (cm_R σ a 0) 0) (hE : eB G σ) (hv : vs σ k) (gv : ¬ G v) (v46 : 1346 ≤ v) (vn : v < cm_nx σ) (hd : 6 * hh t + 30 ≤ d)
    (h : ∀ σ2 b, fr (fun x => x = v) no_ (1 + wt t) σ σ2 → vs σ2 (k + cf t) → (cm_tg σ2 b = tg9 ∧ gx G σ σ2 b) → nd (gx G σ σ2) σ2 (mp m1 m2 m3 t) (cm_R σ2 b 0) 0 → Q (false, .ref b, σ2)) :
    ∀ σ1, σ1 = cm_al σ tg9 1 → cm_tg σ1 a = tg9 ∧ ∃ mm, cp_disp 8 (cm_tg σ1 (cm_R σ1 a 0)) = some mm ∧ cm_rk cp mm = 3 ∧ wp_c d mm [.ref (cm_R σ1 a 0), .ref v] σ1 (qr fun r2 σ2 => (r2 = 0 ∨ cp_cast 0 (cm_tg σ2 r2) = some true) ∧ (cm_tg σ2 (cm_nx σ) ≠ 0 ∧ cm_tg σ2 (cm_nx σ) < 60) ∧ wp_c d (if tg9 = 18 then 391 else 368) [.ref (cm_nx σ), .ref r2] σ2 (qv fun σ3 => Q (false, .ref (cm_nx σ), σ3))) := by
  rintro _ rfl
  have ha := (hE.2.2.1 _ g0).1
  have hn := hE.1.1
  have f1 : ∀ X Y, fr X Y 1 σ (cm_al σ tg9 1) := fun X Y => fr_al (by omega) (by omega)
  have nx1 : cm_nx (cm_al σ tg9 1) = cm_nx σ + 1 := rfl
  have tn : cm_tg (cm_al σ tg9 1) (cm_nx σ) = tg9 := u1_at _ _ _
  generalize cm_al σ tg9 1 = σ1 at f1 nx1 tn ⊢
  have f1' := f1 no_ no_
  have e1 : cm_R σ1 a = cm_R σ a := f1'.R ha (fun z => z)
  have hE1 := eB_no hE f1'
  obtain ⟨w', n'⟩ := mp_nn hm wt_ nt
  rw [e1]
  refine ⟨(f1'.tg ha).trans t0, ih _ _ σ1 _ k (nd_no wt_ h2 hE.2.2 f1') hE1 (hk _ _ _ _ _ _ hv vn f1' (fun z => z) (fun z => z) hE.2.2 (fun _ _ => ⟨fun z => z, fun z => z⟩)) gv v46 (by omega) (by omega) fun σ2 b2 f2 v2 n2 => ⟨_, _, rfl, Or.inr (nd_cast w' n' n2), ?_⟩⟩
  have F2 : fr (fun x => x = v) no_ (1 + wt t) σ σ2 := fr_tr (f1 _ _) f2 (fun _ _ z => z) (fun _ _ z => z)
  have n12 : cm_nx σ1 ≤ cm_nx σ2 := f2.1
  have t2 : cm_tg σ2 (cm_nx σ) = tg9 := (f2.tg (by omega)).trans tn
  have f6 : fr no_ (fun x => x = cm_nx σ) 0 σ2 (cm_pR σ2 (cm_nx σ) 0 b2) := fr_pR (Or.inl rfl)
  have r0 : cm_R (cm_pR σ2 (cm_nx σ) 0 b2) (cm_nx σ) 0 = b2 := u2_same _ _ _ _
  have F6 : fr (fun x => x = v) no_ (1 + wt t + 0) σ (cm_pR σ2 (cm_nx σ) 0 b2) := fr_tr F2 f6 (fun _ _ z => z.elim) (fun y hy z => absurd z (Nat.ne_of_lt hy))
  have nx6 : cm_nx (cm_pR σ2 (cm_nx σ) 0 b2) = cm_nx σ2 := rfl
  have fin : Q (false, .ref (cm_nx σ), cm_pR σ2 (cm_nx σ) 0 b2) := by
    generalize cm_pR σ2 (cm_nx σ) 0 b2 = σ6 at f6 r0 F6 nx6 ⊢
    refine h σ6 (cm_nx σ) F6 (hk _ _ _ _ _ _ v2 (by omega) f6 (fun z => z) (fun z => absurd z (Nat.ne_of_lt vn)) (gk_nx hE.2.2 F2.1) (fun x hx => ⟨fun z => z, fun z => absurd z (Nat.ne_of_lt (hE.2.2.1 x hx).1)⟩)) ⟨(f6.tg (by omega)).trans t2, Or.inr ⟨Nat.le_refl _, (by omega)⟩⟩ ?_
    rw [r0]
    have g2 : gk (gx G σ1 σ2) σ2 := gk_gx hE1.2.2 hE1.1.1 n12
    have p6 := nd_out w' n2 g2 f6 (fun _ _ z => z) (fun x hx z => hx.elim (fun y => by have := (hE.2.2.1 x y).1; have : x = cm_nx σ := z; omega) (fun y => by have : x = cm_nx σ := z; omega))
    exact nd_mono (fun x hx => gx_sub (by omega) (by omega) x hx) w' p6
  rcases h9 with q | q
  · subst q
    refine ⟨⟨by rw [t2]; decide, by rw [t2]; decide⟩, ?_⟩
    rw [if_pos rfl]
    refine k391 (by omega) ⟨⟨by rw [t2]; decide, by rw [t2]; decide⟩, k363 (by omega) ⟨by rw [t2]; decide, rfl, t2, show 322 ≤ cm_nx σ from (by omega), ?_⟩⟩
    rintro _ rfl
    exact ⟨rfl, fin⟩
  · subst q
    refine ⟨⟨by rw [t2]; decide, by rw [t2]; decide⟩, ?_⟩
    rw [if_neg (by decide)]
    refine k368 (by omega) ⟨⟨by rw [t2]; decide, by rw [t2]; decide⟩, k363 (by omega) ⟨by rw [t2]; decide, rfl, t2, show 322 ≤ cm_nx σ from (by omega), ?_⟩⟩
    rintro _ rfl
    exact ⟨rfl, fin⟩
end
