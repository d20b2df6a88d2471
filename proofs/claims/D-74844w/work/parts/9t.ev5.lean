/-! ENGINE: formulas are evaluated -/
section
variable {G : Nat → Prop} {σ σ1 σ2 : cm_S} {x : Nat} {e : Er} {Q : cm_O → Prop} {d : Nat} {S : Sh} {V : Nat → Vl}
/-- an argument's turn, its error as an int -/
theorem v_acc {t : Fm} {y : Nat} {K : Int32 → cm_S → Prop} (hP : evP G S V t) (hy : nd G σ t y 0) (hI : evI G S V σ) (h7 : b7 σ) (hd : 6 * hh t + 30 ≤ d) (h : ∀ σ2, fv σ σ2 → a5 σ2 = a5 σ → rs σ2 (ev1 S.2 V t) → K (zi ((ev1 S.2 V t).1 : Int)) σ2) :
    ∃ mm, cp_disp 8 (cm_tg σ y) = some mm ∧ cm_rk cp mm = 3 ∧ wp_c d mm [.ref y, .ref 354] σ (qr fun r1 σ1 => (r1 = 0 ∨ cp_cast 2 (cm_tg σ1 r1) = some true) ∧ cm_tg σ1 r1 = 30 ∧ wp_c d 595 [.ref r1] σ1 (qi K)) :=
  hP _ _ _ _ hy hI h7 hd fun σ2 f2 q2 r2 => ⟨_, _, rfl, v_unbox (eB_fv hI.1 f2).2.1 r2.1.1 (by omega) (h σ2 f2 q2 r2)⟩
theorem er_pos {k : Nat} (hk : k ≤ 8) : zi 0 < zi (k : Int) ↔ k ≠ 0 := by
  rw [show (0 : Int) = ((0 : Nat) : Int) from rfl, zi_lt (by omega) (by omega) (by omega) (by omega)]; omega
theorem ev1_op (N : List Nm) (V : Nat → Vl) (o : Jvm.Binary) (l r : Fm) : ev1 N V (.op2 o l r) = binE o (ev1 N V l) (ev1 N V r) := rfl
theorem v_match {as a c : Fm} {l b y w : Nat} (hI : evI G S V σ) (h7 : b7 σ) (hwa : wf a) (hwc : wf c) (ha : ar c) (hP : evP G S V a) (hy : nd G σ a y 0) (hw : nd G σ c w 0) (hd : 6 * hh a + 32 ≤ d)
    (h : evQ σ (if (ev1 S.2 V a).1 ≠ 0 then ((ev1 S.2 V a).1, zl 0) else (match arV S.2 c with
      | .inl e => (e, zl 0)
      | .inr (f, l) => mtL V (ev1 S.2 V a).2 (celF f l 240) 0)) Q) : wp_c d 153 [.ref 354, .ref y, .ref w] σ Q := by
  refine k153 hI.1.1 (by omega) (v_acc hP hy hI h7 (by omega) fun σ2 f2 q2 r2 => ⟨fun z => ?_, fun z => ?_⟩)
  · rw [er_pos r2.1.1] at z
    rw [if_pos z] at h
    exact h σ2 f2 q2 ⟨erk_e r2.1.1, fun y => absurd y z⟩
  · rw [er_pos r2.1.1] at z
    rw [if_neg z] at h
    have z := Decidable.not_not.mp z
    have hI2 := evI_fv hI f2
    refine ⟨hI2.1.1, v_open hI2 hwc ha (nd_fv hwc hw hI.1 f2) (by omega) fun σ3 f3 q3 l3 => ?_⟩
    have hI3 := evI_fv hI2 f3
    cases q : arV S.2 c with
    | inl k =>
      intro k1 k8
      rw [q] at h
      refine ⟨_, _, rfl, fun _ => v_er hI3.1.1 ⟨k1, k8⟩ ((h.tr f2 q2).tr f3 q3), fun y => ?_⟩
      rw [er_pos k8] at y; omega
    | inr fl =>
      obtain ⟨f, r⟩ := fl
      intro hb i1 i2
      rw [q] at h
      have h : evQ σ (mtL V (ev1 S.2 V a).2 (celF f r 240) 0) Q := h
      have hb2 := id hb
      unfold box at hb2
      refine ⟨_, _, rfl, fun y => absurd y (by decide), fun _ => ⟨hI3.1.1, ?_⟩⟩
      rw [i1, r2.2 z]
      exact v_matchL hI3 hb i1 i2 (by omega) ((h.tr f2 q2).tr f3 q3) (r + 1 - f) f 0 (by omega) (Nat.le_refl _) (by omega) (by rw [celF_lo (f := f) (l := r) (by omega) f (Nat.le_refl _)])
theorem v_index {a c : Fm} {y w : Nat} (hI : evI G S V σ) (h7 : b7 σ) (hwa : wf a) (hwc : wf c) (ha : ar c) (hP : evP G S V a) (hy : nd G σ a y 0) (hw : nd G σ c w 0) (hd : 6 * hh a + 32 ≤ d)
    (h : evQ σ (match arV S.2 c with
      | .inl e => (e, zl 0)
      | .inr (f, l) => if (ev1 S.2 V a).1 ≠ 0 then ev1 S.2 V a else ixL V (ev1 S.2 V a).2 (celF f l 240) 0) Q) : wp_c d 149 [.ref 354, .ref w, .ref y] σ Q := by
  refine k149 hI.1.1 (by omega) (v_open hI hwc ha hw (by omega) fun σ2 f2 q2 l2 => ?_)
  have hI2 := evI_fv hI f2
  cases q : arV S.2 c with
  | inl k =>
    intro k1 k8
    rw [q] at h
    refine ⟨_, _, rfl, fun _ => v_er hI2.1.1 ⟨k1, k8⟩ (h.tr f2 q2), fun y => ?_⟩
    rw [er_pos k8] at y; omega
  | inr fl =>
    obtain ⟨f, r⟩ := fl
    intro hb i1 i2
    rw [q] at h
    have h : evQ σ (if (ev1 S.2 V a).1 ≠ 0 then ev1 S.2 V a else ixL V (ev1 S.2 V a).2 (celF f r 240) 0) Q := h
    have hb2 := id hb
    unfold box at hb2
    refine ⟨_, _, rfl, fun y => absurd y (by decide), fun _ => ⟨hI2.1.1, ?_⟩⟩
    rw [i1, i2]
    refine v_acc hP (nd_fv hwa hy hI.1 f2) hI2 (b7_eq h7 q2) (by omega) fun σ3 f3 q3 r3 => ⟨fun z => ?_, fun z => ?_⟩
    · rw [er_pos r3.1.1] at z
      rw [if_pos z] at h
      exact (h.tr f2 q2) σ3 f3 q3 r3
    · rw [er_pos r3.1.1] at z
      rw [if_neg z] at h
      have z := Decidable.not_not.mp z
      have hI3 := evI_fv hI2 f3
      refine ⟨hI3.1.1, ?_⟩
      rw [r3.2 z]
      have := v_indexL (x1 := w) (x2 := y) (x3 := zi ((ev1 S.2 V a).1 : Int)) hI3 hb (d := d - 1) (w := (ev1 S.2 V a).2) (by omega) ((h.tr f2 q2).tr f3 q3) (r + 1 - f) f 0 (by omega) (Nat.le_refl _) (by omega) (Or.inr rfl) (by rw [celF_lo (f := f) (l := r) (by omega) f (Nat.le_refl _)])
      rw [show (ev1 S.2 V a).2.toInt - ((0 : Nat) : Int) = (ev1 S.2 V a).2.toInt from (by omega), zl_self] at this
      exact this
theorem ag_at {as : Fm} {ts : List Fm} {j : Nat} {a : Fm} (e : ags as = ts) (h : ts[j]? = some a) : (ags as)[j]? = some a := by rw [e]; exact h
theorem v_choose {as a b c : Fm} {l bb : Nat} (hI : evI G S V σ) (h7 : b7 σ) (hA : agI G σ as l bb) (he : ags as = [a, b, c]) (hP : ∀ t ∈ ags as, evP G S V t ∧ 6 * hh t + 32 ≤ d) (hd : 32 ≤ d)
    (h : evQ σ (if (ev1 S.2 V a).1 ≠ 0 then ((ev1 S.2 V a).1, zl 0) else if (ev1 S.2 V a).2 = zl 0 then ev1 S.2 V c else ev1 S.2 V b) Q) : wp_c d 145 [.ref 354, .ref l] σ Q := by
  have pa := hP a (by rw [he]; exact List.mem_cons_self)
  have pb := hP b (by rw [he]; exact List.mem_cons_of_mem _ List.mem_cons_self)
  have pc := hP c (by rw [he]; exact List.mem_cons_of_mem _ (List.mem_cons_of_mem _ List.mem_cons_self))
  refine k145 hI.1.1 (by omega) ⟨ag_t hA, ag_get (j := 0) hA (ag_at he rfl) (by omega) (by omega) fun y hy wa na => ⟨_, _, rfl, Or.inr (nd_cast wa na hy), v_acc pa.1 hy hI h7 (by omega) fun σ2 f2 q2 r2 => ⟨fun z => ?_, fun z => ?_⟩⟩⟩
  · rw [er_pos r2.1.1] at z
    rw [if_pos z] at h
    exact h σ2 f2 q2 ⟨erk_e r2.1.1, fun y => absurd y z⟩
  · rw [er_pos r2.1.1] at z
    rw [if_neg z] at h
    have z := Decidable.not_not.mp z
    have hI2 := evI_fv hI f2
    have hA2 := agI_fv hA hI.1 f2
    refine ⟨hI2.1.1, fun w => ⟨ag_t hA2, ?_⟩, fun w => ⟨ag_t hA2, ?_⟩⟩
    · rw [r2.2 z] at w
      rw [if_pos w] at h
      exact ag_get (j := 2) hA2 (ag_at he rfl) (by omega) (by omega) fun y hy wa na => ⟨_, _, rfl, Or.inr (nd_cast wa na hy), v_acc pc.1 hy hI2 (b7_eq h7 q2) (by omega) fun σ3 f3 q3 r3 => (h.tr f2 q2) σ3 f3 q3 r3⟩
    · rw [r2.2 z] at w
      rw [if_neg w] at h
      exact ag_get (j := 1) hA2 (ag_at he rfl) (by omega) (by omega) fun y hy wa na => ⟨_, _, rfl, Or.inr (nd_cast wa na hy), v_acc pb.1 hy hI2 (b7_eq h7 q2) (by omega) fun σ3 f3 q3 r3 => (h.tr f2 q2) σ3 f3 q3 r3⟩
/-- the arguments' turns -/
def evR (G : Nat → Prop) (S : Sh) (V : Nat → Vl) (t : Fm) : Prop := ∀ a ∈ ags t, evP G S V a ∧ hh a ≤ hh t
theorem v_call {f : Nat} {as : Fm} (wa : wf as) (hL : isL as) (hs : shp f (ags as)) (ih : evR G S V as) : evP G S V (.mul (.arg f) as) := by
  intro a d σ Q h0 hI h7 hd h
  obtain ⟨⟨t0, g0⟩, h1, ⟨b, c, xs, h3, h4, h5⟩, h6⟩ := h0
  have hd : 6 * (hh as + 1) + 30 ≤ d := hd
  have hE := hI.1
  have hb : G b := by
    have := nd_G as wa _ _ h6
    rw [h3.1.2.1] at this; exact this
  rw [h3.1.2.1] at h6
  have hA : agI G σ as (cm_R σ a 1) b := ⟨wa, hL, h6, h5, hb, c, xs, h3, h4⟩
  have hf9 := shp_lt hs
  obtain ⟨k1, k2, k3⟩ := hE.2.1.2.2.1 f hf9
  have hP : ∀ t ∈ ags as, evP G S V t ∧ 6 * hh t + 32 ≤ d - 1 - 1 - 1 := fun t ht => ⟨(ih t ht).1, by have := (ih t ht).2; omega⟩
  have h : evA σ (clE S.2 V f (ags as) (evT S.2 V as)) Q := h
  rw [evT_L S.2 V as wa hL] at h
  refine ev_cal hE.1 t0 (by omega) (k144 hE.1 (by omega) ⟨t0, by rw [h1]; exact k1, ?_⟩)
  rw [h1]
  refine k506 (by omega) ⟨k1, ?_⟩
  rw [k3]
  refine ⟨_, _, rfl, ?_⟩
  dsimp only
  rw [zi_toInt (by omega) (by omega)]
  refine ⟨fun z => ⟨t0, hE.1, ?_⟩, fun z => ⟨fun y => ⟨hE.1, ?_⟩, fun y4 => ⟨fun y => ⟨hE.1, ?_⟩, fun y5 => ⟨fun y => ⟨ag_t hA, ?_⟩, fun y6 => ⟨fun y => ⟨ag_t hA, ?_⟩, fun y7 => ⟨fun y => ⟨ag_t hA, ?_⟩, fun y8 => ?_⟩⟩⟩⟩⟩⟩
  · have f4 : f < 4 := (by omega)
    rw [h1]
    have h8 : (ags as).length ≤ 8 := by
      match f, f4, hs with
      | 0, _, hs => exact hs.2.2.1
      | 1, _, hs => exact hs.2.2.1
      | 2, _, hs => exact hs.2.2.1
      | 3, _, hs => exact hs.2.2.1
    have ec : clE S.2 V f (ags as) ((ags as).map (ev1 S.2 V)) = gaE f (agsE S.2 V (ags as) ((ags as).map (ev1 S.2 V))) := by
      match f, f4 with
      | 0, _ => rfl
      | 1, _ => rfl
      | 2, _ => rfl
      | 3, _ => rfl
    rw [ec] at h
    exact v_sumUp hI h7 hA f4 h8 hP (by omega) ((h.q).i hE (by omega))
  · have : f = 4 := (by omega)
    subst this
    exact v_count hI hA hs.2.2 hs.2.1 (by omega) ((h.q).i hE (by omega))
  · have : f = 5 := (by omega)
    subst this
    obtain ⟨s1, s2⟩ := hs
    match q : ags as, s1 with
    | [a1, a2, a3], _ =>
      rw [q] at h
      exact v_choose hI h7 hA q hP (by omega) ((h.q).i hE (by omega))
  · have : f = 6 := (by omega)
    subst this
    obtain ⟨s1, s2⟩ := hs
    match q : ags as, s1 with
    | [a1], _ =>
      rw [q] at h
      have h : evA σ (if (ev1 S.2 V a1).1 ≠ 0 then ev1 S.2 V a1 else if (ev1 S.2 V a1).2 < zl 0 then subE (zl 0) (ev1 S.2 V a1).2 else ev1 S.2 V a1) Q := h
      have pa := hP a1 (by rw [q]; exact List.mem_cons_self)
      refine ag_get (j := 0) hA (ag_at q rfl) (by omega) (by omega) fun y hy wa na => ⟨_, _, rfl, Or.inr (nd_cast wa na hy), v_acc pa.1 hy hI h7 (by omega) fun σ2 f2 q2 r2 => ⟨fun z => ?_, fun z => ?_⟩⟩
      · rw [er_pos r2.1.1] at z
        rw [if_pos z] at h
        exact ((h.q).i hE (d := d - 1 - 1 - 1) (by omega)) σ2 f2 q2 r2 |> fun ⟨_, _, e, w⟩ => by cases e; exact w
      · rw [er_pos r2.1.1] at z
        rw [if_neg z] at h
        have z := Decidable.not_not.mp z
        have hI2 := evI_fv hI f2
        refine ⟨hI2.1.1, fun w => ?_, fun w => ?_⟩
        · rw [r2.2 z] at w
          rw [if_pos w] at h
          rw [r2.2 z]
          exact v_sub hI2.1.1 _ _ (by omega) ((h.q).i hE (by omega) |>.tr f2 q2)
        · rw [r2.2 z] at w
          rw [if_neg w] at h
          exact ((h.q).i hE (d := d - 1 - 1 - 1) (by omega)) σ2 f2 q2 r2 |> fun ⟨_, _, e, w⟩ => by cases e; exact w
  · have : f = 7 := (by omega)
    subst this
    obtain ⟨a1, a2, q, s1, s2⟩ := hs
    rw [q] at h
    have pa := hP a1 (by rw [q]; exact List.mem_cons_self)
    refine ag_get (j := 0) hA (ag_at q rfl) (by omega) (by omega) fun y hy wy ny => ⟨_, _, rfl, Or.inr (nd_cast wy ny hy), ag_t hA, ag_get (j := 1) hA (ag_at q rfl) (by omega) (by omega) fun w hw ww nw => ⟨_, _, rfl, Or.inr (nd_cast ww nw hw), hE.1, ?_⟩⟩
    exact v_match (as := as) (l := 0) (b := 0) hI h7 wy ww s2 pa.1 hy hw (by omega) ((h.q).i hE (by omega))
  · have : f = 8 := (by omega)
    subst this
    obtain ⟨a1, a2, q, s1, s2⟩ := hs
    rw [q] at h
    have pa := hP a2 (by rw [q]; exact List.mem_cons_of_mem _ List.mem_cons_self)
    refine ag_get (j := 0) hA (ag_at q rfl) (by omega) (by omega) fun w hw ww nw => ⟨_, _, rfl, Or.inr (nd_cast ww nw hw), ag_t hA, ag_get (j := 1) hA (ag_at q rfl) (by omega) (by omega) fun y hy wy ny => ⟨_, _, rfl, Or.inr (nd_cast wy ny hy), hE.1, ?_⟩⟩
    exact v_index hI h7 wy ww s1 pa.1 hy hw (by omega) ((h.q).i hE (by omega))
  · omega
theorem ev_all (t : Fm) (hw : wf t) : (nn t → evP G S V t) ∧ (isL t → evR G S V t) := by
  refine fm_ind2 (P := evP G S V) (R := evR G S V) ?_ ?_ ?_ ?_ ?_ ?_ ?_ ?_ ?_ ?_ ?_ t hw
  · intro n hn a d σ Q h0 hI h7 hd h
    refine ev_lit hI.1.1 h0.1.1 (by omega) (k152 hI.1.1 (by omega) ⟨h0.1.1, ?_⟩)
    rw [h0.2, zi_l (by omega) (by omega)]
    exact v_give hI.1.1 (by omega) ((h.q).i hI.1 (by omega))
  · intro v _ a d σ Q h0 hI h7 hd h
    refine ev_ref hI.1.1 h0.1.1 (by omega) (k169 hI.1.1 (by omega) ⟨h0.1.1, e_cell h0 (by omega) ⟨_, _, rfl, hI.1.1, ?_⟩⟩)
    exact v_ofCell hI (Nat.mod_lt _ (by decide)) (by omega) ((h.q).i hI.1 (by omega))
  · intro a d σ Q h0 hI h7 hd h
    exact ev_bro hI.1.1 h0.1 (by omega) (k142 hI.1.1 (by omega) (v_box hI.1 (k := 4) (by decide) (by omega) h.q))
  · intro c hc a d σ Q h0 hI h7 hd h
    have hE := hI.1
    refine ev_nam hE.1 h0.1.1 (by omega) (k158 hE.1 (by omega) (v_open (t := .length (.arg c)) hI hc trivial h0 (by omega) fun σ2 f2 q2 _ => ?_))
    have hI2 := evI_fv hI f2
    have ee : ev1 S.2 V (.length (.arg c)) = (match arV S.2 (.length (.arg c)) with
      | .inl e => (e, zl 0)
      | .inr (a, b) => if a = b then tkV V a else (6, zl 0)) := by
      rw [arV_nm]
      show (match nmR S.2 c with
        | none => (3, zl 0)
        | some none => (4, zl 0)
        | some (some (a, b)) => if a = b then tkV V a else (6, zl 0)) = _
      cases nmR S.2 c with
      | none => rfl
      | some o => cases o <;> rfl
    rw [ee] at h
    cases q : arV S.2 (.length (.arg c)) with
    | inl k =>
      intro k1 k8
      rw [q] at h
      refine ⟨_, _, rfl, fun _ => v_box hI2.1 ⟨k1, k8⟩ (by omega) ((h.q).tr f2 q2), fun y => ?_⟩
      rw [er_pos k8] at y; omega
    | inr fl =>
      obtain ⟨f, r⟩ := fl
      intro hb i1 i2
      rw [q] at h
      have h : evA σ (if f = r then tkV V f else (6, zl 0)) Q := h
      unfold box at hb
      refine ⟨_, _, rfl, fun y => absurd y (by decide), fun _ => ⟨hI2.1.1, ?_⟩⟩
      rw [i1, i2]
      refine ⟨fun z => ?_, fun z => ?_⟩
      · rw [zn_eq (by omega) (by omega)] at z
        rw [if_pos z] at h
        exact v_ofCell hI2 (by omega) (by omega) ((h.q).i hE (by omega) |>.tr f2 q2)
      · rw [zn_eq (by omega) (by omega)] at z
        rw [if_neg z] at h
        exact v_box hI2.1 (k := 6) (by decide) (by omega) ((h.q).tr f2 q2)
  · intro u v _ _ a d σ Q h0 hI h7 hd h
    exact ev_rng hI.1.1 h0.1.1 (by omega) (k167 hI.1.1 (by omega) (v_box hI.1 (k := 6) (by decide) (by omega) h.q))
  · intro o l r ho wl wr nl nr ihl ihr a d σ Q h0 hI h7 hd h
    obtain ⟨⟨t0, g0⟩, h1, h2, h3⟩ := h0
    have hE := hI.1
    have hd : 6 * (max (hh l) (hh r) + 1) + 30 ≤ d := hd
    have ha : a ≠ 354 := fun z => gk_mid hE.2.2 g0 (by rw [z]; unfold mid; omega)
    rw [ev1_op] at h
    unfold binE at h
    refine ev_bin hE.1 t0 (by omega) (k140 hE.1 (by omega) ⟨t0, v_acc ihl h2 hI h7 (by omega) fun σ2 f2 q2 r2 => ?_⟩)
    have hI2 := evI_fv hI f2
    refine ⟨hI2.1.1, by rw [f2.1.1]; exact t0, ?_⟩
    rw [f2.1.2.2.1]
    refine v_acc ihr (nd_fv wr h3 hE f2) hI2 (b7_eq h7 q2) (by omega) fun σ3 f3 q3 r3 => ⟨fun z => ?_, fun z => ⟨fun y => ?_, fun y => ?_⟩⟩
    · rw [er_pos r2.1.1] at z
      rw [if_pos z] at h
      have hI3 := evI_fv hI2 f3
      exact v_box hI3.1 ⟨Nat.pos_of_ne_zero z, r2.1.1⟩ (by omega) (((h.q).tr f2 q2).tr f3 q3)
    · rw [er_pos r2.1.1] at z
      rw [er_pos r3.1.1] at y
      rw [if_neg z, if_pos y] at h
      have hI3 := evI_fv hI2 f3
      have e3 : ev1 S.2 V r = ((ev1 S.2 V r).1, zl 0) := Prod.ext rfl (r3.1.2 y)
      rw [e3] at h
      exact v_box hI3.1 ⟨Nat.pos_of_ne_zero y, r3.1.1⟩ (by omega) (((h.q).tr f2 q2).tr f3 q3)
    · rw [er_pos r2.1.1] at z
      rw [er_pos r3.1.1] at y
      rw [if_neg z, if_neg y] at h
      have hI3 := evI_fv hI2 f3
      have z := Decidable.not_not.mp z
      have y := Decidable.not_not.mp y
      have fh := fv_tr f2 f3
      refine ⟨by rw [fh.1.1]; exact t0, hI3.1.1, ?_⟩
      rw [fh.1.2.2.1, r2.2 z, r3.2 y]
      have hop : opS G σ3 (cm_R σ a 0) (opT (opc o)) := opS_sm (fun a ha => ⟨ha, fh.2.2 a (fun z => gk_mid hE.2.2 ha (by rw [z]; unfold mid; omega))⟩) h1
      exact v_apply ho hop hI3.1 _ _ (by omega) (((h.q).i hE (by omega) |>.tr f2 q2).tr f3 q3)
  · intro t wt _ ih a d σ Q h0 hI h7 hd h
    have hE := hI.1
    have hd : 6 * (hh t + 1) + 30 ≤ d := hd
    have h : evA σ (negE (ev1 S.2 V t)) Q := h
    unfold negE at h
    refine ev_neg hE.1 h0.1.1 (by omega) (k160 hE.1 (by omega) ⟨h0.1.1, v_acc ih h0.2 hI h7 (by omega) fun σ2 f2 q2 r2 => ⟨fun z => ?_, fun z => ?_⟩⟩)
    · rw [er_pos r2.1.1] at z
      rw [if_pos z] at h
      exact ((h.q).i hE (d := d - 1 - 1 - 1) (by omega)) σ2 f2 q2 r2 |> fun ⟨_, _, e, w⟩ => by cases e; exact w
    · rw [er_pos r2.1.1] at z
      rw [if_neg z] at h
      have z := Decidable.not_not.mp z
      have hI2 := evI_fv hI f2
      refine ⟨hI2.1.1, ?_⟩
      rw [r2.2 z]
      exact v_sub hI2.1.1 _ _ (by omega) ((h.q).i hE (by omega) |>.tr f2 q2)
  · intro t wt _ ih a d σ Q h0 hI h7 hd h
    have hd : 6 * (hh t + 1) + 30 ≤ d := hd
    refine ev_par hI.1.1 h0.1.1 (by omega) (k165 hI.1.1 (by omega) ⟨h0.1.1, ih _ _ _ _ h0.2 hI h7 (by omega) fun σ2 f2 q2 r2 => ⟨_, _, rfl, ?_, _, _, rfl, h σ2 f2 q2 r2⟩⟩)
    exact (v_unbox (K := fun _ _ => True) (d := 1) (eB_fv hI.1 f2).2.1 r2.1.1 (by omega) trivial).1
  · exact fun f as wa hL hs ih => v_call wa hL hs ih
  · intro t r wt wr nt hL iht ihr a ha
    have ha : a ∈ t :: ags r := ha
    rcases List.mem_cons.mp ha with e | e
    · subst e; exact ⟨iht, Nat.le_max_left _ _⟩
    · exact ⟨(ihr a e).1, Nat.le_trans (ihr a e).2 (Nat.le_max_right _ _)⟩
  · intro a ha
    cases ha
theorem ev_acc {t : Fm} (hw : wf t) (hn : nn t) : evP G S V t := (ev_all t hw).1 hn
end
