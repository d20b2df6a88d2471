/-! ENGINE: SUM, MIN, MAX, AVG -/
/-- what arguments came to -/
def acv (A : Ac) : Int64 × Int64 × Int64 × Int32 × Int32 := (A.2.1, A.2.2.2.1, A.2.2.2.2, zi (A.1 : Int), bz A.2.2.1)
theorem zn_0 {k : Nat} (h : k < 2147483648) : zi (k : Int) = zi 0 ↔ k = 0 := zn_eq (b := 0) h (by decide)
theorem en_pL_ {σ : cm_S} {a i : Nat} {v : Int64} (h : en_ok σ) : en_ok (cm_pL σ a i v) := en_like h (Nat.le_refl _) (fun _ _ => rfl) (fun _ _ => rfl) (fun _ _ => rfl)
theorem en_pI_ {σ : cm_S} {a i : Nat} {v : Int32} (h : en_ok σ) : en_ok (cm_pI σ a i v) := en_like h (Nat.le_refl _) (fun _ _ => rfl) (fun _ _ => rfl) (fun _ _ => rfl)
section
variable {G : Nat → Prop} {σ σ1 σ2 : cm_S} {x : Nat} {e : Er} {Q : cm_O → Prop} {d : Nat} {S : Sh} {V : Nat → Vl}
theorem en_fv (h : en_ok σ) (f : fv σ σ2) : en_ok σ2 := en_like h (Nat.le_of_eq f.1.2.2.2.1.symm) (fun a _ => by rw [f.1.1]) (fun a _ => by rw [f.1.2.1]) (fun a _ => by rw [f.1.2.2.1])
theorem v_meetT {v : Int64} {n : Nat} (hE : en_ok σ2) (hn : cm_I σ2 354 6 = zi (n : Int)) (hn9 : n < 100000) (hd : 1 ≤ d)
    (h : ∀ σ5, fv σ2 σ5 → a5 σ5 = (cm_L σ2 354 3, if n = 0 ∨ v < cm_L σ2 354 4 then v else cm_L σ2 354 4, if n = 0 ∨ cm_L σ2 354 5 < v then v else cm_L σ2 354 5, zi ((n + 1 : Nat) : Int), cm_I σ2 354 7) → cm_I σ5 354 1 = cm_I σ2 354 1 → cm_I σ5 354 2 = cm_I σ2 354 2 → Q (false, .int 0, σ5)) :
    ((cm_I σ2 354 6) = (zi 0) → (∀ σ3, σ3 = cm_pL σ2 354 4 v →
      ((cm_I σ3 354 6) = (zi 0) → (∀ σ4, σ4 = cm_pL σ3 354 5 v → ∀ σ5, σ5 = cm_pI σ4 354 6 ((cm_I σ4 354 6) + (zi 1)) → Q (false, .int 0, σ5))) ∧
      (¬ (cm_I σ3 354 6) = (zi 0) → (wp_c d 580 [.long (cm_L σ3 354 5), .long v] σ3 (ql fun r6 σ6 => en_ok σ6 ∧ ∀ σ7, σ7 = cm_pL σ6 354 5 r6 → ∀ σ8, σ8 = cm_pI σ7 354 6 ((cm_I σ7 354 6) + (zi 1)) → Q (false, .int 0, σ8)))))) ∧
    (¬ (cm_I σ2 354 6) = (zi 0) → (wp_c d 582 [.long (cm_L σ2 354 4), .long v] σ2 (ql fun r9 σ9 => en_ok σ9 ∧ ∀ σ10, σ10 = cm_pL σ9 354 4 r9 →
      ((cm_I σ10 354 6) = (zi 0) → (∀ σ11, σ11 = cm_pL σ10 354 5 v → ∀ σ12, σ12 = cm_pI σ11 354 6 ((cm_I σ11 354 6) + (zi 1)) → Q (false, .int 0, σ12))) ∧
      (¬ (cm_I σ10 354 6) = (zi 0) → (wp_c d 580 [.long (cm_L σ10 354 5), .long v] σ10 (ql fun r13 σ13 => en_ok σ13 ∧ ∀ σ14, σ14 = cm_pL σ13 354 5 r13 → ∀ σ15, σ15 = cm_pI σ14 354 6 ((cm_I σ14 354 6) + (zi 1)) → Q (false, .int 0, σ15))))))) := by
  have hE' : ∀ w, en_ok (cm_pL σ2 354 4 w) := fun w => en_like hE (Nat.le_refl _) (fun _ _ => rfl) (fun _ _ => rfl) (fun _ _ => rfl)
  have hE2 : ∀ w u, en_ok (cm_pL (cm_pL σ2 354 4 w) 354 5 u) := fun w u => en_like hE (Nat.le_refl _) (fun _ _ => rfl) (fun _ _ => rfl) (fun _ _ => rfl)
  have fin : ∀ w u : Int64, w = (if n = 0 ∨ v < cm_L σ2 354 4 then v else cm_L σ2 354 4) → u = (if n = 0 ∨ cm_L σ2 354 5 < v then v else cm_L σ2 354 5) → Q (false, .int 0, cm_pI (cm_pL (cm_pL σ2 354 4 w) 354 5 u) 354 6 (cm_I σ2 354 6 + zi 1)) := fun w u e1 e2 => by
    refine h _ (fv_tr (fv_tr (fv_pL hE 4 w) (fv_pL (hE' w) 5 u)) (fv_pI (hE2 w u) 6 _)) ?_ (pI_nj _ _ _ _ (by decide)) (pI_nj _ _ _ _ (by decide))
    simp only [a5, pI_L, pL_I, pL_at, pI_at, pL_nj _ _ _ _ (show 3 ≠ 5 by decide), pL_nj _ _ _ _ (show 3 ≠ 4 by decide), pL_nj _ _ _ _ (show 4 ≠ 5 by decide), pI_nj _ _ _ _ (show 7 ≠ 6 by decide)]
    rw [hn, zn_a n 1 1 rfl, e1, e2]
  have n0 : cm_I σ2 354 6 = zi 0 ↔ n = 0 := by rw [hn]; exact zn_0 (by omega)
  have l5 : ∀ w, cm_L (cm_pL σ2 354 4 w) 354 5 = cm_L σ2 354 5 := fun w => pL_nj _ _ _ _ (by decide)
  refine ⟨fun z => ?_, fun z => ?_⟩
  · rintro _ rfl
    rw [n0] at z
    refine ⟨fun _ => ?_, fun z2 => absurd (n0.mpr z) z2⟩
    rintro _ rfl
    rintro _ rfl
    exact fin v v (by rw [if_pos (Or.inl z)]) (by rw [if_pos (Or.inl z)])
  · rw [n0] at z
    have tail : ∀ w, w = (if n = 0 ∨ v < cm_L σ2 354 4 then v else cm_L σ2 354 4) → en_ok σ2 ∧ ∀ σ10, σ10 = cm_pL σ2 354 4 w →
      ((cm_I σ10 354 6) = (zi 0) → (∀ σ11, σ11 = cm_pL σ10 354 5 v → ∀ σ12, σ12 = cm_pI σ11 354 6 ((cm_I σ11 354 6) + (zi 1)) → Q (false, .int 0, σ12))) ∧
      (¬ (cm_I σ10 354 6) = (zi 0) → (wp_c d 580 [.long (cm_L σ10 354 5), .long v] σ10 (ql fun r13 σ13 => en_ok σ13 ∧ ∀ σ14, σ14 = cm_pL σ13 354 5 r13 → ∀ σ15, σ15 = cm_pI σ14 354 6 ((cm_I σ14 354 6) + (zi 1)) → Q (false, .int 0, σ15)))) := fun w ew => by
      refine ⟨hE, ?_⟩
      rintro _ rfl
      refine ⟨fun z2 => absurd (n0.mp z2) z, fun _ => ?_⟩
      rw [l5]
      refine k580 hd ⟨fun y => ⟨_, _, rfl, hE' w, ?_⟩, fun y => ⟨_, _, rfl, hE' w, ?_⟩⟩
      · rintro _ rfl
        rintro _ rfl
        exact fin w v ew (by rw [if_pos (Or.inr y)])
      · rintro _ rfl
        rintro _ rfl
        exact fin w _ ew (by rw [if_neg (fun q => q.elim z y)])
    refine k582 hd ⟨fun y => ⟨_, _, rfl, tail v (by rw [if_pos (Or.inr y)])⟩, fun y => ⟨_, _, rfl, tail _ (by rw [if_neg (fun q => q.elim z y)])⟩⟩
theorem v_meet {v : Int64} {A : Ac} (hE : en_ok σ) (hA : a5 σ = acv A) (hn : A.1 < 100000) (hd : 2 ≤ d) (h : ∀ σ5, fv σ σ5 → a5 σ5 = acv (acS A v) → cm_I σ5 354 1 = cm_I σ 354 1 → cm_I σ5 354 2 = cm_I σ 354 2 → Q (false, .int 0, σ5)) : wp_c d 154 [.ref 354, .long v] σ Q := by
  have e3 : cm_L σ 354 3 = A.2.1 := congrArg (fun q => q.1) hA
  have e4 : cm_L σ 354 4 = A.2.2.2.1 := congrArg (fun q => q.2.1) hA
  have e5 : cm_L σ 354 5 = A.2.2.2.2 := congrArg (fun q => q.2.2.1) hA
  have e6 : cm_I σ 354 6 = zi (A.1 : Int) := congrArg (fun q => q.2.2.2.1) hA
  have e7 : cm_I σ 354 7 = bz A.2.2.1 := congrArg (fun q => q.2.2.2.2) hA
  have main : ∀ b : Bool, b = (A.2.2.1 || decide (((A.2.1 ^^^ (A.2.1 + v)) &&& (v ^^^ (A.2.1 + v))) < zl 0)) → ∀ σ5, fv (cm_pL (cm_pI σ 354 7 (bz b)) 354 3 (A.2.1 + v)) σ5 → a5 σ5 = (cm_L (cm_pL (cm_pI σ 354 7 (bz b)) 354 3 (A.2.1 + v)) 354 3, if A.1 = 0 ∨ v < cm_L (cm_pL (cm_pI σ 354 7 (bz b)) 354 3 (A.2.1 + v)) 354 4 then v else cm_L (cm_pL (cm_pI σ 354 7 (bz b)) 354 3 (A.2.1 + v)) 354 4, if A.1 = 0 ∨ cm_L (cm_pL (cm_pI σ 354 7 (bz b)) 354 3 (A.2.1 + v)) 354 5 < v then v else cm_L (cm_pL (cm_pI σ 354 7 (bz b)) 354 3 (A.2.1 + v)) 354 5, zi ((A.1 + 1 : Nat) : Int), cm_I (cm_pL (cm_pI σ 354 7 (bz b)) 354 3 (A.2.1 + v)) 354 7) → cm_I σ5 354 1 = cm_I (cm_pL (cm_pI σ 354 7 (bz b)) 354 3 (A.2.1 + v)) 354 1 → cm_I σ5 354 2 = cm_I (cm_pL (cm_pI σ 354 7 (bz b)) 354 3 (A.2.1 + v)) 354 2 → Q (false, .int 0, σ5) := fun b eb σ5 f5 q5 i1 i2 => by
    have x1 : cm_L (cm_pL (cm_pI σ 354 7 (bz b)) 354 3 (A.2.1 + v)) 354 3 = A.2.1 + v := pL_at _ _ _ _
    have x2 : cm_L (cm_pL (cm_pI σ 354 7 (bz b)) 354 3 (A.2.1 + v)) 354 4 = A.2.2.2.1 := (pL_nj _ _ _ _ (by decide)).trans e4
    have x3 : cm_L (cm_pL (cm_pI σ 354 7 (bz b)) 354 3 (A.2.1 + v)) 354 5 = A.2.2.2.2 := (pL_nj _ _ _ _ (by decide)).trans e5
    have x4 : cm_I (cm_pL (cm_pI σ 354 7 (bz b)) 354 3 (A.2.1 + v)) 354 7 = bz b := pI_at σ 354 7 _
    rw [x1, x2, x3, x4] at q5
    refine h σ5 (fv_tr (fv_tr (fv_pI hE 7 _) (fv_pL (σ := cm_pI σ 354 7 (bz b)) (en_like hE (Nat.le_refl _) (fun _ _ => rfl) (fun _ _ => rfl) (fun _ _ => rfl)) 3 _)) f5) (q5.trans ?_) (i1.trans (by rw [pL_I]; exact pI_nj _ _ _ _ (by decide))) (i2.trans (by rw [pL_I]; exact pI_nj _ _ _ _ (by decide)))
    rw [eb]; rfl
  have hE2 : ∀ b : Bool, en_ok (cm_pL (cm_pI σ 354 7 (bz b)) 354 3 (A.2.1 + v)) := fun b => en_like hE (Nat.le_refl _) (fun _ _ => rfl) (fun _ _ => rfl) (fun _ _ => rfl)
  have h6 : ∀ b : Bool, cm_I (cm_pL (cm_pI σ 354 7 (bz b)) 354 3 (A.2.1 + v)) 354 6 = zi (A.1 : Int) := fun b => by rw [pL_I, pI_nj _ _ _ _ (by decide)]; exact e6
  refine k154 hE hd ?_
  rw [e3, e7]
  refine ⟨fun z => ⟨fun y => ?_, fun y => ?_⟩, fun z => ?_⟩
  · rw [bz_0] at z
    rintro _ rfl
    rintro _ rfl
    exact v_meetT (n := A.1) (hE2 true) (h6 true) hn (by omega) (main true (by rw [decide_eq_true y, Bool.or_true]))
  · rw [bz_0] at z
    rintro _ rfl
    rintro _ rfl
    exact v_meetT (n := A.1) (hE2 false) (h6 false) hn (by omega) (main false (by rw [decide_eq_false y, z]; rfl))
  · rw [bz_0, Bool.not_eq_false] at z
    rintro _ rfl
    rintro _ rfl
    exact v_meetT (n := A.1) (hE2 true) (h6 true) hn (by omega) (main true (by rw [z, Bool.true_or]))
/-- what comes of a row of events -/
def geQ (σ : cm_S) (A : Ac) (l : List Er) (Q : cm_O → Prop) : Prop := ∀ σ2, fv σ σ2 → (fer l = 0 → a5 σ2 = acv (acL l A) → Q (false, .int (zi 0), σ2)) ∧ (fer l ≠ 0 → fer l ≤ 8 → Q (false, .int (zi (fer l : Int)), σ2))
theorem geQ.tr {A : Ac} {l : List Er} (h : geQ σ A l Q) (f : fv σ σ1) : geQ σ1 A l Q := fun σ2 f2 => h σ2 (fv_tr f f2)
theorem geQ.n {A : Ac} {l : List Er} {v : Int64} (h : geQ σ A ((0, v) :: l) Q) : geQ σ (acS A v) l Q := h
theorem geQ.er {A : Ac} {l : List Er} {w : Er} (hw : w.1 ≠ 0) (h8 : w.1 ≤ 8) (h : geQ σ A (w :: l) Q) (f : fv σ σ2) : Q (false, .int (zi (w.1 : Int)), σ2) := by
  have e : fer (w :: l) = w.1 := by show (if w.1 = 0 then fer l else w.1) = _; rw [if_neg hw]
  have := (h σ2 f).2
  rw [e] at this
  exact this hw h8
theorem v_meetL {f l : Nat} (hb : box f l) {x1 : Nat} (hd : 4 ≤ d) :
    ∀ n c : Nat, ∀ σ1 A, c + n = l + 1 → f ≤ c → A.1 + n < 90000 → evI G S V σ1 → a5 σ1 = acv A → cm_I σ1 354 1 = zi (f : Int) → cm_I σ1 354 2 = zi (l : Int) → geQ σ1 A (arE V (celF f l (240 - c))) Q → wp_r d 155 (11, [.ref 354, .ref x1, .int (zi 0), .int (zi (c : Int))], [], σ1) Q := by
  have hb2 := id hb
  unfold box at hb2
  intro n
  induction n with
  | zero =>
    intro c σ1 A hc hf hn hI hA h1 h2 h
    have hE := hI.1.1
    refine k155_11 hE (by omega) ⟨fun _ => ?_, fun z => ?_⟩
    · rw [celF_gt _ _ rfl (by omega)] at h
      exact (h σ1 (fv_0 (en_t354 hE))).1 rfl hA
    · rw [h2, zi_lt (by omega) (by omega) (by omega) (by omega)] at z; omega
  | succ n ih =>
    intro c σ1 A hc hf hn hI hA h1 h2 h
    have hE := hI.1.1
    have hc9 : c < 240 := (by omega)
    rw [celF_step hc9] at h
    refine k155_11 hE (by omega) ⟨fun z => ?_, fun _ => ⟨fun _ => ?_, fun z => absurd rfl z⟩⟩
    · rw [h2, zi_lt (by omega) (by omega) (by omega) (by omega)] at z; omega
    rw [h1, h2]
    refine e_within hE (by omega) (by omega) (by omega) (by omega) ⟨_, _, rfl, fun z => ?_, fun z => ⟨hE, zn_in hc9 (by omega), fun y => ?_, fun y => ?_⟩⟩
    · rw [bz_0] at z
      rw [z] at h
      rw [zn_a c 1 1 rfl]
      exact ih (c + 1) σ1 A (by omega) (by omega) (by omega) hI hA h1 h2 h
    · rw [bz_0, Bool.not_eq_false] at z
      rw [zn_ix (by omega), (show cm_I σ1 333 c = zi 0 ↔ (V c).1 = 0 from evl_k hI.2.2 hc9 (k := 0) (by omega))] at y
      rw [z, if_pos rfl, arE_step, if_pos y] at h
      rw [zn_a c 1 1 rfl]
      exact ih (c + 1) σ1 A (by omega) (by omega) (by omega) hI hA h1 h2 h
    · rw [bz_0, Bool.not_eq_false] at z
      rw [zn_ix (by omega), (show cm_I σ1 333 c = zi 0 ↔ (V c).1 = 0 from evl_k hI.2.2 hc9 (k := 0) (by omega))] at y
      rw [z, if_pos rfl, arE_step, if_neg y] at h
      refine v_ofCellI hI hc9 (by omega) fun σ2 f2 q2 i2 r2 => ⟨_, _, rfl, fun w => ?_, fun w => ?_⟩
      · have w0 : (tkV V c).1 = 0 := by
          have := r2.1.1
          rw [zn_0 (by omega)] at w; exact w
        have hI2 := evI_fv hI f2
        rw [r2.2 w0]
        refine ⟨hI2.1.1, v_meet hI2.1.1 (q2.trans hA) (by omega) (by omega) fun σ3 f3 q3 j1 j2 => ⟨rfl, ?_⟩⟩
        rw [w, zn_a c 1 1 rfl]
        have e9 : tkV V c = (0, (tkV V c).2) := Prod.ext w0 rfl
        rw [e9] at h
        refine ih (c + 1) σ3 _ (by omega) (by omega) (by show A.1 + 1 + n < 90000; omega) (evI_fv hI2 f3) q3 ?_ ?_ ((h.n.tr f2).tr f3)
        · rw [j1, i2]; exact h1
        · rw [j2, i2]; exact h2
      · have w0 : (tkV V c).1 ≠ 0 := fun e => w (by rw [e]; rfl)
        have hq := h.er w0 r2.1.1 f2
        have hE2 := (evI_fv hI f2).1.1
        refine k155_11 hE2 (by omega) ⟨fun _ => hq, fun _ => ⟨fun z2 => absurd z2 w, fun _ => hq⟩⟩
theorem v_meetAll {t : Fm} {A : Ac} (hI : evI G S V σ) (hw : wf t) (ha : ar t) (h0 : nd G σ t x 0) (hA : a5 σ = acv A) (hn : A.1 < 80000) (hd : 14 ≤ d) (h : geQ σ A (agE S.2 V t (0, zl 0)) Q) : wp_c d 155 [.ref 354, .ref x] σ Q := by
  have hB := ar_B ha
  refine k155 hI.1.1 (by omega) (v_open hI hw ha h0 (by omega) fun σ2 f2 q2 _ => ?_)
  have hI2 := evI_fv hI f2
  cases q : arV S.2 t with
  | inl k =>
    intro k1 k8
    rw [agE_l V _ hB q] at h
    refine ⟨_, _, rfl, hI2.1.1, ?_⟩
    have hq : Q (false, .int (zi (k : Int)), σ2) := h.er (w := (k, zl 0)) (by show k ≠ 0; omega) k8 f2
    refine k155_11 hI2.1.1 (by omega) ⟨fun _ => hq, fun _ => ⟨fun z2 => ?_, fun _ => hq⟩⟩
    rw [zn_0 (by omega)] at z2; omega
  | inr fl =>
    obtain ⟨f, l⟩ := fl
    intro hb i1 i2
    rw [agE_r V _ hB q] at h
    have hb2 := id hb
    unfold box at hb2
    refine ⟨_, _, rfl, hI2.1.1, ?_⟩
    rw [i1]
    refine v_meetL (x1 := x) hb (by omega) (l + 1 - f) f σ2 A (by omega) (Nat.le_refl _) (by omega) hI2 (q2.trans hA) i1 i2 ?_
    rw [celF_lo (f := f) (l := l) (by omega) f (Nat.le_refl _)]
    exact h.tr f2
/-- whether it can be an area -/
theorem v_isArea {t : Fm} (hw : wf t) (hn : nn t) (h0 : nd G σ t x 0) (hd : 1 ≤ d) (h : Q (false, .int (bz (arB t)), σ)) : ∃ mm, cp_disp 123 (cm_tg σ x) = some mm ∧ cm_rk cp mm = 1 ∧ wp_c d mm [.ref x] σ Q := by
  refine (fm_ind2 (P := fun t => nd G σ t x 0 → Q (false, .int (bz (arB t)), σ) → ∃ mm, cp_disp 123 (cm_tg σ x) = some mm ∧ cm_rk cp mm = 1 ∧ wp_c d mm [.ref x] σ Q) (R := fun _ => True) ?_ ?_ ?_ ?_ ?_ ?_ ?_ ?_ ?_ (fun _ _ _ _ _ _ _ _ => trivial) trivial t hw).1 hn h0 h
  · exact fun n _ h0 h => ⟨364, by rw [h0.1.1]; rfl, rfl, k364 hd h⟩
  · exact fun n _ h0 h => ⟨383, by rw [h0.1.1]; rfl, rfl, k383 hd h⟩
  · exact fun h0 h => ⟨378, by rw [h0.1]; rfl, rfl, k378 hd h⟩
  · exact fun n _ h0 h => ⟨375, by rw [h0.1.1]; rfl, rfl, k375 hd h⟩
  · exact fun u v _ _ h0 h => ⟨387, by rw [h0.1.1]; rfl, rfl, k387 hd h⟩
  · exact fun o l r _ _ _ _ _ _ _ h0 h => ⟨364, by rw [h0.1.1]; rfl, rfl, k364 hd h⟩
  · exact fun a _ _ _ h0 h => ⟨364, by rw [h0.1.1]; rfl, rfl, k364 hd h⟩
  · exact fun a _ _ _ h0 h => ⟨364, by rw [h0.1.1]; rfl, rfl, k364 hd h⟩
  · exact fun f as _ _ _ _ h0 h => ⟨364, by rw [h0.1.1]; rfl, rfl, k364 hd h⟩
/-- whether the sum went beyond is a truth value -/
def b7 (σ : cm_S) : Prop := ∃ b : Bool, (a5 σ).2.2.2.2 = bz b
theorem b7_eq (h : b7 σ) (e : a5 σ2 = a5 σ) : b7 σ2 := by unfold b7; rw [e]; exact h
theorem b7_ac {A : Ac} (e : a5 σ = acv A) : b7 σ := ⟨A.2.2.1, by rw [e]; rfl⟩
/-- a formula's turn with the evaluator -/
def evP (G : Nat → Prop) (S : Sh) (V : Nat → Vl) (t : Fm) : Prop := ∀ (a d : Nat) (σ : cm_S) (Q : cm_O → Prop), nd G σ t a 0 → evI G S V σ → b7 σ → 6 * hh t + 30 ≤ d → evA σ (ev1 S.2 V t) Q → acc d 354 a σ Q
/-- what was there comes back -/
theorem v_rest {s3 s4 s5 : Int64} {s6 s7 : Int32} {bb : Bool} (h7 : s7 = bz bb) (hE : en_ok σ1) {w : Er} (hw : rs σ1 w) (f1 : fv σ σ1) (h5 : a5 σ = (s3, s4, s5, s6, s7)) (h : evQ σ w Q) :
    ∀ σ2, σ2 = cm_pL σ1 354 3 s3 → ∀ σ3, σ3 = cm_pL σ2 354 4 s4 → ∀ σ4, σ4 = cm_pL σ3 354 5 s5 → ∀ σ5, σ5 = cm_pI σ4 354 6 s6 → cm_fit 3 s7 = true ∧ (∀ σ6, σ6 = cm_pI σ5 354 7 s7 → Q (false, .int (zi (w.1 : Int)), σ6)) := by
  rintro _ rfl
  rintro _ rfl
  rintro _ rfl
  rintro _ rfl
  refine ⟨by rw [h7]; exact bz_fit bb, ?_⟩
  rintro _ rfl
  refine h _ (fv_tr f1 (fv_tr (fv_tr (fv_tr (fv_tr (fv_pL hE 3 s3) (fv_pL (en_pL_ hE) 4 s4)) (fv_pL (en_pL_ (en_pL_ hE)) 5 s5)) (fv_pI (en_pL_ (en_pL_ (en_pL_ hE))) 6 s6)) (fv_pI (en_pI_ (en_pL_ (en_pL_ (en_pL_ hE)))) 7 s7))) ?_ ⟨hw.1, fun z => ?_⟩
  · rw [h5]
    simp only [a5, pI_L, pL_I, pL_at, pI_at, pL_nj _ _ _ _ (show 3 ≠ 5 by decide), pL_nj _ _ _ _ (show 3 ≠ 4 by decide), pL_nj _ _ _ _ (show 4 ≠ 5 by decide), pI_nj _ _ _ _ (show 6 ≠ 7 by decide)]
  · rw [pI_L, pI_L, pL_nj _ _ _ _ (by decide), pL_nj _ _ _ _ (by decide), pL_nj _ _ _ _ (by decide)]
    exact hw.2 z
theorem v_told {A : Ac} {f : Nat} (hE : en_ok σ) (hf : f < 4) (hA : a5 σ = acv A) (h0 : A.1 = 0 → A.2.2.1 = false) (hn : A.1 < 100000) (hd : 3 ≤ d) (h : evQ σ (acF f A) Q) : wp_c d 172 [.ref 354, .ref (f + 1)] σ Q := by
  have e3 : cm_L σ 354 3 = A.2.1 := congrArg (fun q => q.1) hA
  have e4 : cm_L σ 354 4 = A.2.2.2.1 := congrArg (fun q => q.2.1) hA
  have e5 : cm_L σ 354 5 = A.2.2.2.2 := congrArg (fun q => q.2.2.1) hA
  have e6 : cm_I σ 354 6 = zi (A.1 : Int) := congrArg (fun q => q.2.2.2.1) hA
  have e7 : cm_I σ 354 7 = bz A.2.2.1 := congrArg (fun q => q.2.2.2.2) hA
  have ac : ∀ k, k < 34 → cm_ac (f + 1) k := fun k hk => Or.inr (Or.inr (Or.inr (Or.inr (Or.inr ⟨show f + 1 < 34 from (by omega), hk⟩))))
  unfold acF at h
  refine k172 hE (by omega) ⟨ac _ (by decide), fun z => ?_, fun z => ⟨ac _ (by decide), fun y => ?_, fun y => ⟨fun w => ⟨ac _ (by decide), fun v => ?_, fun v => ?_⟩, fun w => ?_⟩⟩⟩
  · rw [if_pos (show f = 1 from (by omega))] at h
    rw [e4]; exact v_give hE (by omega) h.q
  · rw [if_neg (show ¬ f = 1 from (by omega)), if_pos (show f = 2 from (by omega))] at h
    rw [e5]; exact v_give hE (by omega) h.q
  · rw [e7, bz_0] at w
    rw [if_neg (show ¬ f = 1 from (by omega)), if_neg (show ¬ f = 2 from (by omega)), if_neg (show ¬ (f = 3 ∧ A.1 = 0) from (by omega)), w, if_neg (by decide), if_pos (show f = 0 from (by omega))] at h
    rw [e3]; exact v_give hE (by omega) h.q
  · rw [e7, bz_0] at w
    have f3 : f = 3 := (by omega)
    rw [if_neg (show ¬ f = 1 from (by omega)), if_neg (show ¬ f = 2 from (by omega))] at h
    rw [e3, e6, zi_l (by omega) (by omega)]
    refine v_div hE _ _ (by omega) ?_
    unfold divE
    by_cases n0 : A.1 = 0
    · rw [if_pos ⟨f3, n0⟩] at h
      rw [if_pos (by rw [n0]; rfl)]
      exact h.q
    · rw [if_neg (fun q => n0 q.2), w, if_neg (by decide), if_neg (show ¬ f = 0 from (by omega))] at h
      rw [if_neg (by rw [zl_eq (by omega) (by omega) (by omega) (by omega)]; omega), if_neg (fun q => by have := q.1; rw [zl_eq (by omega) (by omega) (by omega) (by omega)] at this; omega)]
      exact h.q
  · rw [e7, bz_0, Bool.not_eq_false] at w
    have n0 : ¬ A.1 = 0 := fun q => by rw [h0 q] at w; cases w
    rw [if_neg (show ¬ f = 1 from (by omega)), if_neg (show ¬ f = 2 from (by omega)), if_neg (fun q => n0 q.2), w, if_pos rfl] at h
    exact v_er hE (k := 5) (by decide) h
theorem fer_app (l r : List Er) : fer (l ++ r) = if fer l = 0 then fer r else fer l := by
  induction l with
  | nil => rfl
  | cons x l ih =>
    show (if x.1 = 0 then fer (l ++ r) else x.1) = (if (if x.1 = 0 then fer l else x.1) = 0 then fer r else (if x.1 = 0 then fer l else x.1))
    by_cases q : x.1 = 0
    · rw [if_pos q, if_pos q, ih]
    · rw [if_neg q, if_neg q, if_neg q]
theorem acL_app (l r : List Er) (A : Ac) : acL (l ++ r) A = acL r (acL l A) := by
  induction l generalizing A with
  | nil => rfl
  | cons x l ih => exact ih _
theorem acL_n (l : List Er) (A : Ac) : (acL l A).1 ≤ A.1 + l.length := by
  induction l generalizing A with
  | nil => exact Nat.le_refl _
  | cons x l ih =>
    have := ih (if x.1 = 0 then acS A x.2 else A)
    show (acL l (if x.1 = 0 then acS A x.2 else A)).1 ≤ A.1 + (l.length + 1)
    by_cases q : x.1 = 0
    · rw [if_pos q] at this ⊢
      have e : (acS A x.2).1 = A.1 + 1 := rfl
      omega
    · rw [if_neg q] at this ⊢
      omega
theorem acL_b (l : List Er) (A : Ac) (h : A.1 = 0 → A.2.2.1 = false) : (acL l A).1 = 0 → (acL l A).2.2.1 = false := by
  induction l generalizing A with
  | nil => exact h
  | cons x l ih =>
    show (acL l (if x.1 = 0 then acS A x.2 else A)).1 = 0 → _
    refine ih _ ?_
    by_cases q : x.1 = 0
    · rw [if_pos q]
      intro z
      have e : (acS A x.2).1 = A.1 + 1 := rfl
      omega
    · rw [if_neg q]; exact h
theorem gaR_0 (f : Nat) (A : Ac) (l r : List Er) (h : fer l = 0) : gaR f 0 A (l ++ r) = gaR f 0 (acL l A) r := by
  unfold gaR
  rw [if_pos rfl, if_pos rfl, fer_app, if_pos h, acL_app]
theorem gaR_er (f : Nat) (A : Ac) (l r : List Er) (h : fer l ≠ 0) : gaR f 0 A (l ++ r) = (fer l, zl 0) := by
  unfold gaR
  rw [if_pos rfl, fer_app, if_neg h, if_neg h]
theorem agE_any {N : List Nm} {t : Fm} (hB : arB t = true) (v w : Er) : agE N V t v = agE N V t w := by
  unfold agE
  rw [if_pos hB, if_pos hB]
theorem agE_len {N : List Nm} {t : Fm} (hB : arB t = true) (v : Er) : (agE N V t v).length ≤ 240 := by
  cases q : arV N t with
  | inl k => rw [agE_l V _ hB q]; show 1 ≤ 240; omega
  | inr fl =>
    obtain ⟨f, l⟩ := fl
    rw [agE_r V _ hB q]
    unfold arE
    rw [List.length_map]
    exact Nat.le_trans (List.length_filter_le _ _) (celF_len f l 240)
theorem v_sumUp {as : Fm} {l b f : Nat} (hI : evI G S V σ) (h7 : b7 σ) (hA : agI G σ as l b) (hf : f < 4) (h8 : (ags as).length ≤ 8) (hP : ∀ a ∈ ags as, evP G S V a ∧ 6 * hh a + 32 ≤ d) (hd : 20 ≤ d) (h : evQ σ (gaE f (agsE S.2 V (ags as) ((ags as).map (ev1 S.2 V)))) Q) : wp_c d 171 [.ref 354, .ref (f + 1), .ref l] σ Q := by
  obtain ⟨bb, h7⟩ := h7
  have h5 : a5 σ = (cm_L σ 354 3, cm_L σ 354 4, cm_L σ 354 5, cm_I σ 354 6, cm_I σ 354 7) := rfl
  have h7 : cm_I σ 354 7 = bz bb := h7
  have eg : gaE f (agsE S.2 V (ags as) ((ags as).map (ev1 S.2 V))) = gaR f 0 ac0 (agsE S.2 V (ags as) ((ags as).map (ev1 S.2 V))) := rfl
  rw [eg] at h
  have err : ∀ (σ1 : cm_S) (k j : Nat) (x13 : Value), fv σ σ1 → 1 ≤ k → k ≤ 8 → j < 100 → gaR f 0 ac0 (agsE S.2 V (ags as) ((ags as).map (ev1 S.2 V))) = (k, zl 0) → wp_r (d - 1) 171 (60, [.ref 354, .ref (f + 1), .ref l, .long (cm_L σ 354 3), .retAddr 0, .long (cm_L σ 354 4), .retAddr 0, .long (cm_L σ 354 5), .retAddr 0, .int (cm_I σ 354 6), .int (cm_I σ 354 7), .int (zi (k : Int)), .int (zi (j : Int)), x13], [], σ1) Q := by
    intro σ1 k j x13 f1 k1 k8 j9 ek
    have hI1 := evI_fv hI f1
    have hA1 := agI_fv hA hI.1 f1
    rw [ek] at h
    have kz : ¬ zi (k : Int) = zi 0 := fun z => by rw [zn_0 (by omega)] at z; omega
    have fin : wp_r (d - 1) 171 (147, [.ref 354, .ref (f + 1), .ref l, .long (cm_L σ 354 3), .retAddr 0, .long (cm_L σ 354 4), .retAddr 0, .long (cm_L σ 354 5), .retAddr 0, .int (cm_I σ 354 6), .int (cm_I σ 354 7), .int (zi (k : Int)), .int (zi (j : Int)), x13], [], σ1) Q :=
      k171_147 hI1.1.1 (by omega) ⟨fun z => absurd z kz, fun _ => v_rest h7 hI1.1.1 (w := (k, zl 0)) ⟨erk_e k8, fun z => absurd z (by show ¬ k = 0; omega)⟩ f1 h5 h⟩
    exact k171_60 hI1.1.1 (by omega) ⟨ag_t hA1, ag_size hA1 (by omega) ⟨_, _, rfl, fun _ => ⟨fun z => absurd z kz, fun _ => fin⟩, fun _ => fin⟩⟩
  have key : ∀ n j : Nat, ∀ σ1 A x13, j + n = (ags as).length → fv σ σ1 → a5 σ1 = acv A → (A.1 = 0 → A.2.2.1 = false) → A.1 ≤ 240 * j → gaR f 0 ac0 (agsE S.2 V (ags as) ((ags as).map (ev1 S.2 V))) = gaR f 0 A (agsE S.2 V ((ags as).drop j) (((ags as).drop j).map (ev1 S.2 V))) →
      wp_r (d - 1) 171 (60, [.ref 354, .ref (f + 1), .ref l, .long (cm_L σ 354 3), .retAddr 0, .long (cm_L σ 354 4), .retAddr 0, .long (cm_L σ 354 5), .retAddr 0, .int (cm_I σ 354 6), .int (cm_I σ 354 7), .int (zi 0), .int (zi (j : Int)), x13], [], σ1) Q := by
    intro n
    induction n with
    | zero =>
      intro j σ1 A x13 hj f1 q1 hb hn hm
      have hI1 := evI_fv hI f1
      have hA1 := agI_fv hA hI.1 f1
      refine k171_60 hI1.1.1 (by omega) ⟨ag_t hA1, ag_size hA1 (by omega) ⟨_, _, rfl, fun z => ?_, fun _ => ?_⟩⟩
      · rw [zi_lt (by omega) (by omega) (by omega) (by omega)] at z; omega
      · rw [List.drop_eq_nil_of_le (by omega)] at hm
        have hm : _ = acF f A := hm
        refine k171_147 hI1.1.1 (by omega) ⟨fun _ => v_told hI1.1.1 hf q1 hb (by omega) (by omega) fun σ2 f2 q2 r2 => ⟨_, _, rfl, (evI_fv hI1 f2).1.1, ?_⟩, fun z => absurd rfl z⟩
        rw [hm] at h
        exact v_rest h7 (evI_fv hI1 f2).1.1 r2 (fv_tr f1 f2) h5 h
    | succ n ih =>
      intro j σ1 A x13 hj f1 q1 hb hn hm
      have hI1 := evI_fv hI f1
      have hA1 := agI_fv hA hI.1 f1
      obtain ⟨a, ea, ed⟩ := drop_c (l := ags as) (show j < (ags as).length from (by omega))
      obtain ⟨pa, da⟩ := hP a (List.mem_of_getElem? ea)
      rw [ed] at hm
      have hm : _ = gaR f 0 A (agE S.2 V a (ev1 S.2 V a) ++ agsE S.2 V ((ags as).drop (j + 1)) (((ags as).drop (j + 1)).map (ev1 S.2 V))) := hm
      refine k171_60 hI1.1.1 (by omega) ⟨ag_t hA1, ag_size hA1 (by omega) ⟨_, _, rfl, fun _ => ⟨fun _ => ⟨ag_t hA1, ag_get hA1 ea (by omega) (by omega) fun y hy wa na => ⟨_, _, rfl, Or.inr (nd_cast wa na hy), v_isArea wa na hy (by omega) ⟨_, _, rfl, fun z => ?_, fun z => ⟨hI1.1.1, ?_⟩⟩⟩⟩, fun z => absurd rfl z⟩, fun z => ?_⟩⟩
      · rw [bz_0] at z
        have ev : agE S.2 V a (ev1 S.2 V a) = [ev1 S.2 V a] := by unfold agE; rw [z]; rfl
        rw [ev] at hm
        refine pa _ _ _ _ hy hI1 (b7_ac q1) (by omega) fun σ2 f2 q2 r2 => ⟨_, _, rfl, v_unbox (eB_fv hI1.1 f2).2.1 r2.1.1 (by omega) ⟨fun w => ?_, fun w => ?_⟩⟩
        · have w0 : (ev1 S.2 V a).1 = 0 := by
            have := r2.1.1
            rw [zn_0 (by omega)] at w; exact w
          have hI2 := evI_fv hI1 f2
          refine v_isArea wa na (nd_fv wa hy hI1.1 f2) (by omega) ⟨_, _, rfl, fun _ => ⟨hI2.1.1, ?_⟩, fun z2 => ?_⟩
          · rw [r2.2 w0]
            refine v_meet hI2.1.1 (q2.trans q1) (by omega) (by omega) fun σ3 f3 q3 _ _ => ⟨rfl, ?_⟩
            rw [w, zn_a j 1 1 rfl]
            refine ih (j + 1) σ3 _ _ (by omega) (fv_tr f1 (fv_tr f2 f3)) q3 (fun z => by have e : (acS A (ev1 S.2 V a).2).1 = A.1 + 1 := rfl; omega) (by show A.1 + 1 ≤ _; omega) (hm.trans ?_)
            rw [gaR_0 f A [ev1 S.2 V a] _ (by show (if (ev1 S.2 V a).1 = 0 then 0 else (ev1 S.2 V a).1) = 0; rw [if_pos w0])]
            show gaR f 0 (if (ev1 S.2 V a).1 = 0 then acS A (ev1 S.2 V a).2 else A) _ = _
            rw [if_pos w0]
          · rw [bz_0] at z2
            exact absurd z z2
        · have w0 : (ev1 S.2 V a).1 ≠ 0 := fun e => w (by rw [e]; rfl)
          have e1 : fer [ev1 S.2 V a] = (ev1 S.2 V a).1 := by show (if (ev1 S.2 V a).1 = 0 then 0 else (ev1 S.2 V a).1) = _; rw [if_neg w0]
          rw [gaR_er f A [ev1 S.2 V a] _ (by rw [e1]; exact w0), e1] at hm
          rw [zn_a j 1 1 rfl]
          exact err σ2 _ (j + 1) _ (fv_tr f1 f2) (Nat.pos_of_ne_zero w0) r2.1.1 (by omega) hm
      · rw [bz_0, Bool.not_eq_false] at z
        have haa : ar a := by
          by_cases q : ar a
          · exact q
          · rw [ar_nB q] at z; cases z
        rw [agE_any z (ev1 S.2 V a) (0, zl 0)] at hm
        refine v_meetAll hI1 wa haa hy q1 (by omega) (by omega) fun σ2 f2 => ?_
        have hI2 := evI_fv hI1 f2
        refine ⟨fun e0 q2 => ⟨_, _, rfl, fun _ => ?_, fun w => absurd rfl w⟩, fun e0 e8 => ⟨_, _, rfl, fun w => ?_, fun _ => ?_⟩⟩
        · refine v_isArea wa na (nd_fv wa hy hI1.1 f2) (by omega) ⟨_, _, rfl, fun z2 => ?_, fun _ => ?_⟩
          · rw [z] at z2; exact absurd z2 (by decide)
          · rw [zn_a j 1 1 rfl]
            rw [gaR_0 f A _ _ e0] at hm
            refine ih (j + 1) σ2 _ _ (by omega) (fv_tr f1 f2) q2 (acL_b _ A hb) ?_ hm
            have l1 := acL_n (agE S.2 V a (0, zl 0)) A
            have l2 := agE_len (N := S.2) (V := V) z (0, zl 0)
            omega
        · rw [zn_0 (by omega)] at w; exact absurd w e0
        · rw [gaR_er f A _ _ e0] at hm
          rw [zn_a j 1 1 rfl]
          exact err σ2 _ (j + 1) _ (fv_tr f1 f2) (Nat.pos_of_ne_zero e0) e8 (by omega) hm
      · rw [zi_lt (by omega) (by omega) (by omega) (by omega)] at z; omega
  refine k171 hI.1.1 (by omega) ?_
  rintro _ rfl
  rintro _ rfl
  rintro _ rfl
  rintro _ rfl
  rintro _ rfl
  refine key (ags as).length 0 _ ac0 _ (by omega) (fv_tr (fv_tr (fv_tr (fv_tr (fv_pL hI.1.1 3 _) (fv_pL (en_pL_ hI.1.1) 4 _)) (fv_pL (en_pL_ (en_pL_ hI.1.1)) 5 _)) (fv_pI (en_pL_ (en_pL_ (en_pL_ hI.1.1))) 6 _)) (fv_pI (en_pI_ (en_pL_ (en_pL_ (en_pL_ hI.1.1)))) 7 _)) ?_ (fun _ => rfl) (Nat.le_refl 0) rfl
  simp only [a5, pI_L, pL_I, pL_at, pI_at, pL_nj _ _ _ _ (show 3 ≠ 5 by decide), pL_nj _ _ _ _ (show 3 ≠ 4 by decide), pL_nj _ _ _ _ (show 4 ≠ 5 by decide), pI_nj _ _ _ _ (show 6 ≠ 7 by decide)]
  rfl
end
