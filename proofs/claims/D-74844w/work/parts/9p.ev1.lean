/-! ENGINE: what the evaluator writes; operators -/
/-- changed: the evaluator's own fields, and hashes of texts -/
def fv (σ σ2 : cm_S) : Prop := (cm_tg σ2 = cm_tg σ ∧ cm_ln σ2 = cm_ln σ ∧ cm_R σ2 = cm_R σ ∧ cm_nx σ2 = cm_nx σ ∧ cm_sz σ2 = cm_sz σ) ∧ cm_tg σ 354 = 8 ∧ ∀ a, a ≠ 354 → sm σ σ2 a
/-- what arguments came to so far -/
def a5 (σ : cm_S) : Int64 × Int64 × Int64 × Int32 × Int32 := (cm_L σ 354 3, cm_L σ 354 4, cm_L σ 354 5, cm_I σ 354 6, cm_I σ 354 7)
/-- the result that lies beside -/
def rs (σ : cm_S) (x : Er) : Prop := erk x ∧ (x.1 = 0 → cm_L σ 354 0 = x.2)
def evQ (σ : cm_S) (x : Er) (Q : cm_O → Prop) : Prop := ∀ σ2, fv σ σ2 → a5 σ2 = a5 σ → rs σ2 x → Q (false, .int (zi (x.1 : Int)), σ2)
/-- values in the heap -/
def evl (σ : cm_S) (a b : Nat) (V : Nat → Vl) : Prop := ∀ c, c < 240 → cm_I σ a c = zi (V c).1 ∧ cm_L σ b c = (V c).2 ∧ vok (V c)
section
variable {G : Nat → Prop} {σ σ1 σ2 : cm_S} {x : Nat} {s : List Nat} {e : Er} {Q : cm_O → Prop} {d : Nat} {S : Sh} {V : Nat → Vl}
theorem sm_0 (a : Nat) : sm σ σ a := ⟨rfl, rfl, rfl, rfl, fun _ => Or.inl rfl⟩
theorem fv_0 (h : cm_tg σ 354 = 8) : fv σ σ := ⟨⟨rfl, rfl, rfl, rfl, rfl⟩, h, fun a _ => sm_0 a⟩
theorem isStr_fv (f : fv σ σ2) (h : isStr σ x s) (hx : x ≠ 354) : isStr σ2 x s := isStr_sm h (f.2.2 x hx) (f.2.2 _ (fun z => by have := h.2.2.1; rw [z, f.2.1] at this; cases this))
theorem isStr_vf (f : fv σ σ2) (h : isStr σ2 x s) (hx : x ≠ 354) : isStr σ x s := by
  obtain ⟨g1, g2, g3, g4, g5, g6⟩ := h
  have h1 := f.2.2 x hx
  have hr : cm_R σ2 x 0 ≠ 354 := fun z => by rw [z, f.1.1, f.2.1] at g3; cases g3
  rw [h1.Rr] at hr g3 g4 g6
  have h2 := f.2.2 _ hr
  rw [h2.1] at g3
  rw [h2.2.1] at g4
  refine ⟨h1.1.symm.trans g1, (h1.I (Or.inl (by decide))).symm.trans g2, g3, g4, g5, fun i y hy => ?_⟩
  rw [← h2.It g3 (by decide) i]
  exact g6 i y hy
theorem fv_tr (f : fv σ σ1) (g : fv σ1 σ2) : fv σ σ2 := by
  refine ⟨⟨g.1.1.trans f.1.1, g.1.2.1.trans f.1.2.1, g.1.2.2.1.trans f.1.2.2.1, g.1.2.2.2.1.trans f.1.2.2.2.1, g.1.2.2.2.2.trans f.1.2.2.2.2⟩, f.2.1, fun a ha => ?_⟩
  obtain ⟨a1, a2, a3, a4, a5⟩ := f.2.2 a ha
  obtain ⟨b1, b2, b3, b4, b5⟩ := g.2.2 a ha
  refine ⟨b1.trans a1, b2.trans a2, b3.trans a3, b4.trans a4, fun i => ?_⟩
  rcases b5 i with e | ⟨e1, e2, e3, t, e4, e5⟩
  · rcases a5 i with q | ⟨q1, q2, q3, t, q4, q5⟩
    · exact Or.inl (e.trans q)
    · subst q1
      exact Or.inr ⟨rfl, q2, q3, t, q4, e.trans q5⟩
  · exact Or.inr ⟨e1, a1.symm.trans e2, e3, t, isStr_vf f e4 ha, e5⟩
theorem eB_fv (h : eB G σ) (f : fv σ σ2) : eB G σ2 := by
  obtain ⟨⟨e1, e2, e3, e4, e5⟩, _, f2⟩ := f
  refine ⟨en_like h.1 (Nat.le_of_eq e4.symm) (fun a _ => by rw [e1]) (fun a _ => by rw [e2]) (fun a _ => by rw [e3]), cst_like h.2.1 (fun a _ => by rw [e1]) (fun a _ => by rw [e2]) (fun a _ => by rw [e3]) (fun a ha => ?_), gk_nx h.2.2 (Nat.le_of_eq e4.symm)⟩
  funext i
  rcases (f2 a (by omega)).2.2.2.2 i with q | ⟨_, _, q, _⟩
  · exact q
  · omega
theorem nd_fv {t : Fm} {a i : Nat} (hw : wf t) (h : nd G σ t a i) (hE : eB G σ) (f : fv σ σ2) : nd G σ2 t a i := nd_sm (fun a ha => ⟨ha, f.2.2 a (fun z => gk_mid hE.2.2 ha (by rw [z]; unfold mid; omega))⟩) t hw a i h
theorem shE_fv {q : Nat} (h : shE G σ q S) (hE : eB G σ) (f : fv σ σ2) : shE G σ2 q S :=
  shE_sm (fun a ha => ⟨ha, f.2.2 a (fun z => gk_mid hE.2.2 ha (by rw [z]; unfold mid; omega))⟩) (Nat.le_of_eq f.1.2.2.2.1.symm) h (fun a ha => f.2.2 a (fun z => by have := h.out ha; omega))
theorem evl_fv {a b : Nat} (h : evl σ a b V) (f : fv σ σ2) (ht : cm_tg σ a ≠ 29) (ha : a ≠ 354) (hb : b ≠ 354) : evl σ2 a b V := fun c hc => by
  obtain ⟨h1, h2, h3⟩ := h c hc
  exact ⟨((f.2.2 a ha).I (Or.inr ht)).trans h1, (congrFun (f.2.2 b hb).2.2.2.1 c).trans h2, h3⟩
/-- what the evaluator rests on -/
def evI (G : Nat → Prop) (S : Sh) (V : Nat → Vl) (σ : cm_S) : Prop := eB G σ ∧ shE G σ (cm_R σ 322 4) S ∧ evl σ 333 337 V
theorem evI_fv (h : evI G S V σ) (f : fv σ σ2) : evI G S V σ2 := by
  refine ⟨eB_fv h.1 f, ?_, evl_fv h.2.2 f (by rw [en_t333 h.1.1]; decide) (by decide) (by decide)⟩
  rw [f.1.2.2.1]
  exact shE_fv h.2.1 h.1 f
theorem evQ.tr (h : evQ σ e Q) (f : fv σ σ1) (q : a5 σ1 = a5 σ) : evQ σ1 e Q := fun σ2 f2 q2 r => h σ2 (fv_tr f f2) (q2.trans q) r
theorem evQ.q (h : evQ σ e Q) : evQ σ e (qi fun r σ2 => Q (false, .int r, σ2)) := fun σ2 f q r => ⟨_, _, rfl, h σ2 f q r⟩
theorem fv_pL (hE : en_ok σ) (i : Nat) (v : Int64) : fv σ (cm_pL σ 354 i v) := ⟨⟨rfl, rfl, rfl, rfl, rfl⟩, en_t354 hE, fun a ha => ⟨rfl, rfl, rfl, u2_row _ _ _ _ ha, fun _ => Or.inl rfl⟩⟩
theorem fv_pI (hE : en_ok σ) (i : Nat) (v : Int32) : fv σ (cm_pI σ 354 i v) := ⟨⟨rfl, rfl, rfl, rfl, rfl⟩, en_t354 hE, fun a ha => ⟨rfl, rfl, rfl, rfl, fun j => Or.inl (u2_ne _ _ _ _ ha j)⟩⟩
theorem v_give (hE : en_ok σ) {v : Int64} (hd : 1 ≤ d) (h : evQ σ (0, v) Q) : wp_c d 148 [.ref 354, .long v] σ Q := by
  refine k148 hE hd ?_
  rintro _ rfl
  refine h _ (fv_pL hE 0 v) ?_ ⟨erk_n v, fun _ => (u2_same (cm_L σ) 354 0 v)⟩
  show (cm_u2 (cm_L σ) 354 0 v 354 3, cm_u2 (cm_L σ) 354 0 v 354 4, cm_u2 (cm_L σ) 354 0 v 354 5, cm_I σ 354 6, cm_I σ 354 7) = _
  rw [u2_nj _ _ _ _ _ (by decide), u2_nj _ _ _ _ _ (by decide), u2_nj _ _ _ _ _ (by decide)]
  rfl
theorem v_er (hE : en_ok σ) {k : Nat} (hk : 1 ≤ k ∧ k ≤ 8) (h : evQ σ (k, zl 0) Q) : Q (false, .int (zi (k : Int)), σ) := h σ (fv_0 (en_t354 hE)) rfl ⟨erk_e hk.2, fun z => absurd z (by have := hk.1; show ¬ k = 0; omega)⟩
theorem v_bl (hE : en_ok σ) {c : Bool} (hd : 1 ≤ d) (h : evQ σ (blE c) Q) : wp_c d 148 [.ref 354, .long (if c then zl 1 else zl 0)] σ Q := v_give hE hd h
theorem v_add (hE : en_ok σ) (a b : Int64) (hd : 2 ≤ d) (h : evQ σ (addE a b) Q) : wp_c d 137 [.ref 354, .long a, .long b] σ Q := by
  unfold addE at h
  refine k137 hE hd ⟨fun z => ?_, fun z => ?_⟩
  · rw [if_pos z] at h; exact v_er hE (by decide) h
  · rw [if_neg z] at h; exact v_give hE (by omega) h.q
theorem v_sub (hE : en_ok σ) (a b : Int64) (hd : 2 ≤ d) (h : evQ σ (subE a b) Q) : wp_c d 170 [.ref 354, .long a, .long b] σ Q := by
  unfold subE at h
  refine k170 hE hd ⟨fun z => ?_, fun z => ?_⟩
  · rw [if_pos z] at h; exact v_er hE (by decide) h
  · rw [if_neg z] at h; exact v_give hE (by omega) h.q
theorem v_mul (hE : en_ok σ) (a b : Int64) (hd : 2 ≤ d) (h : evQ σ (mulE a b) Q) : wp_c d 156 [.ref 354, .long a, .long b] σ Q := by
  unfold mulE at h
  refine k156 hE hd (k583 (by omega) ⟨_, _, rfl, fun z => ⟨hE, ?_⟩, fun z => ?_⟩)
  · rw [mul_high] at z; rw [if_pos z] at h; exact v_give hE (by omega) h.q
  · rw [mul_high] at z; rw [if_neg z] at h; exact v_er hE (by decide) h
theorem v_div (hE : en_ok σ) (a b : Int64) (hd : 2 ≤ d) (h : evQ σ (divE a b) Q) : wp_c d 147 [.ref 354, .long a, .long b] σ Q := by
  unfold divE at h
  refine k147 hE hd ⟨fun z => ?_, fun z => ⟨fun y => ⟨fun w => ?_, fun w => ⟨z, ?_⟩⟩, fun y => ⟨z, ?_⟩⟩⟩
  · rw [if_pos z] at h; exact v_er hE (by decide) h
  · rw [if_neg z, if_pos ⟨w, y⟩] at h; exact v_er hE (by decide) h
  · rw [if_neg z, if_neg (fun q => w q.1)] at h; exact v_give hE (by omega) h.q
  · rw [if_neg z, if_neg (fun q => y q.2)] at h; exact v_give hE (by omega) h.q
theorem hsh_s (s : List Nat) (c : Nat) : hsh (s ++ [c]) = zi 31 * hsh s + zi (c : Int) := by
  unfold hsh
  rw [List.foldl_append]; rfl
/-- a short text's hash -/
theorem s_hash (h0 : opS G σ x s) (hs : hsh s ≠ zi 0) (hl : 1 ≤ s.length ∧ s.length ≤ 2) (hx : x ≠ 354) (h354 : cm_tg σ 354 = 8) (hd : 6 ≤ d) (h : ∀ σ2, fv σ σ2 → a5 σ2 = a5 σ → Q (false, .int (hsh s), σ2)) : wp_c d 514 [.ref x] σ Q := by
  obtain ⟨⟨h1, g1, g2⟩, h2, h3, h4⟩ := h0
  obtain ⟨t1, t2, t3, t4, t5, t6⟩ := id h1
  refine k514 (by omega) ⟨t1, fun z => ⟨fun _ => ?_, fun z2 => absurd h3 z2⟩, fun z => ?_⟩
  · have h322 : 322 ≤ x ∧ 322 ≤ cm_R σ x 0 := by
      rcases h2 with q | q
      · exact absurd (q.symm.trans z) hs
      · exact q.2
    refine s_isLatin1 h1 (by omega) ⟨_, _, rfl, fun z => absurd z (by decide), fun _ => ⟨t1, ?_⟩⟩
    have fin : wp_c (d - 1) 524 [.ref (cm_R σ x 0)] σ (qi fun r5 σ5 => r5 = hsh s ∧ σ5 = σ) := by
      have key : ∀ n i : Nat, i + n = s.length → wp_r (d - 1 - 1 - 1 - 1) 576 (8, [.int (hsh (s.take i)), .ref (cm_R σ x 0), .int (zi 0), .int (zi (s.length : Int)), .int (zi 0 + zi (s.length : Int)), .int (zi (i : Int))], [], σ) (qi fun r5 σ5 => r5 = hsh s ∧ σ5 = σ) := by
        intro n
        induction n with
        | zero =>
          intro i hi
          refine k576_8 ⟨fun z => ?_, fun _ => ⟨_, _, rfl, by rw [List.take_of_length_le (by omega)], rfl⟩⟩
          rw [zi_add, show (0 : Int) + (s.length : Int) = (s.length : Int) from (by omega), zi_lt (by omega) (by omega) (by omega) (by omega)] at z; omega
        | succ n ih =>
          intro i hi
          have hi2 : i < s.length := (by omega)
          obtain ⟨q1, q2⟩ := t6 i s[i] (List.getElem?_eq_getElem hi2)
          refine k576_8 ⟨fun _ => ⟨t3, by rw [t4]; exact zn_in hi2 (by omega), ?_⟩, fun z => ?_⟩
          · rw [zn_ix (by omega), q1, sb_and2 _ q2, zn_a i 1 1 rfl]
            have := ih (i + 1) (by omega)
            rw [List.take_succ_eq_append_getElem hi2, hsh_s] at this
            exact this
          · rw [zi_add, show (0 : Int) + (s.length : Int) = (s.length : Int) from (by omega), zi_lt (by omega) (by omega) (by omega) (by omega)] at z; omega
      refine k524 (by omega) ⟨by rw [t3]; decide, fun z => ?_, fun z => ⟨fun y => ⟨t3, by rw [t4]; exact zn_in (k := 0) (by omega) (by omega), ?_⟩, fun y => ?_⟩⟩
      · rw [t4, zi_ofNat, zi_toInt (by omega) (by omega)] at z; omega
      · rw [t4, zi_ofNat, zi_toInt (by omega) (by omega)] at y
        have e0 : cm_ix (zi 0) = 0 := by decide
        obtain ⟨q1, q2⟩ := t6 0 s[0] (List.getElem?_eq_getElem (by omega))
        rw [e0, q1, sb_and2 _ q2]
        refine ⟨_, _, rfl, ?_, rfl⟩
        have := hsh_s [] s[0]
        rw [List.nil_append, show hsh [] = zi 0 from rfl, zi_mul, zi_add, Int.mul_zero, Int.zero_add] at this
        have e1s : [s[0]] = s := by
          refine List.ext_getElem (by show 1 = _; omega) fun i a1 a2 => ?_
          have a3 : i < 1 := a1
          have a4 : i = 0 := (by omega)
          subst a4
          rfl
        rw [← this, e1s]
      · rw [t4, zi_ofNat]
        refine k578 (by omega) ⟨fun z => absurd z (by decide), fun _ => ⟨fun _ => ⟨⟨t3, h322.2⟩, k576 (by omega) ?_⟩, fun z => absurd (by decide) z⟩⟩
        refine (key s.length 0 (by omega)).mono fun o ⟨a, b, c, e⟩ => ⟨a, b, c, a, b, rfl, a, b, rfl, e⟩
    refine fin.mono fun o ⟨r5, σ5, eo, e1, e2⟩ => ?_
    subst e1 e2
    refine ⟨_, _, eo, fun z => absurd z hs, fun _ => ⟨t1, h322.1, ?_⟩⟩
    rintro _ rfl
    refine h _ ⟨⟨rfl, rfl, rfl, rfl, rfl⟩, h354, fun a ha => ⟨rfl, rfl, rfl, rfl, fun i => ?_⟩⟩ ?_
    · show cm_u2 (cm_I σ5) x 2 (hsh s) a i = _ ∨ _
      by_cases e : a = x
      · subst e
        by_cases e2 : i = 2
        · subst e2
          exact Or.inr ⟨rfl, t1, h322.1, s, h1, u2_same _ _ _ _⟩
        · exact Or.inl (u2_nj _ _ _ _ _ e2)
      · exact Or.inl (u2_ne _ _ _ _ e _)
    · show (cm_L σ5 354 3, cm_L σ5 354 4, cm_L σ5 354 5, cm_u2 (cm_I σ5) x 2 (hsh s) 354 6, cm_u2 (cm_I σ5) x 2 (hsh s) 354 7) = _
      rw [u2_ne _ _ _ _ (Ne.symm hx), u2_ne _ _ _ _ (Ne.symm hx)]; rfl
  · rcases h2 with q | q
    · rw [q]; exact h σ (fv_0 h354) rfl
    · exact absurd q.1 z
theorem v_apply {o : Jvm.Binary} (ho : ocl o ≠ 0) (h0 : opS G σ x (opT (opc o))) (hE : eB G σ) (a b : Int64) (hd : 10 ≤ d) (h : evQ σ (apE o a b) Q) : wp_c d 138 [.ref 354, .ref x, .long a, .long b] σ Q := by
  have hx354 : x ≠ 354 := fun z => gk_mid hE.2.2 h0.1.2.1 (by rw [z]; unfold mid; omega)
  have hac : ∀ c, c < 34 → cm_ac x c := fun c hc => by
    rcases h0.2.2.2 with q | q
    · exact Or.inr (Or.inr (Or.inr (Or.inr (Or.inr ⟨q, hc⟩))))
    · exact Or.inr (Or.inr (Or.inr (Or.inl q)))
  cases o with
  | ladd =>
    refine k138 hE.1 (by omega) ⟨h0.1.1.1, s_hash h0 (by decide) (by decide) hx354 (en_t354 hE.1) (by omega) fun σ1 f1 e1 => ⟨_, _, rfl, ?_⟩⟩
    have hE1 := eB_fv hE f1
    exact ⟨fun z => absurd z (by decide), fun _ => ⟨fun z => absurd z (by decide), fun _ => ⟨fun _ => ⟨(congrFun f1.1.1 x).trans h0.1.1.1, s_equals (isStr_fv f1 h0.1.1 hx354) (cst_str (s := [43]) hE1.2.1 (by decide) hE1.2.2).1 (hac _ (by decide)) (by decide) (by omega) ⟨_, _, rfl, fun z => absurd z (by decide), fun _ => k138_261 hE1.1 (by omega) ⟨fun z => absurd z (by decide), fun _ => ⟨fun _ => v_add hE1.1 a b (by omega) (h.tr f1 e1).q, fun z => absurd (by decide) z⟩⟩⟩⟩, fun z => absurd (by decide) z⟩⟩⟩
  | lsub =>
    refine k138 hE.1 (by omega) ⟨h0.1.1.1, s_hash h0 (by decide) (by decide) hx354 (en_t354 hE.1) (by omega) fun σ1 f1 e1 => ⟨_, _, rfl, ?_⟩⟩
    have hE1 := eB_fv hE f1
    exact ⟨fun z => absurd z (by decide), fun _ => ⟨fun z => absurd z (by decide), fun _ => ⟨fun z => absurd z (by decide), fun _ => ⟨fun _ => ⟨(congrFun f1.1.1 x).trans h0.1.1.1, s_equals (isStr_fv f1 h0.1.1 hx354) (cst_str (s := [45]) hE1.2.1 (by decide) hE1.2.2).1 (hac _ (by decide)) (by decide) (by omega) ⟨_, _, rfl, fun z => absurd z (by decide), fun _ => k138_261 hE1.1 (by omega) ⟨fun z => absurd z (by decide), fun _ => ⟨fun z => absurd z (by decide), fun _ => ⟨fun _ => v_sub hE1.1 a b (by omega) (h.tr f1 e1).q, fun z => absurd (by decide) z⟩⟩⟩⟩⟩, fun z => absurd (by decide) z⟩⟩⟩⟩
  | lmul =>
    refine k138 hE.1 (by omega) ⟨h0.1.1.1, s_hash h0 (by decide) (by decide) hx354 (en_t354 hE.1) (by omega) fun σ1 f1 e1 => ⟨_, _, rfl, ?_⟩⟩
    have hE1 := eB_fv hE f1
    exact ⟨fun z => absurd z (by decide), fun _ => ⟨fun _ => ⟨(congrFun f1.1.1 x).trans h0.1.1.1, s_equals (isStr_fv f1 h0.1.1 hx354) (cst_str (s := [42]) hE1.2.1 (by decide) hE1.2.2).1 (hac _ (by decide)) (by decide) (by omega) ⟨_, _, rfl, fun z => absurd z (by decide), fun _ => k138_261 hE1.1 (by omega) ⟨fun z => absurd z (by decide), fun _ => ⟨fun z => absurd z (by decide), fun _ => ⟨fun z => absurd z (by decide), fun _ => ⟨fun _ => v_mul hE1.1 a b (by omega) (h.tr f1 e1).q, fun z => absurd (by decide) z⟩⟩⟩⟩⟩⟩, fun z => absurd (by decide) z⟩⟩
  | ldiv =>
    refine k138 hE.1 (by omega) ⟨h0.1.1.1, s_hash h0 (by decide) (by decide) hx354 (en_t354 hE.1) (by omega) fun σ1 f1 e1 => ⟨_, _, rfl, ?_⟩⟩
    have hE1 := eB_fv hE f1
    exact ⟨fun z => absurd z (by decide), fun _ => ⟨fun z => absurd z (by decide), fun _ => ⟨fun z => absurd z (by decide), fun _ => ⟨fun z => absurd z (by decide), fun _ => ⟨fun _ => ⟨(congrFun f1.1.1 x).trans h0.1.1.1, s_equals (isStr_fv f1 h0.1.1 hx354) (cst_str (s := [47]) hE1.2.1 (by decide) hE1.2.2).1 (hac _ (by decide)) (by decide) (by omega) ⟨_, _, rfl, fun z => absurd z (by decide), fun _ => k138_261 hE1.1 (by omega) ⟨fun z => absurd z (by decide), fun _ => ⟨fun z => absurd z (by decide), fun _ => ⟨fun z => absurd z (by decide), fun _ => ⟨fun z => absurd z (by decide), fun _ => ⟨fun _ => v_div hE1.1 a b (by omega) (h.tr f1 e1).q, fun z => absurd (by decide) z⟩⟩⟩⟩⟩⟩⟩, fun z => absurd (by decide) z⟩⟩⟩⟩⟩
  | lrem =>
    refine k138 hE.1 (by omega) ⟨h0.1.1.1, s_hash h0 (by decide) (by decide) hx354 (en_t354 hE.1) (by omega) fun σ1 f1 e1 => ⟨_, _, rfl, ?_⟩⟩
    have hE1 := eB_fv hE f1
    exact ⟨fun _ => ⟨(congrFun f1.1.1 x).trans h0.1.1.1, s_equals (isStr_fv f1 h0.1.1 hx354) (cst_str (s := [37]) hE1.2.1 (by decide) hE1.2.2).1 (hac _ (by decide)) (by decide) (by omega) ⟨_, _, rfl, fun z => absurd z (by decide), fun _ => k138_261 hE1.1 (by omega) ⟨fun z => absurd z (by decide), fun _ => ⟨fun z => absurd z (by decide), fun _ => ⟨fun z => absurd z (by decide), fun _ => ⟨fun z => absurd z (by decide), fun _ => ⟨fun z => absurd z (by decide), fun _ => ⟨fun _ => ⟨fun z => v_er hE1.1 (by decide) (by have this : evQ σ1 (remE a b) Q := h.tr f1 e1; unfold remE at this; rw [if_pos z] at this; exact this), fun z => ⟨fun z2 => v_give hE1.1 (by omega) (by have this : evQ σ1 (remE a b) Q := h.tr f1 e1; unfold remE at this; rw [if_neg z, if_pos z2] at this; exact this.q), fun z2 => ⟨z, v_give hE1.1 (by omega) (by have this : evQ σ1 (remE a b) Q := h.tr f1 e1; unfold remE at this; rw [if_neg z, if_neg z2] at this; exact this.q)⟩⟩⟩, fun z => absurd (by decide) z⟩⟩⟩⟩⟩⟩⟩⟩, fun z => absurd (by decide) z⟩
  | land =>
    refine k138 hE.1 (by omega) ⟨h0.1.1.1, s_hash h0 (by decide) (by decide) hx354 (en_t354 hE.1) (by omega) fun σ1 f1 e1 => ⟨_, _, rfl, ?_⟩⟩
    have hE1 := eB_fv hE f1
    exact ⟨fun z => absurd z (by decide), fun _ => ⟨fun z => absurd z (by decide), fun _ => ⟨fun z => absurd z (by decide), fun _ => ⟨fun z => absurd z (by decide), fun _ => ⟨fun z => absurd z (by decide), fun _ => ⟨fun z => absurd z (by decide), fun _ => ⟨fun _ => ⟨(congrFun f1.1.1 x).trans h0.1.1.1, s_equals (isStr_fv f1 h0.1.1 hx354) (cst_str (s := [61]) hE1.2.1 (by decide) hE1.2.2).1 (hac _ (by decide)) (by decide) (by omega) ⟨_, _, rfl, fun z => absurd z (by decide), fun _ => k138_261 hE1.1 (by omega) ⟨fun z => absurd z (by decide), fun _ => ⟨fun z => absurd z (by decide), fun _ => ⟨fun z => absurd z (by decide), fun _ => ⟨fun z => absurd z (by decide), fun _ => ⟨fun z => absurd z (by decide), fun _ => ⟨fun z => absurd z (by decide), fun _ => ⟨fun _ => ⟨fun z => v_bl hE1.1 (c := true) (by omega) (by have this : evQ σ1 (blE (decide (a = b))) Q := h.tr f1 e1; rw [decide_eq_true z] at this; exact this.q), fun z => v_bl hE1.1 (c := false) (by omega) (by have this : evQ σ1 (blE (decide (a = b))) Q := h.tr f1 e1; rw [decide_eq_false z] at this; exact this.q)⟩, fun z => absurd (by decide) z⟩⟩⟩⟩⟩⟩⟩⟩⟩, fun z => absurd (by decide) z⟩⟩⟩⟩⟩⟩⟩
  | lor =>
    refine k138 hE.1 (by omega) ⟨h0.1.1.1, s_hash h0 (by decide) (by decide) hx354 (en_t354 hE.1) (by omega) fun σ1 f1 e1 => ⟨_, _, rfl, ?_⟩⟩
    have hE1 := eB_fv hE f1
    exact ⟨fun z => absurd z (by decide), fun _ => ⟨fun z => absurd z (by decide), fun _ => ⟨fun z => absurd z (by decide), fun _ => ⟨fun z => absurd z (by decide), fun _ => ⟨fun z => absurd z (by decide), fun _ => ⟨fun z => absurd z (by decide), fun _ => ⟨fun z => absurd z (by decide), fun _ => ⟨fun z => absurd z (by decide), fun _ => ⟨fun z => absurd z (by decide), fun _ => ⟨fun _ => ⟨(congrFun f1.1.1 x).trans h0.1.1.1, s_equals (isStr_fv f1 h0.1.1 hx354) (cst_str (s := [60, 62]) hE1.2.1 (by decide) hE1.2.2).1 (hac _ (by decide)) (by decide) (by omega) ⟨_, _, rfl, fun z => absurd z (by decide), fun _ => k138_261 hE1.1 (by omega) ⟨fun z => absurd z (by decide), fun _ => ⟨fun z => absurd z (by decide), fun _ => ⟨fun z => absurd z (by decide), fun _ => ⟨fun z => absurd z (by decide), fun _ => ⟨fun z => absurd z (by decide), fun _ => ⟨fun z => absurd z (by decide), fun _ => ⟨fun z => absurd z (by decide), fun _ => ⟨fun _ => ⟨fun z => v_bl hE1.1 (c := false) (by omega) (by have this : evQ σ1 (blE (!decide (a = b))) Q := h.tr f1 e1; rw [decide_eq_true z] at this; exact this.q), fun z => v_bl hE1.1 (c := true) (by omega) (by have this : evQ σ1 (blE (!decide (a = b))) Q := h.tr f1 e1; rw [decide_eq_false z] at this; exact this.q)⟩, fun z => absurd (by decide) z⟩⟩⟩⟩⟩⟩⟩⟩⟩⟩, fun z => absurd (by decide) z⟩⟩⟩⟩⟩⟩⟩⟩⟩⟩
  | lxor =>
    refine k138 hE.1 (by omega) ⟨h0.1.1.1, s_hash h0 (by decide) (by decide) hx354 (en_t354 hE.1) (by omega) fun σ1 f1 e1 => ⟨_, _, rfl, ?_⟩⟩
    have hE1 := eB_fv hE f1
    exact ⟨fun z => absurd z (by decide), fun _ => ⟨fun z => absurd z (by decide), fun _ => ⟨fun z => absurd z (by decide), fun _ => ⟨fun z => absurd z (by decide), fun _ => ⟨fun z => absurd z (by decide), fun _ => ⟨fun _ => ⟨(congrFun f1.1.1 x).trans h0.1.1.1, s_equals (isStr_fv f1 h0.1.1 hx354) (cst_str (s := [60]) hE1.2.1 (by decide) hE1.2.2).1 (hac _ (by decide)) (by decide) (by omega) ⟨_, _, rfl, fun z => absurd z (by decide), fun _ => k138_261 hE1.1 (by omega) ⟨fun z => absurd z (by decide), fun _ => ⟨fun z => absurd z (by decide), fun _ => ⟨fun z => absurd z (by decide), fun _ => ⟨fun z => absurd z (by decide), fun _ => ⟨fun z => absurd z (by decide), fun _ => ⟨fun z => absurd z (by decide), fun _ => ⟨fun z => absurd z (by decide), fun _ => ⟨fun z => absurd z (by decide), fun _ => ⟨fun _ => ⟨fun z => v_bl hE1.1 (c := true) (by omega) (by have this : evQ σ1 (blE (decide (a < b))) Q := h.tr f1 e1; rw [decide_eq_true z] at this; exact this.q), fun z => v_bl hE1.1 (c := false) (by omega) (by have this : evQ σ1 (blE (decide (a < b))) Q := h.tr f1 e1; rw [decide_eq_false z] at this; exact this.q)⟩, fun z => absurd (by decide) z⟩⟩⟩⟩⟩⟩⟩⟩⟩⟩⟩, fun z => absurd (by decide) z⟩⟩⟩⟩⟩⟩
  | lshl =>
    refine k138 hE.1 (by omega) ⟨h0.1.1.1, s_hash h0 (by decide) (by decide) hx354 (en_t354 hE.1) (by omega) fun σ1 f1 e1 => ⟨_, _, rfl, ?_⟩⟩
    have hE1 := eB_fv hE f1
    exact ⟨fun z => absurd z (by decide), fun _ => ⟨fun z => absurd z (by decide), fun _ => ⟨fun z => absurd z (by decide), fun _ => ⟨fun z => absurd z (by decide), fun _ => ⟨fun z => absurd z (by decide), fun _ => ⟨fun z => absurd z (by decide), fun _ => ⟨fun z => absurd z (by decide), fun _ => ⟨fun z => absurd z (by decide), fun _ => ⟨fun _ => ⟨(congrFun f1.1.1 x).trans h0.1.1.1, s_equals (isStr_fv f1 h0.1.1 hx354) (cst_str (s := [60, 61]) hE1.2.1 (by decide) hE1.2.2).1 (hac _ (by decide)) (by decide) (by omega) ⟨_, _, rfl, fun z => absurd z (by decide), fun _ => k138_261 hE1.1 (by omega) ⟨fun z => absurd z (by decide), fun _ => ⟨fun z => absurd z (by decide), fun _ => ⟨fun z => absurd z (by decide), fun _ => ⟨fun z => absurd z (by decide), fun _ => ⟨fun z => absurd z (by decide), fun _ => ⟨fun z => absurd z (by decide), fun _ => ⟨fun z => absurd z (by decide), fun _ => ⟨fun z => absurd z (by decide), fun _ => ⟨fun z => absurd z (by decide), fun _ => ⟨fun _ => ⟨fun z => v_bl hE1.1 (c := false) (by omega) (by have this : evQ σ1 (blE (!decide (b < a))) Q := h.tr f1 e1; rw [decide_eq_true z] at this; exact this.q), fun z => v_bl hE1.1 (c := true) (by omega) (by have this : evQ σ1 (blE (!decide (b < a))) Q := h.tr f1 e1; rw [decide_eq_false z] at this; exact this.q)⟩, fun z => absurd (by decide) z⟩⟩⟩⟩⟩⟩⟩⟩⟩⟩⟩⟩, fun z => absurd (by decide) z⟩⟩⟩⟩⟩⟩⟩⟩⟩
  | lshr =>
    refine k138 hE.1 (by omega) ⟨h0.1.1.1, s_hash h0 (by decide) (by decide) hx354 (en_t354 hE.1) (by omega) fun σ1 f1 e1 => ⟨_, _, rfl, ?_⟩⟩
    have hE1 := eB_fv hE f1
    exact ⟨fun z => absurd z (by decide), fun _ => ⟨fun z => absurd z (by decide), fun _ => ⟨fun z => absurd z (by decide), fun _ => ⟨fun z => absurd z (by decide), fun _ => ⟨fun z => absurd z (by decide), fun _ => ⟨fun z => absurd z (by decide), fun _ => ⟨fun z => absurd z (by decide), fun _ => ⟨fun _ => ⟨(congrFun f1.1.1 x).trans h0.1.1.1, s_equals (isStr_fv f1 h0.1.1 hx354) (cst_str (s := [62]) hE1.2.1 (by decide) hE1.2.2).1 (hac _ (by decide)) (by decide) (by omega) ⟨_, _, rfl, fun z => absurd z (by decide), fun _ => k138_261 hE1.1 (by omega) ⟨fun z => absurd z (by decide), fun _ => ⟨fun z => absurd z (by decide), fun _ => ⟨fun z => absurd z (by decide), fun _ => ⟨fun z => absurd z (by decide), fun _ => ⟨fun z => absurd z (by decide), fun _ => ⟨fun z => absurd z (by decide), fun _ => ⟨fun z => absurd z (by decide), fun _ => ⟨fun z => absurd z (by decide), fun _ => ⟨fun z => absurd z (by decide), fun _ => ⟨fun z => absurd z (by decide), fun _ => ⟨fun _ => ⟨fun z => v_bl hE1.1 (c := true) (by omega) (by have this : evQ σ1 (blE (decide (b < a))) Q := h.tr f1 e1; rw [decide_eq_true z] at this; exact this.q), fun z => v_bl hE1.1 (c := false) (by omega) (by have this : evQ σ1 (blE (decide (b < a))) Q := h.tr f1 e1; rw [decide_eq_false z] at this; exact this.q)⟩, fun z => absurd (by decide) z⟩⟩⟩⟩⟩⟩⟩⟩⟩⟩⟩⟩⟩, fun z => absurd (by decide) z⟩⟩⟩⟩⟩⟩⟩⟩
  | lushr =>
    refine k138 hE.1 (by omega) ⟨h0.1.1.1, s_hash h0 (by decide) (by decide) hx354 (en_t354 hE.1) (by omega) fun σ1 f1 e1 => ⟨_, _, rfl, ?_⟩⟩
    have hE1 := eB_fv hE f1
    exact ⟨fun z => absurd z (by decide), fun _ => ⟨fun z => absurd z (by decide), fun _ => ⟨fun z => absurd z (by decide), fun _ => ⟨fun z => absurd z (by decide), fun _ => ⟨fun z => absurd z (by decide), fun _ => ⟨fun z => absurd z (by decide), fun _ => ⟨fun z => absurd z (by decide), fun _ => ⟨fun z => absurd z (by decide), fun _ => ⟨fun z => absurd z (by decide), fun _ => ⟨fun z => absurd z (by decide), fun _ => k138_261 hE1.1 (by omega) ⟨fun _ => ⟨fun z => v_bl hE1.1 (c := false) (by omega) (by have this : evQ σ1 (blE (!decide (a < b))) Q := h.tr f1 e1; rw [decide_eq_true z] at this; exact this.q), fun z => v_bl hE1.1 (c := true) (by omega) (by have this : evQ σ1 (blE (!decide (a < b))) Q := h.tr f1 e1; rw [decide_eq_false z] at this; exact this.q)⟩, fun z => absurd (by decide) z⟩⟩⟩⟩⟩⟩⟩⟩⟩⟩⟩
  | _ => exact absurd rfl ho
end
