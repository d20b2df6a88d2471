/-! THE TWIN: names -/
/-- the buffer as a name -/
def psNm (B : List Nat) : Nat ⊕ Nat := if min 8 (rn isSm B 0) = B.length ∧ 0 < B.length then .inr (cod B) else .inl (min 8 (rn isSm B 0))
def nmAt (N : List Nm) (c : Nat) : Option Nat := N.findIdx? fun q => q.1 == c
/-- how often a name occurs -/
def occL (c : Nat) : List (Nat × Nat) → Nat
  | [] => 0
  | q :: r => (if q = (4, c) then 1 else 0) + occL c r
theorem occL_le (c : Nat) (l : List (Nat × Nat)) : occL c l ≤ l.length := by
  induction l with
  | nil => exact Nat.le_refl _
  | cons q r ih => rw [occL, List.length_cons]; split <;> omega
theorem occL_app (c : Nat) (l r : List (Nat × Nat)) : occL c (l ++ r) = occL c l + occL c r := by
  induction l with
  | nil => simp [occL]
  | cons q l ih => rw [List.cons_append, occL, occL, ih]; omega
def occ (c : Nat) (q : Cn) : Nat := occL c (ctk q)
/-- the letters of a code -/
def decF : Nat → Nat → List Nat
  | 0, _ => []
  | n + 1, c => if c = 0 then [] else decF n (c / 27) ++ [c % 27 + 96]
def dec (c : Nat) : List Nat := decF 9 c
theorem decF_cod : ∀ (n : Nat) (l : List Nat), l.length < n → (∀ x ∈ l, 97 ≤ x ∧ x ≤ 122) → decF n (cod l) = l := by
  intro n
  induction n with
  | zero => intro l hl; omega
  | succ n ih =>
    intro l hl hx
    rcases List.eq_nil_or_concat l with rfl | ⟨r, x, rfl⟩
    · rfl
    · rw [List.concat_eq_append] at *
      have hx1 := hx x (by simp)
      rw [List.length_append, List.length_singleton] at hl
      rw [cod_snoc]
      unfold decF
      rw [if_neg (by omega), show (27 * cod r + (x - 96)) / 27 = cod r by omega, ih r (by omega) (fun y hy => hx y (by simp [hy])), show (27 * cod r + (x - 96)) % 27 + 96 = x by omega]
theorem dec_cod {l : List Nat} (h : l.length ≤ 8) (hx : ∀ x ∈ l, 97 ≤ x ∧ x ≤ 122) : dec (cod l) = l := decF_cod 9 l (by omega) hx
theorem okN_dec {c : Nat} (h : okN c) : cod (dec c) = c ∧ 0 < (dec c).length ∧ (dec c).length ≤ 8 ∧ ∀ x ∈ dec c, 97 ≤ x ∧ x ≤ 122 := by
  obtain ⟨l, h1, h2, h3, rfl⟩ := h
  rw [dec_cod h2 h3]
  exact ⟨rfl, h1, h2, h3⟩
section
variable {τ : tw_K} {I : tw_I} {L : tw_L} {d : Nat} {B : List Nat} {S : Sh} {H : List Sh} {V O : Nat → Vl} {M W : Nat → Bool} {au : Bool} {ev : Nat}
theorem t_isName (hτ : tw_ok τ) (h0 : tst τ I L B S H V O M W au ev) (x : Int32) {Q : Int32 → tw_I → tw_L → Prop} (hd : 2 ≤ d) (h1 : ∀ (n : Nat) (q : Nm), S.2[n]? = some q → n < 10 → x = zi n → Q (zi 1) I L) (h2 : (¬ ∃ n : Nat, n < S.2.length ∧ x = zi n) → Q (zi 0) I L) : wp_c d 239 [.ref 1315, .int x] (tw τ I L) (ti τ Q) := by
  have hx := zi_rng x
  have ex := zi_self x
  obtain ⟨n1, n2⟩ := h0.nl
  refine k239 hτ (by omega) ⟨by decide, ?_⟩
  rw [show cm_ix (zi 0) = 0 from rfl, n1, zi_sub, ← ex, zi_l (by omega) (by omega), zi_l (by omega) (by omega)]
  refine t_in hτ ⟨by omega, by omega⟩ ⟨by omega, by omega⟩ ⟨by omega, by omega⟩ (by omega) ⟨bz_fit _, ?_⟩
  by_cases z : 0 ≤ x.toInt ∧ x.toInt ≤ (S.2.length : Int) - 1
  · rw [decide_eq_true z]
    have hn : x.toInt.toNat < S.2.length := by omega
    exact h1 x.toInt.toNat _ (List.getElem?_eq_getElem hn) (by omega) (by rw [← ex]; congr 1; rw [ex]; omega)
  · rw [decide_eq_false z]
    refine h2 fun ⟨n, hn, e⟩ => z ?_
    have : x.toInt = n := by rw [e, zi_toInt (by omega) (by omega)]
    omega
theorem t_nameAt (hτ : tw_ok τ) (h0 : tst τ I L B S H V O M W au ev) {c : Nat} (hc : c < 281474976710656) {Q : Int32 → tw_I → tw_L → Prop} (hd : 1 ≤ d) (h1 : ∀ (n : Nat) (q : Nm), nmAt S.2 c = some n → S.2[n]? = some q → q.1 = c → n < 10 → Q (zi n) I L) (h2 : nmAt S.2 c = none → Q (zi (-2)) I L) : wp_c d 269 [.ref 1315, .long (zl c)] (tw τ I L) (ti τ Q) := by
  obtain ⟨n1, n2⟩ := h0.nl
  refine k269 hτ hd ?_
  have loop : ∀ k n, S.2.length - n = k → n ≤ S.2.length → (∀ i q, i < n → S.2[i]? = some q → q.1 ≠ c) → wp_r (d - 1) 269 (2, [.ref 1315, .long (zl c), .retAddr 0, .int (zi n)], [], tw τ I L) (ti τ Q) := by
    intro k
    induction k with
    | zero =>
      intro n hk hn hno
      refine k269_2 hτ ⟨by decide, ?_⟩
      rw [show cm_ix (zi 0) = 0 from rfl, n1, zi_lt (by omega) (by omega) (by omega) (by omega)]
      refine ⟨fun z => absurd z (by omega), fun _ => h2 ?_⟩
      unfold nmAt
      rw [List.findIdx?_eq_none_iff]
      intro q hq
      obtain ⟨i, hi, e⟩ := List.mem_iff_getElem.mp hq
      have := hno i q (by omega) (by rw [← e]; exact List.getElem?_eq_getElem hi)
      simpa using this
    | succ k ih =>
      intro n hk hn hno
      have hlt : n < S.2.length := by omega
      have hq := List.getElem?_eq_getElem hlt
      have t := h0.nm hq
      have tl := okN_lt t.2.1.1
      refine k269_2 hτ ⟨by decide, ?_⟩
      rw [show cm_ix (zi 0) = 0 from rfl, n1, zi_lt (by omega) (by omega) (by omega) (by omega), zn_a n 1 1 rfl, zn_ix (by omega), t.1, zl_eq (by omega) (by omega) (by omega) (by omega)]
      refine ⟨fun _ => ⟨zn_in (show n < 100 by omega) (by omega), fun z => h1 n _ ?_ hq (by omega) (by omega), fun z => ih (n + 1) (by omega) (by omega) (fun i q hi hq2 => ?_)⟩, fun z => absurd (by omega) z⟩
      · unfold nmAt
        rw [List.findIdx?_eq_some_iff_getElem]
        refine ⟨hlt, by simp; omega, fun j hj => ?_⟩
        have := hno j _ hj (List.getElem?_eq_getElem (by omega))
        simpa using this
      · by_cases e : i = n
        · subst e
          rw [hq] at hq2
          cases hq2
          omega
        · exact hno i q (by omega) hq2
  exact loop _ 0 rfl (by omega) (fun i q hi => absurd hi (by omega))
theorem t_readName (hτ : tw_ok τ) (h0 : tst τ I L B S H V O M W au ev) {Q : Int32 → tw_I → tw_L → Prop} (hd : 4 ≤ d)
    (h : match psNm B with
      | .inl e => ∀ I2 L2, tst τ I2 L2 [] S H V O M W au ev → Q (zi e) I2 L2
      | .inr c => okN c → ∀ I2 L2, tst τ I2 L2 [] S H V O M W au ev → L2 1315 35 = zl c → Q (zi (-1)) I2 L2) : wp_c d 293 [.ref 1315] (tw τ I L) (ti τ Q) := by
  refine k293 hτ (by omega) ?_
  rintro L1 rfl
  have hl0 := h0.2.1.2.1
  have loop : ∀ n k I L, 8 - k = n → k ≤ 8 → k ≤ B.length → tst τ I L B S H V O M W au ev → rn isSm B k = rn isSm B 0 → (∀ x ∈ B.take k, 97 ≤ x ∧ x ≤ 122) → L 1315 35 = zl (cod (B.take k)) → ∀ x2, wp_r (d - 1) 293 (7, [.ref 1315, .int (zi k), x2], [], tw τ I L) (ti τ Q) := by
    have fin : ∀ k I L, k ≤ 8 → k ≤ B.length → tst τ I L B S H V O M W au ev → min 8 (rn isSm B 0) = k → (∀ x ∈ B.take k, 97 ≤ x ∧ x ≤ 122) → L 1315 35 = zl (cod (B.take k)) → ∀ I2, I2 = cm_u2 I 1315 18 (zi 0) →
        (zi (k : Int) = I 1315 18 → ((zi 0 < I 1315 18 → Q (zi (-1)) I2 L) ∧ (¬ zi 0 < I 1315 18 → Q (zi k) I2 L))) ∧ (¬ zi (k : Int) = I 1315 18 → Q (zi k) I2 L) := by
      intro k I L h8 hk g e hx hL I2 eI
      subst eI
      rw [g.2.1.1, zi_eq (by omega) (by omega) (by omega) (by omega), zi_lt (by omega) (by omega) (by omega) (by omega)]
      unfold psNm at h
      rw [e] at h
      refine ⟨fun z => ⟨fun z2 => ?_, fun z2 => ?_⟩, fun z => ?_⟩
      · rw [if_pos (by omega)] at h
        rw [List.take_of_length_le (by omega)] at hL hx
        exact h ⟨B, by omega, by omega, hx, rfl⟩ _ _ (g.empty hτ) hL
      · rw [if_neg (by omega)] at h
        exact h _ _ (g.empty hτ)
      · rw [if_neg (by omega)] at h
        exact h _ _ (g.empty hτ)
    intro n
    induction n with
    | zero =>
      intro k I L hn h8 hk g hr hx hL x2
      have e8 : k = 8 := by omega
      refine k293_7 hτ (by omega) ?_
      rw [zi_lt (by omega) (by omega) (by omega) (by omega)]
      refine ⟨fun z => absurd z (by omega), fun _ => fin k I L h8 hk g ?_ hx hL⟩
      have := rn_ge isSm B k
      omega
    | succ n ih =>
      intro k I L hn h8 hk g hr hx hL x2
      refine k293_7 hτ (by omega) ?_
      rw [zi_lt (by omega) (by omega) (by omega) (by omega)]
      refine ⟨fun _ => t_isSmall hτ (by omega) g.2.1 (by omega) ?_, fun z => absurd (by omega) z⟩
      rw [bz_0]
      cases q : atB isSm B k with
      | false =>
        refine ⟨fun _ => fin k I L h8 hk g ?_ hx hL, fun z => absurd rfl z⟩
        rw [rn_step, q] at hr
        have hr : k = rn isSm B 0 := hr
        omega
      | true =>
        obtain ⟨r1, r2, r3, r4⟩ := atB_rng (lo := 97) (hi := 122) (fun x => rfl) q
        refine ⟨fun z => (by cases z), fun _ => t_byteAt hτ (by omega) g.2.1 (by omega) ?_⟩
        rintro L4 rfl
        rw [r3, hL, zi_l (by omega) (by omega), zl_mul, zl_add, zl_sub, zl_add, zn_a k 1 1 rfl]
        have f : twf XW I L I (cm_u2 L 1315 35 (zl (27 * (cod (B.take k) : Int) + (by_ B k : Int) - 97 + 1))) := twf.rf.pL (by unfold XW; omega) _
        have tk1 : B.take (k + 1) = B.take k ++ [by_ B k] := by
          rw [List.take_succ, List.getElem?_eq_getElem r4]
          unfold by_
          rw [List.getElem?_eq_getElem r4]
          rfl
        refine ih (k + 1) _ _ (by omega) (by omega) (by omega) (g.kept hτ f) ?_ (fun x hx2 => ?_) ?_ x2
        · rw [rn_step, q] at hr
          exact hr
        · rw [tk1, List.mem_append, List.mem_singleton] at hx2
          rcases hx2 with hx2 | rfl
          · exact hx x hx2
          · exact ⟨r1, r2⟩
        · rw [u2_same, tk1, cod_snoc]
          congr 1
          omega
  have f : twf XW I L I (cm_u2 L 1315 35 (zl 0)) := twf.rf.pL (by unfold XW; omega) _
  exact loop _ 0 I _ rfl (by omega) (by omega) (h0.kept hτ f) rfl (fun x hx => by simp at hx) (by rw [u2_same]; rfl) _
theorem t_occurrences (hτ : tw_ok τ) (h0 : tst τ I L B S H V O M W au ev) {x c : Nat} (hx : x < 240) (hc : c < 281474976710656) {Q : Int32 → tw_I → tw_L → Prop} (hd : 2 ≤ d) (h : Q (zi (occ c (S.1 x))) I L) : wp_c d 277 [.ref 1315, .int (zi x), .long (zl c)] (tw τ I L) (ti τ Q) := by
  have ht := (h0.cell hx).2.1
  have hl := ht.2.1
  refine k277 hτ (by omega) ?_
  have loop : ∀ n k, (ctk (S.1 x)).length - k = n → k ≤ (ctk (S.1 x)).length → wp_r (d - 1) 277 (6, [.ref 1315, .int (zi x), .long (zl c), .retAddr 0, .int (zi (occL c ((ctk (S.1 x)).take k))), .int (zi k)], [], tw τ I L) (ti τ Q) := by
    intro n
    induction n with
    | zero =>
      intro k hn hk
      refine k277_6 hτ (by omega) ⟨zn_in (show x < 2400 by omega) (by omega), ?_⟩
      rw [zn_ix (by omega), ht.1, zi_lt (by omega) (by omega) (by omega) (by omega)]
      refine ⟨fun z => absurd z (by omega), fun _ => ?_⟩
      rw [List.take_of_length_le (by omega)]
      exact h
    | succ n ih =>
      intro k hn hk
      refine k277_6 hτ (by omega) ⟨zn_in (show x < 2400 by omega) (by omega), ?_⟩
      rw [zn_ix (by omega), ht.1, zi_lt (by omega) (by omega) (by omega) (by omega)]
      refine ⟨fun _ => t_at hτ (by omega) (by omega) ht (by omega) (t_of (k := 4) hτ (by omega) (by omega) ?_), fun z => absurd (by omega) z⟩
      have hlt : k < (ctk (S.1 x)).length := by omega
      have hq := List.getElem?_eq_getElem hlt
      have e := tko_op (v := c) (i := k) (fun i q hq => (ht.2.2 i q hq).2) hc (k := 4) (by omega) (by omega)
      have go := ih (k + 1) (by omega) (by omega)
      rw [List.take_succ, hq, occL_app] at go
      rw [e, hq, zn_a k 1 1 rfl]
      refine ⟨fun z => ?_, fun z => ?_⟩
      · have z : (ctk (S.1 x))[k] = (4, c) := Option.some.inj z
        rw [zn_a _ 1 1 rfl]
        rw [show occL c (some (ctk (S.1 x))[k]).toList = 1 by rw [z]; simp [occL]] at go
        exact go
      · have z : (ctk (S.1 x))[k] ≠ (4, c) := fun w => z (congrArg some w)
        rw [zn_a _ 0 0 rfl]
        rw [show occL c (some (ctk (S.1 x))[k]).toList = 0 by simp [occL, z]] at go
        exact go
  exact loop _ 0 rfl (by omega)
theorem occ_le {c : Nat} {q : Cn} (h : (ctk q).length ≤ 80) : occ c q ≤ 80 := Nat.le_trans (occL_le _ _) h
theorem t_marksName (hτ : tw_ok τ) (h0 : tst τ I L B S H V O M W au ev) {c : Nat} (hc : c < 281474976710656) {Q : tw_I → tw_L → Prop} (hd : 3 ≤ d)
    (h : ∀ I2 L2, twf (fun a i => a = 1328) I L I2 L2 → tst τ I2 L2 B S H V O (fun x => M x || decide (0 < occ c (S.1 x))) W au ev → Q I2 L2) : wp_c d 262 [.ref 1315, .long (zl c)] (tw τ I L) (tv τ Q) := by
  refine k262 hτ (by omega) ?_
  have loop : ∀ x I2 L2, x ≤ 240 → (twf (fun a i => a = 1328) I L I2 L2 ∧ tst τ I2 L2 B S H V O (fil (fun x => M x || decide (0 < occ c (S.1 x))) (fun _ => true) x M) W au ev) → wp_r (d - 1) 262 (2, [.ref 1315, .long (zl c), .retAddr 0, .int (zi x)], [], tw τ I2 L2) (tv τ Q) := by
    refine up_ind 240 (W := fun x I2 L2 => wp_r (d - 1) 262 (2, [.ref 1315, .long (zl c), .retAddr 0, .int (zi x)], [], tw τ I2 L2) (tv τ Q)) (P := fun x I2 L2 => twf (fun a i => a = 1328) I L I2 L2 ∧ tst τ I2 L2 B S H V O (fil (fun x => M x || decide (0 < occ c (S.1 x))) (fun _ => true) x M) W au ev) (fun I2 L2 hP => ?_) (fun x I2 L2 hx hP ih => ?_)
    · refine k262_2 hτ (by omega) ⟨fun z => absurd z (by decide), fun _ => h I2 L2 hP.1 (hP.2.ext (fun _ _ => rfl) rfl (fun _ _ => rfl) fun c hc => ?_)⟩
      unfold fil
      rw [if_pos ⟨hc, rfl⟩]
    · have em := hP.2.mk1 hx
      rw [fil_at _ _ _ _ (Nat.le_refl _)] at em
      refine k262_2 hτ (by omega) ?_
      rw [zi_lt (by omega) (by omega) (by omega) (by omega), zn_ix (by omega), em, bz_0, zn_a x 1 1 rfl]
      have go : ∀ m : Bool, m = (M x || decide (0 < occ c (S.1 x))) → ∀ I1, I1 = cm_u2 I2 1328 x (bz m) → wp_r (d - 1) 262 (2, [.ref 1315, .long (zl c), .retAddr 0, .int (zi ((x + 1 : Nat) : Int))], [], tw τ I1 L2) (tv τ Q) := by
        intro m hm I1 e1
        subst e1
        refine ih _ _ ⟨hP.1.pI rfl _, ?_⟩
        rw [fil_t _ _ _ _ rfl]
        have := hP.2.mrk hτ (m := m) hx (I2 := cm_u2 I2 1328 x (bz m)) (L2 := L2) (twf.rf.pI ⟨by omega, by omega⟩ _) (by rw [u2_same])
        rw [hm] at this ⊢
        exact this
      refine ⟨fun _ => ⟨zn_in hx (by omega), fun z => t_occurrences hτ hP.2 hx hc (by omega) ?_, fun z => go true ?_⟩, fun z => absurd (by omega) z⟩
      · have ol := occ_le (c := c) (hP.2.cell hx).2.1.2.1
        rw [zi_lt (by omega) (by omega) (by omega) (by omega)]
        refine ⟨fun y => go true ?_, fun y => go false ?_⟩
        · rw [decide_eq_true (by omega), Bool.or_true]
        · rw [z, decide_eq_false (by omega), Bool.or_false]
      · cases e : M x with
        | true => rfl
        | false => exact absurd e z
  exact loop 0 I L (by omega) ⟨twf.rf, by rw [fil_0]; exact h0⟩
theorem t_findName (hτ : tw_ok τ) (h0 : tst τ I L B S H V O M W au ev) {Q : Int32 → tw_I → tw_L → Prop} (hd : 5 ≤ d)
    (h : ∀ I2 L2, tst τ I2 L2 [] S H V O M W au ev → Q (match psNm B with
      | .inl _ => zi (-2)
      | .inr c => match nmAt S.2 c with
        | some n => zi n
        | none => zi (-2)) I2 L2) : wp_c d 219 [.ref 1315] (tw τ I L) (ti τ Q) := by
  refine k219 hτ (by omega) (t_readName hτ h0 (by omega) ?_)
  rcases e : psNm B with p | c
  · rw [e] at h
    simp only
    intro I2 L2 g
    have hp : p ≤ 8 := by
      unfold psNm at e
      split at e
      · cases e
      · have := Sum.inl.inj e; omega
    rw [zi_lt (by omega) (by omega) (by omega) (by omega)]
    exact ⟨fun z => absurd z (by omega), fun _ => h I2 L2 g⟩
  · rw [e] at h
    simp only
    intro ok I2 L2 g e35
    have := okN_lt ok
    refine ⟨fun _ => ?_, fun z => absurd z (by decide)⟩
    rw [e35]
    refine t_nameAt hτ g (by omega) (by omega) (fun n q e1 _ _ _ => ?_) (fun e1 => ?_)
    · have := h I2 L2 g
      simp only at this
      rw [e1] at this
      exact this
    · have := h I2 L2 g
      simp only at this
      rw [e1] at this
      exact this
theorem t_nameCount (hτ : tw_ok τ) (h0 : tst τ I L B S H V O M W au ev) {Q : Int32 → tw_I → tw_L → Prop} (hd : 1 ≤ d) (h : Q (zi S.2.length) I L) : wp_c d 271 [.ref 1315] (tw τ I L) (ti τ Q) := by
  refine k271 hτ (by omega) ⟨by decide, ?_⟩
  rw [show cm_ix (zi 0) = 0 from rfl, h0.nl.1]
  exact h
theorem t_nameFirst (hτ : tw_ok τ) (h0 : tst τ I L B S H V O M W au ev) (x : Int32) {Q : Int32 → tw_I → tw_L → Prop} (hd : 3 ≤ d) (h1 : ∀ (n : Nat) (q : Nm), S.2[n]? = some q → x = zi n → Q (match q.2 with
      | none => zi (-2)
      | some (a, _) => zi a) I L) (h2 : (¬ ∃ n : Nat, n < S.2.length ∧ x = zi n) → Q (zi (-1)) I L) : wp_c d 272 [.ref 1315, .int x] (tw τ I L) (ti τ Q) := by
  refine k272 hτ (by omega) (t_isName hτ h0 x (by omega) (fun n q hq hn ex => ⟨fun z => absurd z (by decide), fun _ => ?_⟩) (fun hn => ⟨fun _ => h2 hn, fun z => absurd rfl z⟩))
  subst ex
  have h1 := h1 n q hq rfl
  obtain ⟨t1, t2, t3⟩ := h0.nm hq
  rw [zn_ix (by omega)]
  refine ⟨zn_in (show n < 100 by omega) (by omega), ?_⟩
  obtain ⟨c, r⟩ := q
  cases r with
  | none =>
    have t3 : I 1322 n = zi (-1) ∧ I 1323 n = zi (-1) := t3
    rw [t3.1]
    exact ⟨fun _ => h1, fun z => absurd z (by decide)⟩
  | some p =>
    obtain ⟨fi, la⟩ := p
    have t3 : I 1322 n = zi fi ∧ I 1323 n = zi la := t3
    have bx : box fi la := t2.2
    unfold box at bx
    rw [t3.1, zi_lt (by omega) (by omega) (by omega) (by omega)]
    exact ⟨fun z => absurd z (by omega), fun _ => h1⟩
theorem t_nameLast (hτ : tw_ok τ) (h0 : tst τ I L B S H V O M W au ev) (x : Int32) {Q : Int32 → tw_I → tw_L → Prop} (hd : 3 ≤ d) (h1 : ∀ (n : Nat) (q : Nm), S.2[n]? = some q → x = zi n → Q (match q.2 with
      | none => zi (-2)
      | some (_, a) => zi a) I L) (h2 : (¬ ∃ n : Nat, n < S.2.length ∧ x = zi n) → Q (zi (-1)) I L) : wp_c d 273 [.ref 1315, .int x] (tw τ I L) (ti τ Q) := by
  refine k273 hτ (by omega) (t_isName hτ h0 x (by omega) (fun n q hq hn ex => ⟨fun z => absurd z (by decide), fun _ => ?_⟩) (fun hn => ⟨fun _ => h2 hn, fun z => absurd rfl z⟩))
  subst ex
  have h1 := h1 n q hq rfl
  obtain ⟨t1, t2, t3⟩ := h0.nm hq
  rw [zn_ix (by omega)]
  refine ⟨zn_in (show n < 100 by omega) (by omega), ?_⟩
  obtain ⟨c, r⟩ := q
  cases r with
  | none =>
    have t3 : I 1322 n = zi (-1) ∧ I 1323 n = zi (-1) := t3
    rw [t3.2]
    exact ⟨fun _ => h1, fun z => absurd z (by decide)⟩
  | some p =>
    obtain ⟨fi, la⟩ := p
    have t3 : I 1322 n = zi fi ∧ I 1323 n = zi la := t3
    have bx : box fi la := t2.2
    unfold box at bx
    rw [t3.2, zi_lt (by omega) (by omega) (by omega) (by omega)]
    exact ⟨fun z => absurd z (by omega), fun _ => h1⟩
theorem t_nameUses (hτ : tw_ok τ) (h0 : tst τ I L B S H V O M W au ev) (x : Int32) {Q : Int32 → tw_I → tw_L → Prop} (hd : 4 ≤ d) (h1 : ∀ (n : Nat) (q : Nm), S.2[n]? = some q → x = zi n → Q (zi (cnt (fun x => decide (0 < occ q.1 (S.1 x))) 240)) I L) (h2 : (¬ ∃ n : Nat, n < S.2.length ∧ x = zi n) → Q (zi (-1)) I L) : wp_c d 274 [.ref 1315, .int x] (tw τ I L) (ti τ Q) := by
  refine k274 hτ (by omega) (t_isName hτ h0 x (by omega) (fun n q hq hn ex => ⟨fun z => absurd z (by decide), fun _ => ?_⟩) (fun hn => ⟨fun _ => h2 hn, fun z => absurd rfl z⟩))
  subst ex
  have h1 := h1 n q hq rfl
  obtain ⟨t1, t2, t3⟩ := h0.nm hq
  have tl := okN_lt t2.1
  have loop : ∀ x I' L', x ≤ 240 → (I' = I ∧ L' = L) → wp_r (d - 1) 274 (14, [.ref 1315, .int (zi n), .int (zi (cnt (fun x => decide (0 < occ q.1 (S.1 x))) x)), .int (zi x)], [], tw τ I' L') (ti τ Q) := by
    refine up_ind 240 (W := fun x I' L' => wp_r (d - 1) 274 (14, [.ref 1315, .int (zi n), .int (zi (cnt (fun x => decide (0 < occ q.1 (S.1 x))) x)), .int (zi x)], [], tw τ I' L') (ti τ Q)) (P := fun x I' L' => I' = I ∧ L' = L) (fun I2 L2 hP => ?_) (fun x I2 L2 hx hP ih => ?_)
    · obtain ⟨rfl, rfl⟩ := hP
      exact k274_14 hτ (by omega) ⟨fun z => absurd z (by decide), fun _ => h1⟩
    · obtain ⟨rfl, rfl⟩ := hP
      refine k274_14 hτ (by omega) ?_
      rw [zi_lt (by omega) (by omega) (by omega) (by omega), zn_ix (by omega), t1]
      refine ⟨fun _ => ⟨zn_in (show n < 100 by omega) (by omega), t_occurrences hτ h0 hx (by omega) (by omega) ?_⟩, fun z => absurd (by omega) z⟩
      have ol := occ_le (c := q.1) (h0.cell hx).2.1.2.1
      have go := ih _ _ ⟨rfl, rfl⟩
      rw [show cnt (fun x => decide (0 < occ q.1 (S.1 x))) (x + 1) = cnt (fun x => decide (0 < occ q.1 (S.1 x))) x + (if decide (0 < occ q.1 (S.1 x)) = true then 1 else 0) from rfl] at go
      rw [zi_lt (by omega) (by omega) (by omega) (by omega), zn_a x 1 1 rfl, zn_a _ 1 1 rfl, zn_a _ 0 0 rfl]
      refine ⟨fun y => ?_, fun y => ?_⟩
      · rw [decide_eq_true (by omega)] at go
        exact go
      · rw [decide_eq_false (by omega)] at go
        exact go
  exact loop 0 _ _ (by omega) ⟨rfl, rfl⟩
end
