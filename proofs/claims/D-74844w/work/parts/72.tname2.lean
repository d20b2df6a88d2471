/-! THE TWIN: letters of names, defineName, removeName, renameName -/
theorem cod_tk {l : List Nat} (hx : ∀ x ∈ l, 97 ≤ x ∧ x ≤ 122) {j : Nat} (hj : j < l.length) : cod (l.take (j + 1)) = 27 * cod (l.take j) + (l[j] - 96) ∧ 97 ≤ l[j] ∧ l[j] ≤ 122 := by
  have := hx l[j] (List.getElem_mem hj)
  rw [List.take_succ, List.getElem?_eq_getElem hj]
  exact ⟨cod_snoc _ _, this⟩
theorem cod_tlt {l : List Nat} (h8 : l.length ≤ 8) (hx : ∀ x ∈ l, 97 ≤ x ∧ x ≤ 122) (j : Nat) : cod (l.take j) < 282429536481 := by
  have a : cod (l.take j) < 27 ^ (0 + (l.take j).length) := cod_lt (l.take j) (fun x h => hx x (List.mem_of_mem_take h)) 0 0 (by decide)
  rw [Nat.zero_add] at a
  have b : 27 ^ (l.take j).length ≤ 27 ^ 8 := Nat.pow_le_pow_right (by omega) (by rw [List.length_take]; omega)
  have : (27 : Nat) ^ 8 = 282429536481 := by decide
  omega
theorem mpto_set {α : Type} (f : α → α) {l : List α} {k : Nat} {a : α} (h : l[k]? = some a) : mpto f (k + 1) l = (mpto f k l).set k (f a) := by
  have hk := (List.getElem?_eq_some_iff.mp h).1
  apply List.ext_getElem?
  intro i
  rw [List.getElem?_set, mpto_at, mpto_at, mpto_len]
  by_cases e : k = i
  · subst e
    rw [if_pos rfl, if_pos hk, h]
    simp
  · rw [if_neg e]
    congr 1
    funext b
    by_cases h2 : i < k
    · rw [if_pos h2, if_pos (by omega)]
    · rw [if_neg h2, if_neg (by omega)]
theorem mpto_eq {α : Type} (f : α → α) {l : List α} {k : Nat} {a : α} (h : l[k]? = some a) (e : f a = a) : mpto f (k + 1) l = mpto f k l := by
  have hk := (List.getElem?_eq_some_iff.mp h).1
  apply List.ext_getElem?
  intro i
  rw [mpto_at, mpto_at]
  by_cases ei : i = k
  · subst ei
    rw [h]
    simp [e]
  · congr 1
    funext b
    by_cases h2 : i < k
    · rw [if_pos h2, if_pos (by omega)]
    · rw [if_neg h2, if_neg (by omega)]
theorem mpto_end {α : Type} (f : α → α) (l : List α) {n : Nat} (h : l.length ≤ n) : mpto f n l = l.map f := by
  apply List.ext_getElem?
  intro i
  rw [mpto_at, List.getElem?_map]
  by_cases hi : i < l.length
  · simp [show i < n by omega]
  · rw [List.getElem?_eq_none (by omega)]; rfl
/-- names changed -/
def rn1 (o c : Nat) (t : Nat × Nat) : Nat × Nat := if t = (4, o) then (4, c) else t
def frI (v : Nat) : Fm := .index v
def fgI (u v : Nat) : Fm := .elem (.index u) (.index v)
def fnR (o c e : Nat) : Fm := .length (.arg (if e = o then c else e))
def rnC (o c : Nat) (q : Cn) : Cn := match q with
  | some (.inr t) => some (.inr (mp frI fgI (fnR o c) t))
  | q => q
theorem mokI {o c : Nat} (h : okN c) : mok frI fgI (fnR o c) := by
  refine ⟨fun v hv => .inr ⟨v, hv, rfl⟩, fun u v hu hv => .inr ⟨u, v, hu, hv, rfl⟩, fun e he => ⟨if e = o then c else e, ?_, rfl⟩⟩
  split
  · exact h
  · exact he
theorem tmap_rn {o c : Nat} : ∀ n (l : List (Nat × Nat)), l.length ≤ n → okl l → tmap frI fgI (fnR o c) l = l.map (rn1 o c) := by
  intro n
  induction n with
  | zero =>
    intro l hl _
    have : l = [] := List.length_eq_zero_iff.mp (by omega)
    subst this
    rfl
  | succ n ih =>
    intro l hl ho
    by_cases hs : l = []
    · subst hs; rfl
    rcases okl_case ho hs with ⟨u, v, r, rfl, hu, hv, hor⟩ | ⟨q, r, rfl, hne, hq, h960, hor⟩
    · rw [List.length_cons, List.length_cons, List.length_cons] at hl
      rw [tmap_r, ih r (by omega) hor]
      simp [fgI, tk, rn1]
    · rw [List.length_cons] at hl
      rw [tmap_1 hne, ih r (by omega) hor, List.map_cons]
      have e : tm1 frI (fnR o c) q = [rn1 o c q] := by
        obtain ⟨a, b⟩ := q
        unfold tm1 rn1 frI fnR
        by_cases h2 : a = 2
        · subst h2; simp [tk]
        · rw [if_neg h2]
          by_cases h4 : a = 4
          · subst h4
            by_cases hb : b = o
            · subst hb; simp [tk]
            · simp [tk, hb]
          · rw [if_neg h4, if_neg (fun z => h4 (congrArg Prod.fst z))]
      rw [e]
      rfl
theorem rnC_ok {o c : Nat} (hc : okN c) {q : Cn} (h : cok q) : cok (rnC o c q) ∧ ctk (rnC o c q) = (ctk q).map (rn1 o c) ∧ cty (rnC o c q) = cty q ∧ ∀ n, rnC o c q = some (.inl n) → q = some (.inl n) := by
  match q, h with
  | none, h => exact ⟨h, rfl, rfl, fun n hn => hn⟩
  | some (.inl n), h => exact ⟨h, rfl, rfl, fun n hn => hn⟩
  | some (.inr t), h => exact ⟨mp_cok (mokI hc) h, by show tk (mp _ _ _ t) = (tk t).map _; rw [← tmap_all (mokI hc) h.1, tmap_rn _ _ (Nat.le_refl _) (okl_all h.1)], rfl, fun n hn => by cases hn⟩
def dfN (N : List Nm) (c a b : Nat) : List Nm := match nmAt N c with
  | some n => N.set n (c, some (a, b))
  | none => N ++ [(c, some (a, b))]
def dfI (N : List Nm) (c : Nat) : Nat := (nmAt N c).getD N.length
section
variable {τ : tw_K} {I : tw_I} {L : tw_L} {d : Nat} {B : List Nat} {S : Sh} {H : List Sh} {V O : Nat → Vl} {M W : Nat → Bool} {au : Bool} {ev : Nat}
theorem t_sizeOf (hτ : tw_ok τ) {c : Nat} (hc : okN c) {Q : Int32 → tw_I → tw_L → Prop} (hd : 1 ≤ d) (h : Q (zi (dec c).length) I L) : wp_c d 314 [.long (zl c)] (tw τ I L) (ti τ Q) := by
  obtain ⟨e, h1, h2, h3⟩ := okN_dec hc
  generalize dec c = l at *
  refine k314 hτ hd ?_
  have loop : ∀ j, j ≤ l.length → ∀ x, wp_r (d - 1) 314 (4, [.long x, .retAddr 0, .int (zi ((l.length - j : Nat) : Int)), .long (zl (cod (l.take j))), .retAddr 0], [], tw τ I L) (ti τ Q) := by
    intro j
    induction j with
    | zero => exact fun hj x => k314_4 hτ ⟨fun z => absurd z (by rw [List.take_zero]; decide), fun _ => h⟩
    | succ j ih =>
      intro hj x
      obtain ⟨a1, a2, a3⟩ := cod_tk h3 (show j < l.length by omega)
      have b := cod_tlt h2 h3 (j + 1)
      refine k314_4 hτ ?_
      rw [zl_lt (by omega) (by omega) (by omega) (by omega), zl_div (by omega) (by omega) (by omega) (by omega), zn_a _ 1 1 rfl]
      refine ⟨fun _ => ?_, fun z => absurd (by omega) z⟩
      have := ih (by omega) x
      rw [show (cod (l.take (j + 1)) : Int) / 27 = cod (l.take j) by omega, show l.length - (j + 1) + 1 = l.length - j by omega]
      exact this
  have := loop l.length (Nat.le_refl _) (zl c)
  rw [Nat.sub_self, List.take_length, e] at this
  exact this
theorem t_letterOf (hτ : tw_ok τ) {c i a : Nat} (hc : okN c) (hi : (dec c)[i]? = some a) {Q : Int32 → tw_I → tw_L → Prop} (hd : 2 ≤ d) (h : Q (zi a) I L) : wp_c d 249 [.long (zl c), .int (zi i)] (tw τ I L) (ti τ Q) := by
  refine k249 hτ (by omega) (t_sizeOf hτ hc (by omega) ?_)
  obtain ⟨e, h1, h2, h3⟩ := okN_dec hc
  generalize dec c = l at *
  obtain ⟨hi, rfl⟩ := List.getElem?_eq_some_iff.mp hi
  have loop : ∀ n j, j - i = n → i ≤ j → j < l.length → ∀ x, wp_r (d - 1) 249 (10, [.long x, .retAddr 0, .int (zi i), .long (zl (cod (l.take (j + 1)))), .retAddr 0, .int (zi j)], [], tw τ I L) (ti τ Q) := by
    intro n
    induction n with
    | zero =>
      intro j hn hij hj x
      have : j = i := by omega
      subst this
      obtain ⟨a1, a2, a3⟩ := cod_tk h3 hj
      have b := cod_tlt h2 h3 (j + 1)
      refine k249_10 hτ (by omega) ?_
      rw [zi_lt (by omega) (by omega) (by omega) (by omega), zl_rem (by omega) (by omega) (by omega) (by omega), zl_i]
      refine ⟨fun z => absurd z (by omega), fun _ => ?_⟩
      rw [zi_add, zi_sub]
      rw [show (cod (l.take (j + 1)) : Int) % 27 + 97 - 1 = (l[j] : Nat) by omega]
      exact h
    | succ n ih =>
      intro j hn hij hj x
      obtain ⟨a1, a2, a3⟩ := cod_tk h3 hj
      have b := cod_tlt h2 h3 (j + 1)
      refine k249_10 hτ (by omega) ?_
      rw [zi_lt (by omega) (by omega) (by omega) (by omega), zl_div (by omega) (by omega) (by omega) (by omega), zi_add]
      refine ⟨fun _ => ?_, fun z => absurd (by omega) z⟩
      have := ih (j - 1) (by omega) (by omega) (by omega) x
      rw [show j - 1 + 1 = j by omega] at this
      rw [show (cod (l.take (j + 1)) : Int) / 27 = cod (l.take j) by omega, show (j : Int) + -1 = (j - 1 : Nat) by omega]
      exact this
  have := loop _ (l.length - 1) rfl (by omega) (by omega) (zl c)
  rw [show l.length - 1 + 1 = l.length by omega, List.take_length, e] at this
  rw [zi_sub, show (l.length : Int) - 1 = (l.length - 1 : Nat) by omega]
  exact this
theorem t_nameByte (hτ : tw_ok τ) (h0 : tst τ I L B S H V O M W au ev) (x y : Int32) {Q : Int32 → tw_I → tw_L → Prop} (hd : 3 ≤ d) (h1 : ∀ (n : Nat) (q : Nm), S.2[n]? = some q → x = zi n → (∀ i a : Nat, (dec q.1)[i]? = some a → y = zi i → Q (zi a) I L) ∧ ((¬ ∃ i : Nat, i < (dec q.1).length ∧ y = zi i) → Q (zi (-1)) I L)) (h2 : (¬ ∃ n : Nat, n < S.2.length ∧ x = zi n) → Q (zi (-1)) I L) : wp_c d 270 [.ref 1315, .int x, .int y] (tw τ I L) (ti τ Q) := by
  refine k270 hτ (by omega) (t_isName hτ h0 x (by omega) (fun n q hq hn ex => ⟨fun z => absurd z (by decide), fun _ => ?_⟩) (fun hn => ⟨fun _ => h2 hn, fun z => absurd rfl z⟩))
  subst ex
  have h1 := h1 n q hq rfl
  obtain ⟨t1, t2, t3⟩ := h0.nm hq
  rw [zn_ix (by omega), t1]
  refine ⟨zn_in (show n < 100 by omega) (by omega), t_sizeOf hτ t2.1 (by omega) ?_⟩
  obtain ⟨-, d1, d2, -⟩ := okN_dec t2.1
  have hy := zi_rng y
  have ey := zi_self y
  rw [zi_sub, ← ey, zi_l (by omega) (by omega), zi_l (by omega) (by omega)]
  refine t_in hτ ⟨by omega, by omega⟩ ⟨by omega, by omega⟩ ⟨by omega, by omega⟩ (by omega) ?_
  by_cases z : 0 ≤ y.toInt ∧ y.toInt ≤ ((dec q.1).length : Int) - 1
  · rw [decide_eq_true z, t1]
    refine ⟨fun z => absurd z (by decide), fun _ => ?_⟩
    have hi : y.toInt.toNat < (dec q.1).length := by omega
    have ei : y = zi (y.toInt.toNat : Nat) := by rw [← ey]; congr 1; rw [ey]; omega
    rw [ey, ei]
    exact t_letterOf hτ t2.1 (List.getElem?_eq_getElem hi) (by omega) (h1.1 _ _ (List.getElem?_eq_getElem hi) ei)
  · rw [decide_eq_false z]
    refine ⟨fun _ => h1.2 fun ⟨i, hi, e⟩ => z ?_, fun z => absurd rfl z⟩
    have : y.toInt = i := by rw [e, zi_toInt (by omega) (by omega)]
    omega
theorem psNm_le {B : List Nat} {e : Nat} (h : psNm B = .inl e) : e ≤ 8 := by
  unfold psNm at h
  split at h
  · cases h
  · have := Sum.inl.inj h; omega
theorem nmAt_some {N : List Nm} {c n : Nat} (h : nmAt N c = some n) : n < N.length := by
  unfold nmAt at h
  rw [List.findIdx?_eq_some_iff_getElem] at h
  exact h.1
theorem t_defineName (hτ : tw_ok τ) (h0 : tst τ I L B S H V O M W au ev) (x y : Int32) {Q : Int32 → tw_I → tw_L → Prop} (hd : 6 ≤ d)
    (h1 : (¬ ∃ a b : Nat, box a b ∧ x = zi a ∧ y = zi b) → Q (zi (-1)) I L)
    (h2 : ∀ a b : Nat, box a b → x = zi a → y = zi b → match psNm B with
      | .inl e => ∀ I2 L2, tst τ I2 L2 [] S H V O M W au ev → Q (zi (-10 - (e : Int))) I2 L2
      | .inr c => okN c → (nmAt S.2 c = none ∧ S.2.length = 10 → ∀ I2 L2, tst τ I2 L2 [] S H V O M W au ev → Q (zi (-3)) I2 L2) ∧
        (¬ (nmAt S.2 c = none ∧ S.2.length = 10) → ∀ I2 L2, tst τ I2 L2 [] (S.1, dfN S.2 c a b) ((S :: H).take 8) V O (fun x => M x || decide (0 < occ c (S.1 x))) W au ev →
          wp_c (d - 1) 188 [.ref 1315] (tw τ I2 L2) (tv τ fun I3 L3 => Q (zi (dfI S.2 c)) I3 L3))) : wp_c d 203 [.ref 1315, .int x, .int y] (tw τ I L) (ti τ Q) := by
  refine k203 hτ (by omega) (t_isBox hτ x y (by omega) (fun a b hb ex ey => ⟨fun z => absurd z (by decide), fun _ => ?_⟩) (fun hn => ⟨fun _ => h1 hn, fun z => absurd rfl z⟩))
  subst ex ey
  have h2 := h2 a b hb rfl rfl
  have hb1 := hb.1
  have hb2 := hb.2.1
  refine t_readName hτ h0 (by omega) ?_
  rcases e : psNm B with p | c
  · rw [e] at h2
    simp only
    intro I2 L2 g
    have hp := psNm_le e
    rw [zi_lt (by omega) (by omega) (by omega) (by omega), zi_sub]
    exact ⟨fun z => absurd z (by omega), fun _ => h2 I2 L2 g⟩
  · rw [e] at h2
    simp only
    intro ok I2 L2 g e35
    obtain ⟨h2, h3⟩ := h2 ok
    have cl := okN_lt ok
    refine ⟨fun _ => ?_, fun z => absurd z (by decide)⟩
    rw [e35]
    have n10 := g.nl
    refine t_nameAt hτ g (by omega) (by omega) (fun n q e1 hq _ hn => ?_) (fun e1 => ?_)
    · rw [zi_lt (by omega) (by omega) (by omega) (by omega)]
      refine ⟨fun z => absurd z (by omega), fun _ => k203_53 hτ (by omega) (t_rec hτ g (by omega) fun I3 L3 f3 g3 => ?_)⟩
      have f35 : L3 1315 35 = zl c := by rw [(f3 _ _ (by unfold RW; omega)).2]; exact e35
      rw [zi_lt (by omega) (by omega) (by omega) (by omega), zn_ix (by omega), f35]
      refine ⟨fun z => absurd z (by omega), fun _ => ⟨zn_in (show n < 100 by omega) (by omega), ?_⟩⟩
      rintro L8 rfl I9 rfl I10 rfl
      rw [u2_ne _ _ _ _ (by omega), f35]
      have hlt := nmAt_some e1
      have fr : twf (fun a i => (a = 1320 ∧ i = 0) ∨ ((a = 1321 ∨ a = 1322 ∨ a = 1323) ∧ i = n)) I3 L3 (cm_u2 (cm_u2 I3 1322 n (zi a)) 1323 n (zi b)) (cm_u2 L3 1321 n (zl c)) := ((twf.rf.pL (by omega) _).pI (by omega) _).pI (by omega) _
      have g4 := g3.nms hτ (N := dfN S.2 c a b) (fr.wi fun a i z => by unfold XW; omega) (by rw [u2_ne _ _ _ _ (by omega), u2_ne _ _ _ _ (by omega), g3.nl.1]; unfold dfN; rw [e1, List.length_set]) (by unfold dfN; rw [e1, List.length_set]; exact n10.2) (fun i p hp => ?_)
      · refine t_marksName hτ g4 (by omega) (by omega) fun I5 L5 f5 g5 => ?_
        have := h3 (fun z => by rw [e1] at z; cases z.1) I5 L5 g5
        unfold dfI at this
        rw [e1] at this
        exact this
      · unfold dfN at hp
        rw [e1] at hp
        simp only at hp
        by_cases ei : i = n
        · subst ei
          rw [List.getElem?_set_self hlt] at hp
          cases hp
          exact ⟨by rw [u2_same], ⟨ok, hb⟩, by rw [u2_ne _ _ _ _ (by omega), u2_same], by rw [u2_same]⟩
        · rw [List.getElem?_set_ne (by omega)] at hp
          exact (g3.nm hp).kept fr (by omega) (by omega) (by omega)
    · refine ⟨fun _ => ⟨by decide, ?_⟩, fun z => absurd z (by decide)⟩
      rw [show cm_ix (zi 0) = 0 from rfl, n10.1, zi_eq (by omega) (by omega) (by omega) (by omega)]
      refine ⟨fun z => h2 ⟨e1, by omega⟩ I2 L2 g, fun z => k203_53 hτ (by omega) (t_rec hτ g (by omega) fun I3 L3 f3 g3 => ?_)⟩
      have f35 : L3 1315 35 = zl c := by rw [(f3 _ _ (by unfold RW; omega)).2]; exact e35
      refine ⟨fun _ => ⟨by decide, ?_⟩, fun z => absurd z (by decide)⟩
      rw [show cm_ix (zi 0) = 0 from rfl, g3.nl.1, zn_a _ 1 1 rfl, zn_ix (by omega), f35]
      rintro I4 rfl
      refine ⟨zn_in (show S.2.length < 100 by omega) (by omega), ?_⟩
      rintro L8 rfl I9 rfl I10 rfl
      rw [u2_ne _ _ _ _ (by omega), f35]
      have fr : twf (fun a i => (a = 1320 ∧ i = 0) ∨ ((a = 1321 ∨ a = 1322 ∨ a = 1323) ∧ i = S.2.length)) I3 L3 (cm_u2 (cm_u2 (cm_u2 I3 1320 0 (zi ((S.2.length + 1 : Nat) : Int))) 1322 S.2.length (zi a)) 1323 S.2.length (zi b)) (cm_u2 L3 1321 S.2.length (zl c)) := (((twf.rf.pI (by omega) _).pL (by omega) _).pI (by omega) _).pI (by omega) _
      have g4 := g3.nms hτ (N := dfN S.2 c a b) (fr.wi fun a i z => by unfold XW; omega) (by rw [u2_ne _ _ _ _ (by omega), u2_ne _ _ _ _ (by omega), u2_same]; unfold dfN; rw [e1, List.length_append, List.length_singleton]) (by unfold dfN; rw [e1, List.length_append, List.length_singleton]; omega) (fun i p hp => ?_)
      · refine t_marksName hτ g4 (by omega) (by omega) fun I5 L5 f5 g5 => ?_
        have := h3 (fun z => by omega) I5 L5 g5
        unfold dfI at this
        rw [e1] at this
        exact this
      · unfold dfN at hp
        rw [e1] at hp
        simp only at hp
        by_cases hi : i < S.2.length
        · rw [List.getElem?_append_left hi] at hp
          exact (g3.nm hp).kept fr (by omega) (by omega) (by omega)
        · have hi2 := (List.getElem?_eq_some_iff.mp hp).1
          rw [List.length_append, List.length_singleton] at hi2
          have ei : i = S.2.length := by omega
          subst ei
          rw [List.getElem?_append_right (Nat.le_refl _), Nat.sub_self] at hp
          cases hp
          exact ⟨by rw [u2_same], ⟨ok, hb⟩, by rw [u2_ne _ _ _ _ (by omega), u2_same], by rw [u2_same]⟩
theorem t_removeName (hτ : tw_ok τ) (h0 : tst τ I L B S H V O M W au ev) (x : Int32) {Q : Int32 → tw_I → tw_L → Prop} (hd : 6 ≤ d)
    (h1 : ∀ (n : Nat) (q : Nm), S.2[n]? = some q → x = zi n → ∀ I2 L2, tst τ I2 L2 B (S.1, S.2.eraseIdx n) ((S :: H).take 8) V O (fun x => M x || decide (0 < occ q.1 (S.1 x))) W au ev →
      wp_c (d - 1) 188 [.ref 1315] (tw τ I2 L2) (tv τ fun I3 L3 => Q (I3 1320 0) I3 L3))
    (h2 : (¬ ∃ n : Nat, n < S.2.length ∧ x = zi n) → Q (zi (-1)) I L) : wp_c d 303 [.ref 1315, .int x] (tw τ I L) (ti τ Q) := by
  refine k303 hτ (by omega) (t_isName hτ h0 x (by omega) (fun n q hq hn ex => ⟨fun z => absurd z (by decide), fun _ => ?_⟩) (fun hn => ⟨fun _ => h2 hn, fun z => absurd rfl z⟩))
  subst ex
  have h1 := h1 n q hq rfl
  have n10 := h0.nl
  have hlt := (List.getElem?_eq_some_iff.mp hq).1
  refine t_rec hτ h0 (by omega) fun I2 L2 f2 g2 => ⟨zn_in (show n < 100 by omega) (by omega), ?_⟩
  have t := g2.nm hq
  have cl := okN_lt t.2.1.1
  rw [zn_ix (by omega), t.1]
  refine t_marksName hτ g2 (by omega) (by omega) fun I3 L3 f3 g3 => ⟨by decide, ?_⟩
  rw [show cm_ix (zi 0) = 0 from rfl, g3.nl.1, zi_sub, show (S.2.length : Int) - 1 = (S.2.length - 1 : Nat) by omega]
  rintro I4 rfl
  have hel : (S.2.eraseIdx n).length = S.2.length - 1 := by rw [List.length_eraseIdx, if_pos hlt]
  have loop : ∀ i I L, i ≤ S.2.length - 1 → (n ≤ i ∧ twf (fun a i => (a = 1320 ∧ i = 0) ∨ ((a = 1321 ∨ a = 1322 ∨ a = 1323) ∧ i < 10)) I3 L3 I L ∧ I 1320 0 = zi ((S.2.length - 1 : Nat) : Int) ∧ (∀ j p, j < i → (S.2.eraseIdx n)[j]? = some p → tnm I L j p) ∧ (∀ j p, i ≤ j → S.2[j]? = some p → tnm I L j p)) → wp_r (d - 1) 303 (36, [.ref 1315, .int (zi n), .int (zi i)], [], tw τ I L) (ti τ Q) := by
    refine up_ind (S.2.length - 1) (W := fun i I L => wp_r (d - 1) 303 (36, [.ref 1315, .int (zi n), .int (zi i)], [], tw τ I L) (ti τ Q)) (P := fun i I L => n ≤ i ∧ twf (fun a i => (a = 1320 ∧ i = 0) ∨ ((a = 1321 ∨ a = 1322 ∨ a = 1323) ∧ i < 10)) I3 L3 I L ∧ I 1320 0 = zi ((S.2.length - 1 : Nat) : Int) ∧ (∀ j p, j < i → (S.2.eraseIdx n)[j]? = some p → tnm I L j p) ∧ (∀ j p, i ≤ j → S.2[j]? = some p → tnm I L j p)) (fun I L hP => ?_) (fun i I L hi hP ih => ?_)
    · obtain ⟨p1, p2, p3, p4, p5⟩ := hP
      refine k303_36 hτ (by omega) ⟨by decide, ?_⟩
      rw [show cm_ix (zi 0) = 0 from rfl, p3, zi_lt (by omega) (by omega) (by omega) (by omega)]
      refine ⟨fun z => absurd z (by omega), fun _ => h1 I L (g3.nms hτ (p2.wi fun a i z => by omega) (by rw [p3, hel]) (by omega) fun j p hp => p4 j p ?_ hp)⟩
      have := (List.getElem?_eq_some_iff.mp hp).1
      omega
    · obtain ⟨p1, p2, p3, p4, p5⟩ := hP
      refine k303_36 hτ (by omega) ⟨by decide, ?_⟩
      rw [show cm_ix (zi 0) = 0 from rfl, p3, zi_lt (by omega) (by omega) (by omega) (by omega), zn_a i 1 1 rfl, zn_ix (by omega), zn_ix (by omega)]
      refine ⟨fun _ => ⟨zn_in (show i + 1 < 100 by omega) (by omega), zn_in (show i < 100 by omega) (by omega), ?_⟩, fun z => absurd (by omega) z⟩
      rintro L1 rfl I2 rfl I5 rfl
      rw [u2_ne _ _ _ _ (by omega)]
      have fr : twf (fun a j => (a = 1321 ∨ a = 1322 ∨ a = 1323) ∧ j = i) I L (cm_u2 (cm_u2 I 1322 i (I 1322 (i + 1))) 1323 i (I 1323 (i + 1))) (cm_u2 L 1321 i (L 1321 (i + 1))) := ((twf.rf.pL (by omega) _).pI (by omega) _).pI (by omega) _
      refine ih _ _ ⟨by omega, p2.tr (fr.wi fun a j z => by omega), by rw [(fr _ _ (by omega)).1]; exact p3, fun j p hj hp => ?_, fun j p hj hp => (p5 j p (by omega) hp).kept fr (by omega) (by omega) (by omega)⟩
      by_cases ej : j = i
      · subst ej
        rw [List.getElem?_eraseIdx, if_neg (by omega)] at hp
        obtain ⟨t1, t2, t3⟩ := p5 (j + 1) p (by omega) hp
        refine ⟨by rw [u2_same]; exact t1, t2, ?_⟩
        rw [u2_same, u2_ne _ _ _ _ (by omega), u2_same]
        exact t3
      · exact (p4 j p (by omega) hp).kept fr (by omega) (by omega) (by omega)
  have f4 : twf (fun a i => a = 1320 ∧ i = 0) I3 L3 (cm_u2 I3 1320 0 (zi ((S.2.length - 1 : Nat) : Int))) L3 := twf.rf.pI ⟨by omega, by omega⟩ _
  refine loop n _ _ (by omega) ⟨Nat.le_refl _, f4.wi fun a i z => by omega, by rw [u2_same], fun j p hj hp => ?_, fun j p hj hp => (g3.nm hp).kept f4 (by omega) (by omega) (by omega)⟩
  rw [List.getElem?_eraseIdx, if_pos (by omega)] at hp
  exact (g3.nm hp).kept f4 (by omega) (by omega) (by omega)
theorem t_renameName (hτ : tw_ok τ) (h0 : tst τ I L B S H V O M W au ev) (x : Int32) {Q : Int32 → tw_I → tw_L → Prop} (hd : 6 ≤ d)
    (h1 : ∀ (n : Nat) (q : Nm), S.2[n]? = some q → x = zi n → match psNm B with
      | .inl e => ∀ I2 L2, tst τ I2 L2 [] S H V O M W au ev → Q (zi (-10 - (e : Int))) I2 L2
      | .inr c => okN c → (nmAt S.2 c ≠ none → ∀ I2 L2, tst τ I2 L2 [] S H V O M W au ev → Q (zi (-4)) I2 L2) ∧
        (nmAt S.2 c = none → ∀ I2 L2, tst τ I2 L2 [] (fun y => rnC q.1 c (S.1 y), S.2.set n (c, q.2)) ((S :: H).take 8) V O (fun x => (M x || decide (0 < occ q.1 (S.1 x))) || decide (0 < occ c (S.1 x))) W au ev →
          wp_c (d - 1) 188 [.ref 1315] (tw τ I2 L2) (tv τ fun I3 L3 => Q (zi (sumN (fun y => occ q.1 (S.1 y)) 240)) I3 L3)))
    (h2 : (¬ ∃ n : Nat, n < S.2.length ∧ x = zi n) → Q (zi (-1)) I L) : wp_c d 304 [.ref 1315, .int x] (tw τ I L) (ti τ Q) := by
  refine k304 hτ (by omega) (t_isName hτ h0 x (by omega) (fun n q hq hn ex => ⟨fun z => absurd z (by decide), fun _ => ?_⟩) (fun hn => ⟨fun _ => h2 hn, fun z => absurd rfl z⟩))
  subst ex
  have h1 := h1 n q hq rfl
  refine t_readName hτ h0 (by omega) ?_
  rcases e : psNm B with p | c
  · rw [e] at h1
    simp only
    intro I2 L2 g
    have hp := psNm_le e
    rw [zi_lt (by omega) (by omega) (by omega) (by omega), zi_sub]
    exact ⟨fun z => absurd z (by omega), fun _ => h1 I2 L2 g⟩
  rw [e] at h1
  simp only
  intro ok I2 L2 g e35
  obtain ⟨h1, h3⟩ := h1 ok
  have cl := okN_lt ok
  refine ⟨fun _ => ?_, fun z => absurd z (by decide)⟩
  rw [e35]
  have n10 := g.nl
  have hlt := (List.getElem?_eq_some_iff.mp hq).1
  refine t_nameAt hτ g (by omega) (by omega) (fun n2 q2 e1 hq2 _ hn2 => ?_) (fun e1 => ?_)
  · rw [zi_lt (by omega) (by omega) (by omega) (by omega)]
    exact ⟨fun z => absurd z (by omega), fun _ => h1 (by rw [e1]; simp) I2 L2 g⟩
  refine ⟨fun _ => ?_, fun z => absurd z (by decide)⟩
  have h3 := h3 e1
  refine t_rec hτ g (by omega) fun I3 L3 f3 g3 => ⟨zn_in (show n < 100 by omega) (by omega), ?_⟩
  have t := g3.nm hq
  have ql := okN_lt t.2.1.1
  rw [zn_ix (by omega), t.1]
  refine t_marksName hτ g3 (by omega) (by omega) fun I4 L4 f4 g4 => ?_
  have f35 : L4 1315 35 = zl c := by rw [(f4 _ _ (by omega)).2, (f3 _ _ (by unfold RW; omega)).2]; exact e35
  rw [f35]
  refine t_marksName hτ g4 (by omega) (by omega) fun I5 L5 f5 g5 => ?_
  have f35 : L5 1315 35 = zl c := by rw [(f5 _ _ (by omega)).2]; exact f35
  have sl : ∀ y, y ≤ 240 → sumN (fun y => occ q.1 (S.1 y)) y ≤ 80 * y := by
    intro y
    induction y with
    | zero => intro _; exact Nat.le_refl _
    | succ y ih =>
      intro hy
      have := ih (by omega)
      have := occ_le (c := q.1) (g5.cell (show y < 240 by omega)).2.1.2.1
      show sumN _ y + occ q.1 (S.1 y) ≤ _
      omega
  have cells : ∀ y I L, y ≤ 240 → (tst τ I L [] (fil (fun y => rnC q.1 c (S.1 y)) (fun _ => true) y S.1, S.2) ((S :: H).take 8) V O (fun x => (M x || decide (0 < occ q.1 (S.1 x))) || decide (0 < occ c (S.1 x))) W au ev ∧ L 1315 35 = zl c) → ∀ s x7, wp_r (d - 1) 304 (68, [.ref 1315, .int (zi n), .int s, .long (zl q.1), .retAddr 0, .int (zi (sumN (fun y => occ q.1 (S.1 y)) y)), .int (zi y), x7], [], tw τ I L) (ti τ Q) := by
    refine up_ind 240 (W := fun y I L => ∀ s x7, wp_r (d - 1) 304 (68, [.ref 1315, .int (zi n), .int s, .long (zl q.1), .retAddr 0, .int (zi (sumN (fun y => occ q.1 (S.1 y)) y)), .int (zi y), x7], [], tw τ I L) (ti τ Q)) (P := fun y I L => tst τ I L [] (fil (fun y => rnC q.1 c (S.1 y)) (fun _ => true) y S.1, S.2) ((S :: H).take 8) V O (fun x => (M x || decide (0 < occ q.1 (S.1 x))) || decide (0 < occ c (S.1 x))) W au ev ∧ L 1315 35 = zl c) (fun I L hP s x7 => ?_) (fun y I L hy hP ih s x7 => ?_)
    · refine k304_68 hτ (by omega) ⟨fun z => absurd z (by decide), fun _ => ⟨zn_in (show n < 100 by omega) (by omega), ?_⟩⟩
      rw [zn_ix (by omega), hP.2]
      rintro L1 rfl
      have fr : twf (fun a i => a = 1321 ∧ i = n) I L I (cm_u2 L 1321 n (zl c)) := twf.rf.pL ⟨by omega, by omega⟩ _
      have g6 := hP.1.nms hτ (N := S.2.set n (c, q.2)) (fr.wi fun a i z => by omega) (by rw [List.length_set]; exact hP.1.nl.1) (by rw [List.length_set]; exact n10.2) (fun i p hp => ?_)
      · refine h3 _ _ (g6.ext (fun z hz => ?_) rfl (fun _ _ => rfl) fun _ _ => rfl)
        show rnC q.1 c (S.1 z) = fil (fun y => rnC q.1 c (S.1 y)) (fun _ => true) 240 S.1 z
        unfold fil
        rw [if_pos ⟨hz, rfl⟩]
      · by_cases ei : i = n
        · subst ei
          rw [List.getElem?_set_self hlt] at hp
          cases hp
          obtain ⟨t1, t2, t3⟩ := hP.1.nm hq
          exact ⟨by rw [u2_same], ⟨ok, t2.2⟩, t3⟩
        · rw [List.getElem?_set_ne (by omega)] at hp
          exact (hP.1.nm hp).kept fr (by omega) (by omega) (by omega)
    · refine k304_68 hτ (by omega) ?_
      rw [zi_lt (by omega) (by omega) (by omega) (by omega)]
      refine ⟨fun _ => ?_, fun z => absurd (by omega) z⟩
      have hcell := hP.1.cell hy
      simp only at hcell
      rw [fil_at _ _ _ _ (Nat.le_refl _)] at hcell
      obtain ⟨c1, c2, c3, c4⟩ := hcell
      have hl := c2.2.1
      have hsy := sl y (by omega)
      have toks : ∀ k I2 L2, k ≤ (ctk (S.1 y)).length → (twf (fun a i => a = 1319 ∧ 80 * y ≤ i ∧ i < 80 * y + 80) I L I2 L2 ∧ ttk I2 L2 y (mpto (rn1 q.1 c) k (ctk (S.1 y)))) → wp_r (d - 1) 304 (79, [.ref 1315, .int (zi n), .int s, .long (zl q.1), .retAddr 0, .int (zi ((sumN (fun y => occ q.1 (S.1 y)) y + occL q.1 ((ctk (S.1 y)).take k) : Nat) : Int)), .int (zi y), .int (zi k)], [], tw τ I2 L2) (ti τ Q) := by
        refine up_ind (ctk (S.1 y)).length (W := fun k I2 L2 => wp_r (d - 1) 304 (79, [.ref 1315, .int (zi n), .int s, .long (zl q.1), .retAddr 0, .int (zi ((sumN (fun y => occ q.1 (S.1 y)) y + occL q.1 ((ctk (S.1 y)).take k) : Nat) : Int)), .int (zi y), .int (zi k)], [], tw τ I2 L2) (ti τ Q)) (P := fun k I2 L2 => twf (fun a i => a = 1319 ∧ 80 * y ≤ i ∧ i < 80 * y + 80) I L I2 L2 ∧ ttk I2 L2 y (mpto (rn1 q.1 c) k (ctk (S.1 y)))) (fun I2 L2 hP2 => ?_) (fun k I2 L2 hk hP2 ih2 => ?_)
        · obtain ⟨fr, tt⟩ := hP2
          have ml := tt.1
          rw [mpto_len] at ml
          refine k304_79 hτ (by omega) ⟨zn_in (show y < 2400 by omega) (by omega), ?_⟩
          rw [zn_ix (by omega), ml, zi_lt (by omega) (by omega) (by omega) (by omega), zn_a y 1 1 rfl, List.take_length]
          refine ⟨fun z => absurd z (by omega), fun _ => ih I2 L2 ⟨?_, by rw [(fr _ _ (by omega)).2]; exact hP.2⟩ s _⟩
          rw [mpto_all] at tt
          obtain ⟨o1, o2, o3, o4⟩ := rnC_ok (o := q.1) ok c3
          rw [fil_t _ _ _ _ rfl]
          refine hP.1.put hτ hy (fr.wi fun a i z => by unfold CW; omega) ⟨by rw [(fr _ _ (by omega)).1, o3]; exact c1, by rw [o2]; exact tt, o1, fun m hm => by rw [(fr _ _ (by omega)).2]; exact c4 m (o4 m hm)⟩
        · obtain ⟨fr, tt⟩ := hP2
          have ml := tt.1
          rw [mpto_len] at ml
          have hq1 := List.getElem?_eq_getElem hk
          have hq3 : (mpto (rn1 q.1 c) k (ctk (S.1 y)))[k]? = some (ctk (S.1 y))[k] := by rw [mpto_at, hq1]; simp
          have e := tko_op (v := q.1) (i := k) (fun i q hq => (tt.2.2 i q hq).2) (by omega) (k := 4) (by omega) (by omega)
          refine k304_79 hτ (by omega) ⟨zn_in (show y < 2400 by omega) (by omega), ?_⟩
          rw [zn_ix (by omega), ml, zi_lt (by omega) (by omega) (by omega) (by omega), zn_a k 1 1 rfl]
          refine ⟨fun _ => t_at hτ (by omega) (by omega) tt (by omega) (t_of (k := 4) hτ (by omega) (by omega) ?_), fun z => absurd (by omega) z⟩
          rw [e, hq3]
          have f35 : L2 1315 35 = zl c := by rw [(fr _ _ (by omega)).2]; exact hP.2
          have ol := occL_le q.1 ((ctk (S.1 y)).take k)
          rw [List.length_take] at ol
          have stp : occL q.1 ((ctk (S.1 y)).take (k + 1)) = occL q.1 ((ctk (S.1 y)).take k) + (if (ctk (S.1 y))[k] = (4, q.1) then 1 else 0) := by
            rw [List.take_succ, hq1, occL_app]
            simp [occL]
          refine ⟨fun z => ?_, fun z => ?_⟩
          · have z : (ctk (S.1 y))[k] = (4, q.1) := Option.some.inj z
            rw [f35]
            refine t_of (k := 4) hτ (by omega) (by omega) ?_
            rw [zi_mul, zi_add]
            refine ⟨(zi_in (by omega) (by omega)).mpr ⟨by omega, by omega⟩, ?_⟩
            rintro L4 rfl
            rw [zi_ix (by omega) (by omega), show (80 * (y : Int) + k).toNat = 80 * y + k by omega, zn_a _ 1 1 rfl]
            have go := ih2 I2 (cm_u2 L2 1319 (80 * y + k) (tok 4 c)) ⟨fr.pL (by omega) _, by
              rw [mpto_set _ hq1, show rn1 q.1 c (ctk (S.1 y))[k] = (4, c) by rw [z]; simp [rn1]]
              exact tt.set (4, c) (tkO_mk (by omega) (by omega) (by omega))⟩
            rw [stp, if_pos z] at go
            exact go
          · have z : (ctk (S.1 y))[k] ≠ (4, q.1) := fun w => z (congrArg some w)
            have go := ih2 I2 L2 ⟨fr, by
              rw [mpto_eq _ hq1 (by simp [rn1, z])]
              exact tt⟩
            rw [stp, if_neg z] at go
            exact go
      have := toks 0 I L (by omega) ⟨twf.rf, by rw [mpto_0]; exact c2⟩
      exact this
  exact cells 0 I5 L5 (by omega) ⟨by rw [fil_0]; exact g5, f35⟩ _ _
end
