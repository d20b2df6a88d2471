/-! ENGINE: the evaluator's functions -/
theorem cnt_lo {P : Nat → Bool} : ∀ n, (∀ i, i < n → P i = false) → cnt P n = 0
  | 0, _ => rfl
  | n + 1, h => by
    show cnt P n + (if P n then 1 else 0) = 0
    rw [cnt_lo n (fun i hi => h i (by omega)), h n (by omega)]; rfl
theorem cnt_hi {P : Nat → Bool} {a : Nat} (h : ∀ i, a ≤ i → P i = false) : ∀ n, a ≤ n → cnt P n = cnt P a
  | 0, ha => by rw [show a = 0 from (by omega)]
  | n + 1, ha => by
    by_cases e : a = n + 1
    · rw [e]
    · show cnt P n + (if P n then 1 else 0) = _
      rw [cnt_hi h n (by omega), h n (by omega)]; rfl
section
variable {G : Nat → Prop} {σ σ1 σ2 : cm_S} {x : Nat} {e : Er} {Q : cm_O → Prop} {d : Nat} {S : Sh} {V : Nat → Vl}
theorem v_matchL {f l : Nat} (hI : evI G S V σ) (hb : box f l) (h1 : cm_I σ 354 1 = zi (f : Int)) (h2 : cm_I σ 354 2 = zi (l : Int)) {w : Int64} {x1 x2 : Nat} {x3 : Int32} (hd : 2 ≤ d) (h : evQ σ (mtL V w (celF f l 240) 0) Q) :
    ∀ n c k : Nat, c + n = l + 1 → f ≤ c → k ≤ c → mtL V w (celF f l (240 - c)) k = mtL V w (celF f l 240) 0 → wp_r d 153 (45, [.ref 354, .ref x1, .ref x2, .int x3, .long w, .retAddr 0, .int (zi (k : Int)), .int (zi (c : Int))], [], σ) Q := by
  have hE := hI.1.1
  have hb2 := id hb
  unfold box at hb2
  intro n
  induction n with
  | zero =>
    intro c k hc hf hk hm
    refine k153_45 hE (by omega) ⟨fun _ => ?_, fun z => ?_⟩
    · rw [← hm, celF_gt _ _ rfl (by omega)] at h
      exact v_er hE (k := 7) (by decide) h
    · rw [h2, zi_lt (by omega) (by omega) (by omega) (by omega)] at z; omega
  | succ n ih =>
    intro c k hc hf hk hm
    rw [mtL_step V w f l c k (by omega)] at hm
    refine k153_45 hE (by omega) ⟨fun z => ?_, fun _ => ?_⟩
    · rw [h2, zi_lt (by omega) (by omega) (by omega) (by omega)] at z; omega
    rw [h1, h2]
    refine e_within hE (by omega) (by omega) (by omega) (by omega) ⟨_, _, rfl, fun z => ?_, fun z => ⟨hE, zn_in (show c < 240 from (by omega)) (by omega), fun y => ⟨fun y2 => ?_, fun y2 => ?_⟩, fun y => ?_⟩⟩
    · rw [bz_0] at z
      rw [z] at hm
      rw [zn_a c 1 1 rfl]
      exact ih (c + 1) k (by omega) (by omega) (by omega) hm
    · rw [bz_0, Bool.not_eq_false] at z
      rw [zn_ix (by omega)] at y y2
      rw [(show cm_I σ 333 c = zi 1 ↔ (V c).1 = 1 from evl_k hI.2.2 (show c < 240 from (by omega)) (k := 1) (by omega))] at y
      rw [(hI.2.2 c (by omega)).2.1] at y2
      rw [z, if_pos rfl, if_pos ⟨y, y2⟩] at hm
      rw [← hm] at h
      rw [zn_a k 1 1 rfl, zi_l (by omega) (by omega)]
      exact v_give hE (by omega) h.q
    · rw [bz_0, Bool.not_eq_false] at z
      rw [zn_ix (by omega)] at y2
      rw [(hI.2.2 c (by omega)).2.1] at y2
      rw [z, if_pos rfl, if_neg (fun q => y2 q.2)] at hm
      rw [zn_a k 1 1 rfl, zn_a c 1 1 rfl]
      exact ih (c + 1) (k + 1) (by omega) (by omega) (by omega) hm
    · rw [bz_0, Bool.not_eq_false] at z
      rw [zn_ix (by omega)] at y
      rw [(show cm_I σ 333 c = zi 1 ↔ (V c).1 = 1 from evl_k hI.2.2 (show c < 240 from (by omega)) (k := 1) (by omega))] at y
      rw [z, if_pos rfl, if_neg (fun q => y q.1)] at hm
      rw [zn_a k 1 1 rfl, zn_a c 1 1 rfl]
      exact ih (c + 1) (k + 1) (by omega) (by omega) (by omega) hm
theorem ixL_no (V : Nat → Vl) {w : Int64} : ∀ (l : List Nat) (k : Nat), (∀ j : Nat, k ≤ j → j < k + l.length → zl ((j + 1 : Nat) : Int) ≠ w) → ixL V w l k = (4, zl 0)
  | [], _, _ => rfl
  | c :: r, k, h => by
    show (if zl ((k + 1 : Nat) : Int) = w then tkV V c else ixL V w r (k + 1)) = _
    rw [if_neg (h k (Nat.le_refl _) (by rw [List.length_cons]; omega))]
    exact ixL_no V r (k + 1) (fun j h1 h2 => h j (by omega) (by rw [List.length_cons]; omega))
theorem celF_len (f l : Nat) : ∀ n, (celF f l n).length ≤ n
  | 0 => Nat.le_refl _
  | n + 1 => by
    unfold celF
    split
    · rw [List.length_cons]; have := celF_len f l n; omega
    · have := celF_len f l n; omega
theorem zl_rng (x : Int64) : -9223372036854775808 ≤ x.toInt ∧ x.toInt < 9223372036854775808 := ⟨by have := Int64.le_toInt x; omega, by have := Int64.toInt_lt x; omega⟩
theorem v_indexL {f l : Nat} (hI : evI G S V σ) (hb : box f l) {w : Int64} {x1 x2 : Nat} {x3 : Int32} (hd : 3 ≤ d) (h : evQ σ (ixL V w (celF f l 240) 0) Q) :
    ∀ n c k : Nat, c + n = l + 1 → f ≤ c → k ≤ c → (k : Int) < w.toInt ∨ k = 0 → ixL V w (celF f l (240 - c)) k = ixL V w (celF f l 240) 0 → wp_r d 149 (52, [.ref 354, .ref x1, .ref x2, .int x3, .int (zi (f : Int)), .int (zi (l : Int)), .long (zl (w.toInt - k)), .retAddr 0, .int (zi (c : Int))], [], σ) Q := by
  have hE := hI.1.1
  have hb2 := id hb
  have hw := zl_rng w
  have ew := zl_self w
  unfold box at hb2
  intro n
  induction n with
  | zero =>
    intro c k hc hf hk hkw hm
    refine k149_52 hE (by omega) ⟨fun _ => ?_, fun z => ?_⟩
    · rw [← hm, celF_gt _ _ rfl (by omega)] at h
      exact v_er hE (k := 4) (by decide) h
    · rw [zi_lt (by omega) (by omega) (by omega) (by omega)] at z; omega
  | succ n ih =>
    intro c k hc hf hk hkw hm
    refine k149_52 hE (by omega) ⟨fun z => ?_, fun _ => ⟨fun z => ?_, fun z => ?_⟩⟩
    · rw [zi_lt (by omega) (by omega) (by omega) (by omega)] at z; omega
    · rw [zl_lt (by omega) (by omega) (by omega) (by omega)] at z
      rw [ixL_step V w f l c k (by omega)] at hm
      refine e_within hE (by omega) (by omega) (by omega) (by omega) ⟨_, _, rfl, fun y => ⟨fun y2 => ?_, fun y2 => ?_⟩, fun y => ⟨fun y2 => ⟨hE, ?_⟩, fun y2 => ?_⟩⟩
      · rw [zl_sub, zl_eq (by omega) (by omega) (by omega) (by omega)] at y2; omega
      · rw [bz_0] at y
        rw [y] at hm
        rw [zn_a c 1 1 rfl, zl_sub, show w.toInt - (k : Int) - 0 = w.toInt - k from (by omega)]
        exact ih (c + 1) k (by omega) (by omega) (by omega) hkw hm
      · rw [bz_0, Bool.not_eq_false] at y
        rw [zl_sub, zl_eq (by omega) (by omega) (by omega) (by omega)] at y2
        rw [y, if_pos rfl, if_pos (by rw [← ew]; congr 1; omega)] at hm
        rw [← hm] at h
        exact v_ofCell hI (by omega) (by omega) h.q
      · rw [bz_0, Bool.not_eq_false] at y
        rw [zl_sub, zl_eq (by omega) (by omega) (by omega) (by omega)] at y2
        rw [y, if_pos rfl, if_neg (by rw [← ew, zl_eq (by omega) (by omega) (by omega) (by omega)]; omega)] at hm
        rw [zn_a c 1 1 rfl, zl_sub, show w.toInt - (k : Int) - 1 = w.toInt - ((k + 1 : Nat) : Int) from (by omega)]
        exact ih (c + 1) (k + 1) (by omega) (by omega) (by omega) (Or.inl (by omega)) hm
    · rw [zl_lt (by omega) (by omega) (by omega) (by omega)] at z
      have k0 : k = 0 := by omega
      have hl := celF_len f l (240 - c)
      rw [← hm, ixL_no V _ _ (fun j h1 h2 z2 => by rw [← ew, zl_eq (by omega) (by omega) (by omega) (by omega)] at z2; omega)] at h
      exact v_er hE (k := 4) (by decide) h
/-- numbers of an area are counted -/
theorem v_countI {f l : Nat} (hI : evI G S V σ) (hb : box f l) (h1 : cm_I σ 354 1 = zi (f : Int)) (h2 : cm_I σ 354 2 = zi (l : Int)) {m x1 : Nat} {x4 x5 : Int32} (hd : 2 ≤ d)
    (h : ∀ x6, wp_r d 146 (5, [.ref 354, .ref x1, .long (zl ((m + cnt (fun c => inb c f l && decide ((V c).1 = 1)) 240 : Nat) : Int)), .retAddr 0, .int (x4 + zi 1), .int x5, .int x6], [], σ) Q) :
    ∀ n c : Nat, c + n = l + 1 → f ≤ c → wp_r d 146 (47, [.ref 354, .ref x1, .long (zl ((m + cnt (fun c => inb c f l && decide ((V c).1 = 1)) c : Nat) : Int)), .retAddr 0, .int x4, .int x5, .int (zi (c : Int))], [], σ) Q := by
  have hE := hI.1.1
  have hb2 := id hb
  unfold box at hb2
  have st : ∀ c, cnt (fun c => inb c f l && decide ((V c).1 = 1)) (c + 1) = cnt (fun c => inb c f l && decide ((V c).1 = 1)) c + (if (inb c f l && decide ((V c).1 = 1)) = true then 1 else 0) := fun c => rfl
  intro n
  induction n with
  | zero =>
    intro c hc hf
    refine k146_47 hE (by omega) ⟨fun _ => ?_, fun z => ?_⟩
    · have := h (zi (c : Int))
      rw [cnt_hi (a := c) (fun i hi => ?_) 240 (by omega)] at this
      · exact this
      · cases q : inb i f l with
        | false => rfl
        | true => have := inb_le q; omega
    · rw [h2, zi_lt (by omega) (by omega) (by omega) (by omega)] at z; omega
  | succ n ih =>
    intro c hc hf
    have ih' := ih (c + 1) (by omega) (by omega)
    rw [st] at ih'
    refine k146_47 hE (by omega) ⟨fun z => ?_, fun _ => ?_⟩
    · rw [h2, zi_lt (by omega) (by omega) (by omega) (by omega)] at z; omega
    rw [h1, h2]
    refine e_within hE (by omega) (by omega) (by omega) (by omega) ⟨_, _, rfl, fun z => ?_, fun z => ⟨hE, zn_in (show c < 240 from (by omega)) (by omega), fun y => ?_, fun y => ?_⟩⟩
    · rw [bz_0] at z
      rw [z] at ih'
      rw [zn_a c 1 1 rfl, zl_add, show ((m + cnt (fun c => inb c f l && decide ((V c).1 = 1)) c : Nat) : Int) + 0 = ((m + (cnt (fun c => inb c f l && decide ((V c).1 = 1)) c + 0) : Nat) : Int) from (by omega)]
      exact ih'
    · rw [bz_0, Bool.not_eq_false] at z
      rw [zn_ix (by omega), (show cm_I σ 333 c = zi 1 ↔ (V c).1 = 1 from evl_k hI.2.2 (show c < 240 from (by omega)) (k := 1) (by omega))] at y
      rw [z, decide_eq_true y] at ih'
      rw [zn_a c 1 1 rfl, zl_add, show ((m + cnt (fun c => inb c f l && decide ((V c).1 = 1)) c : Nat) : Int) + 1 = ((m + (cnt (fun c => inb c f l && decide ((V c).1 = 1)) c + 1) : Nat) : Int) from (by omega)]
      exact ih'
    · rw [bz_0, Bool.not_eq_false] at z
      rw [zn_ix (by omega), (show cm_I σ 333 c = zi 1 ↔ (V c).1 = 1 from evl_k hI.2.2 (show c < 240 from (by omega)) (k := 1) (by omega))] at y
      rw [z, decide_eq_false y] at ih'
      rw [zn_a c 1 1 rfl, zl_add, show ((m + cnt (fun c => inb c f l && decide ((V c).1 = 1)) c : Nat) : Int) + 0 = ((m + (cnt (fun c => inb c f l && decide ((V c).1 = 1)) c + 0) : Nat) : Int) from (by omega)]
      exact ih'
/-- arguments in the heap -/
theorem nd_arg : ∀ (r : Fm), wf r → isL r → ∀ (b i j : Nat) (a : Fm), nd G σ r b i → (ags r)[j]? = some a → nd G σ a (cm_R σ b (i + j)) 0 := by
  intro r hw
  refine (fm_ind2 (P := fun _ => True) (R := fun r => ∀ (b i j : Nat) (a : Fm), nd G σ r b i → (ags r)[j]? = some a → nd G σ a (cm_R σ b (i + j)) 0) (fun _ _ => trivial) (fun _ _ => trivial) trivial (fun _ _ => trivial) (fun _ _ _ _ => trivial) (fun _ _ _ _ _ _ _ _ _ _ => trivial) (fun _ _ _ _ => trivial) (fun _ _ _ _ => trivial) (fun _ _ _ _ _ _ => trivial) ?_ ?_ r hw).2
  · intro t r _ _ _ _ _ ih b i j a h0 hj
    have hj : (t :: ags r)[j]? = some a := hj
    cases j with
    | zero => cases hj; exact h0.2.1
    | succ j =>
      have := ih b (i + 1) j a h0.2.2 hj
      rw [show i + (j + 1) = i + 1 + j from (by omega)]
      exact this
  · intro b i j a _ hj
    cases hj
theorem ls_fv {l b c : Nat} {xs : List Nat} (h : ls σ l b c xs) (f : fv σ σ2) (hl : l ≠ 354) (hb : b ≠ 354) : ls σ2 l b c xs := ls_sm h (f.2.2 l hl) (f.2.2 b hb)
/-- a call's arguments -/
def agI (G : Nat → Prop) (σ : cm_S) (as : Fm) (l b : Nat) : Prop := wf as ∧ isL as ∧ nd G σ as b 0 ∧ G l ∧ G b ∧ ∃ c xs, ls σ l b c xs ∧ xs.length = (ags as).length
theorem agI_fv {as : Fm} {l b : Nat} (h : agI G σ as l b) (hE : eB G σ) (f : fv σ σ2) : agI G σ2 as l b := by
  obtain ⟨h1, h2, h3, h4, h5, c, xs, h6, h7⟩ := h
  exact ⟨h1, h2, nd_fv h1 h3 hE f, h4, h5, c, xs, ls_fv h6 f (fun z => gk_mid hE.2.2 h4 (by rw [z]; unfold mid; omega)) (fun z => gk_mid hE.2.2 h5 (by rw [z]; unfold mid; omega)), h7⟩
theorem ag_get {as a : Fm} {l b j : Nat} (h : agI G σ as l b) (hj : (ags as)[j]? = some a) (hj8 : j < 100) (hd : 4 ≤ d) (h0 : ∀ y, nd G σ a y 0 → wf a → nn a → Q (false, .ref y, σ)) : wp_c d 463 [.ref l, .int (zi (j : Int))] σ Q := by
  obtain ⟨h1, h2, h3, h4, h5, c, xs, h6, h7⟩ := h
  have hjl := (List.getElem?_eq_some_iff.mp hj).1
  obtain ⟨y, hy⟩ : ∃ y, xs[j]? = some y := ⟨_, List.getElem?_eq_getElem (show j < xs.length from (by omega))⟩
  have := nd_arg as h1 h2 b 0 j a h3 hj
  rw [Nat.zero_add, h6.2.2.2.1 j y hy] at this
  have hm := ags_mem as h1 h2 a (List.mem_of_getElem? hj)
  exact l_get h6 hy hd (h0 y this hm.1 hm.2)
theorem ag_size {as : Fm} {l b : Nat} (h : agI G σ as l b) (hd : 1 ≤ d) (h0 : Q (false, .int (zi ((ags as).length : Int)), σ)) : wp_c d 470 [.ref l] σ Q := by
  obtain ⟨h1, h2, h3, h4, h5, c, xs, h6, h7⟩ := h
  exact l_size h6 hd (by rw [h7]; exact h0)
theorem ag_t {as : Fm} {l b : Nat} (h : agI G σ as l b) : cm_tg σ l = 25 := by obtain ⟨h1, h2, h3, h4, h5, c, xs, h6, h7⟩ := h; exact h6.1.1
theorem drop_c {α : Type} {l : List α} {j : Nat} (h : j < l.length) : ∃ a, l[j]? = some a ∧ l.drop j = a :: l.drop (j + 1) := ⟨l[j], List.getElem?_eq_getElem h, List.drop_eq_getElem_cons h⟩
theorem v_count {as : Fm} {l b : Nat} (hI : evI G S V σ) (hA : agI G σ as l b) (ha : ∀ a ∈ ags as, ar a) (h8 : (ags as).length ≤ 8) (hd : 14 ≤ d) (h : evQ σ (if (cnE S.2 V (ags as)).1 = 0 then (0, zl ((cnE S.2 V (ags as)).2 : Nat)) else ((cnE S.2 V (ags as)).1, zl 0)) Q) : wp_c d 146 [.ref 354, .ref l] σ Q := by
  have key : ∀ n j : Nat, ∀ σ1 m x5 x6, j + n = (ags as).length → fv σ σ1 → a5 σ1 = a5 σ → (if (cnE S.2 V (ags as)).1 = 0 then ((0, zl ((cnE S.2 V (ags as)).2 : Nat)) : Er) else ((cnE S.2 V (ags as)).1, zl 0)) = (if (cnE S.2 V ((ags as).drop j)).1 = 0 then (0, zl ((m + (cnE S.2 V ((ags as).drop j)).2 : Nat) : Int)) else ((cnE S.2 V ((ags as).drop j)).1, zl 0)) →
      wp_r (d - 1) 146 (5, [.ref 354, .ref l, .long (zl ((m : Nat) : Int)), .retAddr 0, .int (zi (j : Int)), x5, x6], [], σ1) Q := by
    intro n
    induction n with
    | zero =>
      intro j σ1 m x5 x6 hj f1 e1 hm
      have hI1 := evI_fv hI f1
      have hA1 := agI_fv hA hI.1 f1
      refine k146_5 hI1.1.1 (by omega) ⟨ag_t hA1, ag_size hA1 (by omega) ⟨_, _, rfl, fun z => ?_, fun _ => ⟨hI1.1.1, ?_⟩⟩⟩
      · rw [zi_lt (by omega) (by omega) (by omega) (by omega)] at z; omega
      · rw [List.drop_eq_nil_of_le (by omega)] at hm
        have hm : _ = ((0, zl ((m + 0 : Nat) : Int)) : Er) := hm
        rw [hm] at h
        exact v_give hI1.1.1 (by omega) (h.tr f1 e1).q
    | succ n ih =>
      intro j σ1 m x5 x6 hj f1 e1 hm
      have hI1 := evI_fv hI f1
      have hA1 := agI_fv hA hI.1 f1
      obtain ⟨a, ea, ed⟩ := drop_c (l := ags as) (show j < (ags as).length from (by omega))
      have haa := ha a (List.mem_of_getElem? ea)
      rw [ed] at hm
      refine k146_5 hI1.1.1 (by omega) ⟨ag_t hA1, ag_size hA1 (by omega) ⟨_, _, rfl, fun _ => ⟨ag_t hA1, ag_get hA1 ea (by omega) (by omega) fun y hy wa na => ⟨_, _, rfl, Or.inr (nd_cast wa na hy), hI1.1.1, ?_⟩⟩, fun z => ?_⟩⟩
      · refine v_open hI1 wa haa hy (by omega) fun σ2 f2 e2 _ => ?_
        have hI2 := evI_fv hI1 f2
        cases q : arV S.2 a with
        | inl k =>
          intro k1 k8
          rw [cnE_l V _ q, if_neg (show ¬ k = 0 from (by omega))] at hm
          rw [hm] at h
          refine ⟨_, _, rfl, fun _ => v_er hI2.1.1 ⟨k1, k8⟩ ((h.tr f1 e1).tr f2 e2), fun z => ?_⟩
          rw [zi_lt (by omega) (by omega) (by omega) (by omega)] at z; omega
        | inr fl =>
          obtain ⟨f, r⟩ := fl
          intro hb i1 i2
          refine ⟨_, _, rfl, fun z => absurd z (by decide), fun _ => ⟨hI2.1.1, ?_⟩⟩
          rw [i1]
          have hb2 := id hb
          unfold box at hb2
          rw [cnE_r V _ q] at hm
          have c0 : cnt (fun c => inb c f r && decide ((V c).1 = 1)) f = 0 := cnt_lo f fun i hi => by
            cases q : inb i f r with
            | false => rfl
            | true => have := inb_le q; omega
          have := v_countI (m := m) (x1 := l) (x4 := zi (j : Int)) (x5 := zi 0) hI2 hb i1 i2 (d := d - 1) (Q := Q) (by omega) (fun x6 => ?_) (r + 1 - f) f (by omega) (Nat.le_refl _)
          · rw [c0] at this; exact this
          · rw [zn_a j 1 1 rfl]
            refine ih (j + 1) σ2 _ _ _ (by omega) (fv_tr f1 f2) (e2.trans e1) (hm.trans ?_)
            rw [Nat.add_assoc]
      · rw [zi_lt (by omega) (by omega) (by omega) (by omega)] at z; omega
  refine k146 hI.1.1 (by omega) (key (ags as).length 0 σ 0 _ _ (by omega) (fv_0 (en_t354 hI.1.1)) rfl ?_)
  rw [List.drop_zero, Nat.zero_add]
end
