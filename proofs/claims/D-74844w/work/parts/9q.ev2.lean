/-! ENGINE: the evaluator's cells, areas -/
theorem pL_at (σ : cm_S) (a i : Nat) (v : Int64) : cm_L (cm_pL σ a i v) a i = v := u2_same (cm_L σ) a i v
theorem pI_at (σ : cm_S) (a i : Nat) (v : Int32) : cm_I (cm_pI σ a i v) a i = v := u2_same (cm_I σ) a i v
theorem pR_at (σ : cm_S) (a i : Nat) (v : Nat) : cm_R (cm_pR σ a i v) a i = v := u2_same (cm_R σ) a i v
theorem pL_ne (σ : cm_S) {a b : Nat} (i j : Nat) (v : Int64) (h : b ≠ a) : cm_L (cm_pL σ a i v) b j = cm_L σ b j := u2_ne (cm_L σ) a i v h j
theorem pI_ne (σ : cm_S) {a b : Nat} (i j : Nat) (v : Int32) (h : b ≠ a) : cm_I (cm_pI σ a i v) b j = cm_I σ b j := u2_ne (cm_I σ) a i v h j
theorem pR_ne (σ : cm_S) {a b : Nat} (i j : Nat) (v : Nat) (h : b ≠ a) : cm_R (cm_pR σ a i v) b j = cm_R σ b j := u2_ne (cm_R σ) a i v h j
theorem pL_nj (σ : cm_S) (a b : Nat) {i j : Nat} (v : Int64) (h : j ≠ i) : cm_L (cm_pL σ a i v) b j = cm_L σ b j := u2_nj (cm_L σ) a i v b h
theorem pI_nj (σ : cm_S) (a b : Nat) {i j : Nat} (v : Int32) (h : j ≠ i) : cm_I (cm_pI σ a i v) b j = cm_I σ b j := u2_nj (cm_I σ) a i v b h
theorem pR_nj (σ : cm_S) (a b : Nat) {i j : Nat} (v : Nat) (h : j ≠ i) : cm_R (cm_pR σ a i v) b j = cm_R σ b j := u2_nj (cm_R σ) a i v b h
theorem pI_L (σ : cm_S) (a i : Nat) (v : Int32) : cm_L (cm_pI σ a i v) = cm_L σ := rfl
theorem pI_R (σ : cm_S) (a i : Nat) (v : Int32) : cm_R (cm_pI σ a i v) = cm_R σ := rfl
theorem pL_I (σ : cm_S) (a i : Nat) (v : Int64) : cm_I (cm_pL σ a i v) = cm_I σ := rfl
theorem pL_R (σ : cm_S) (a i : Nat) (v : Int64) : cm_R (cm_pL σ a i v) = cm_R σ := rfl
theorem pR_I (σ : cm_S) (a i : Nat) (v : Nat) : cm_I (cm_pR σ a i v) = cm_I σ := rfl
theorem pR_L (σ : cm_S) (a i : Nat) (v : Nat) : cm_L (cm_pR σ a i v) = cm_L σ := rfl
theorem a5_pI {σ : cm_S} {i : Nat} (v : Int32) (h6 : 6 ≠ i) (h7 : 7 ≠ i) : a5 (cm_pI σ 354 i v) = a5 σ := by
  unfold a5
  rw [pI_nj _ _ _ _ h6, pI_nj _ _ _ _ h7, pI_L]
/-- errors as objects -/
def evA (σ : cm_S) (x : Er) (Q : cm_O → Prop) : Prop := ∀ σ2, fv σ σ2 → a5 σ2 = a5 σ → rs σ2 x → Q (false, .ref (193 + x.1), σ2)
/-- an area is open -/
def arO (σ : cm_S) (x : Nat ⊕ (Nat × Nat)) (Q : cm_O → Prop) : Prop := ∀ σ2, fv σ σ2 → a5 σ2 = a5 σ → cm_L σ2 354 0 = cm_L σ 354 0 → match x with
  | .inl e => 1 ≤ e → e ≤ 8 → Q (false, .int (zi (e : Int)), σ2)
  | .inr (f, l) => box f l → cm_I σ2 354 1 = zi (f : Int) → cm_I σ2 354 2 = zi (l : Int) → Q (false, .int (zi 0), σ2)
section
variable {G : Nat → Prop} {σ σ1 σ2 : cm_S} {x : Nat} {e : Er} {Q : cm_O → Prop} {d : Nat} {S : Sh} {V : Nat → Vl}
theorem evA.tr (h : evA σ e Q) (f : fv σ σ1) (q : a5 σ1 = a5 σ) : evA σ1 e Q := fun σ2 f2 q2 r => h σ2 (fv_tr f f2) (q2.trans q) r
theorem evA.q (h : evA σ e Q) : evA σ e (qr fun r σ2 => Q (false, .ref r, σ2)) := fun σ2 f q r => ⟨_, _, rfl, h σ2 f q r⟩
theorem evA.i (hE : eB G σ) (hd : 2 ≤ d) (h : evA σ e Q) : evQ σ e (qi fun r1 σ1 => wp_c d 598 [.int r1] σ1 (qr fun r2 σ2 => Q (false, .ref r2, σ2))) := fun σ2 f q r => ⟨_, _, rfl, j_io (eB_fv hE f).2.1 (by have := r.1.1; omega) hd ⟨_, _, rfl, h σ2 f q r⟩⟩
theorem v_box (hE : eB G σ) {k : Nat} (hk : 1 ≤ k ∧ k ≤ 8) (hd : 2 ≤ d) (h : evA σ (k, zl 0) Q) : wp_c d 598 [.int (zi (k : Int))] σ (qr fun r2 σ2 => Q (false, .ref r2, σ2)) :=
  j_io hE.2.1 (by omega) hd ⟨_, _, rfl, h σ (fv_0 (en_t354 hE.1)) rfl ⟨erk_e hk.2, fun z => absurd z (by have := hk.1; show ¬ k = 0; omega)⟩⟩
theorem v_unbox {K : Int32 → cm_S → Prop} (hc : cst σ) {k : Nat} (hk : k ≤ 8) (hd : 1 ≤ d) (h : K (zi (k : Int)) σ) : (193 + k = 0 ∨ cp_cast 2 (cm_tg σ (193 + k)) = some true) ∧ cm_tg σ (193 + k) = 30 ∧ wp_c d 595 [.ref (193 + k)] σ (qi K) := by
  obtain ⟨e1, e2, e3⟩ := hc.2.2.2.2.2.1.2.2 (128 + k) (by omega)
  rw [show 65 + (128 + k) = 193 + k from (by omega)] at e2
  exact ⟨Or.inr (by rw [e2]; rfl), e2, j_iv hc (by omega) hd ⟨_, _, rfl, h⟩⟩
theorem evl_k {a b c : Nat} (h : evl σ a b V) (hc : c < 240) {k : Nat} (hk : k ≤ 2) : cm_I σ a c = zi (k : Int) ↔ (V c).1 = k := by
  obtain ⟨h1, h2, h3⟩ := h c hc
  have h4 : (V c).1 ≤ 2 := by rcases h3 with q | q | q <;> omega
  rw [h1, zn_eq (by omega) (by omega)]
theorem v_ofCellI {c : Nat} (hI : evI G S V σ) (hc : c < 240) (hd : 1 ≤ d) (h : ∀ σ2, fv σ σ2 → a5 σ2 = a5 σ → cm_I σ2 = cm_I σ → rs σ2 (tkV V c) → Q (false, .int (zi ((tkV V c).1 : Int)), σ2)) : wp_c d 161 [.ref 354, .int (zi (c : Int))] σ Q := by
  have hE := hI.1.1
  obtain ⟨h1, h2, h3⟩ := hI.2.2 c hc
  have k1 : cm_I σ 333 c = zi 1 ↔ (V c).1 = 1 := evl_k hI.2.2 hc (k := 1) (by omega)
  have k2 : cm_I σ 333 c = zi 2 ↔ (V c).1 = 2 := evl_k hI.2.2 hc (k := 2) (by omega)
  have sv : ∀ v, a5 (cm_pL σ 354 0 v) = a5 σ := fun v => by
    show (cm_u2 (cm_L σ) 354 0 v 354 3, cm_u2 (cm_L σ) 354 0 v 354 4, cm_u2 (cm_L σ) 354 0 v 354 5, cm_I σ 354 6, cm_I σ 354 7) = _
    rw [u2_nj _ _ _ _ _ (by decide), u2_nj _ _ _ _ _ (by decide), u2_nj _ _ _ _ _ (by decide)]
    rfl
  have eL : ∀ v, cm_L (cm_pL σ 354 0 v) 337 c = cm_L σ 337 c := fun v => pL_ne σ 0 c v (by decide)
  unfold tkV at h
  refine k161 hE hd ⟨zn_in hc (by omega), fun z => ?_, fun z => ?_⟩
  · rw [zn_ix (by omega)] at z ⊢
    rw [k1] at z
    rintro _ rfl
    rw [if_neg (by omega)] at h
    refine ⟨fun y => ?_, fun _ => ?_⟩
    · have y : cm_I σ 333 c = zi 2 := y
      rw [k2] at y; omega
    · rw [h2]
      exact h _ (fv_pL hE 0 _) (sv _) rfl ⟨erk_n _, fun _ => u2_same (cm_L σ) 354 0 _⟩
  · rw [zn_ix (by omega)] at z ⊢
    rw [k1] at z
    rintro _ rfl
    refine ⟨fun y => ?_, fun y => ?_⟩
    · have y : cm_I σ 333 c = zi 2 := y
      rw [k2] at y
      rw [if_pos y] at h
      rcases h3 with q | q | ⟨_, k, q1, q2, q3⟩
      · omega
      · omega
      · rw [eL, h2, q1, zl_i]
        rw [q1, zl_toInt (by omega) (by omega)] at h
        exact h _ (fv_pL hE 0 _) (sv _) rfl ⟨erk_e q3, fun w => absurd w (by show ¬ k = 0; omega)⟩
    · have y : ¬ cm_I σ 333 c = zi 2 := y
      rw [k2] at y
      rw [if_neg y] at h
      rcases h3 with q | q | q
      · rw [q.2] at h
        exact h _ (fv_pL hE 0 _) (sv _) rfl ⟨erk_n _, fun _ => u2_same (cm_L σ) 354 0 _⟩
      · omega
      · omega
theorem v_ofCell {c : Nat} (hI : evI G S V σ) (hc : c < 240) (hd : 1 ≤ d) (h : evQ σ (tkV V c) Q) : wp_c d 161 [.ref 354, .int (zi (c : Int))] σ Q := v_ofCellI hI hc hd fun σ2 f q _ r => h σ2 f q r
/-- an area's corners are set -/
theorem v_set {f l : Nat} (hE : en_ok σ) (hb : box f l) (hd : 1 ≤ d) (h : arO σ (.inr (f, l)) Q) : wp_c d 163 [.ref 354, .int (zi (f : Int)), .int (zi (l : Int))] σ Q := by
  refine k163 hE hd ?_
  rintro _ rfl
  rintro _ rfl
  refine h _ (fv_tr (fv_pI hE 1 _) (fv_pI (σ := cm_pI σ 354 1 _) (en_like hE (Nat.le_refl _) (fun _ _ => rfl) (fun _ _ => rfl) (fun _ _ => rfl)) 2 _)) ?_ rfl hb ?_ (pI_at _ _ _ _)
  · rw [a5_pI _ (by decide) (by decide), a5_pI _ (by decide) (by decide)]
  · rw [pI_nj _ _ _ _ (by decide), pI_at]
theorem ar_cases {t : Fm} (hw : wf t) (ha : ar t) : (∃ v, v < 960 ∧ t = .index v) ∨ t = .null ∨ (∃ c, okN c ∧ t = .length (.arg c)) ∨ (∃ u v, u < 960 ∧ v < 960 ∧ t = .elem (.index u) (.index v)) := by
  refine (fm_ind2 (P := fun t => ar t → (∃ v, v < 960 ∧ t = .index v) ∨ t = .null ∨ (∃ c, okN c ∧ t = .length (.arg c)) ∨ (∃ u v, u < 960 ∧ v < 960 ∧ t = .elem (.index u) (.index v))) (R := fun _ => True) ?_ ?_ ?_ ?_ ?_ ?_ ?_ ?_ ?_ (fun _ _ _ _ _ _ _ _ => trivial) trivial t hw).1 (Or.inl ha) ha
  · exact fun _ _ z => z.elim
  · exact fun v hv _ => Or.inl ⟨v, hv, rfl⟩
  · exact fun _ => Or.inr (Or.inl rfl)
  · exact fun c hc _ => Or.inr (Or.inr (Or.inl ⟨c, hc, rfl⟩))
  · exact fun u v hu hv _ => Or.inr (Or.inr (Or.inr ⟨u, v, hu, hv, rfl⟩))
  · exact fun _ _ _ _ _ _ _ _ _ _ z => z.elim
  · exact fun _ _ _ _ z => z.elim
  · exact fun _ _ _ _ z => z.elim
  · exact fun _ _ _ _ _ _ z => z.elim
theorem v_open {t : Fm} (hI : evI G S V σ) (hw : wf t) (ha : ar t) (h0 : nd G σ t x 0) (hd : 12 ≤ d) (h : arO σ (arV S.2 t) Q) : wp_c d 162 [.ref 354, .ref x] σ Q := by
  have hE := hI.1.1
  have hx : ¬ x = 0 := by have := (hI.1.2.2.1 _ (nd_G t hw _ _ h0)).2.2; omega
  have q : ∀ {y}, arO σ y Q → arO σ y (qi fun r σ2 => Q (false, .int r, σ2)) := fun {y} h σ2 f e g => by
    have := h σ2 f e g
    cases y with
    | inl k => exact fun a b => ⟨_, _, rfl, this a b⟩
    | inr fl => exact fun a b c => ⟨_, _, rfl, this a b c⟩
  have er : ∀ {k : Nat}, 1 ≤ k → k ≤ 8 → arO σ (.inl k) Q → Q (false, .int (zi (k : Int)), σ) := fun a b h => h σ (fv_0 (en_t354 hE)) rfl rfl a b
  rcases ar_cases hw ha with ⟨v, hv, rfl⟩ | rfl | ⟨c, hc, rfl⟩ | ⟨u, v, hu, hv, rfl⟩
  · have ht := h0.1.1
    refine k162 hE (by omega) ⟨fun z => absurd z hx, fun _ => ⟨false, by rw [ht]; rfl, fun z => absurd z (by decide), fun _ => ⟨fun z => absurd z hx, fun _ => ⟨false, by rw [ht]; rfl, fun z => absurd z (by decide), fun _ => ⟨fun z => absurd z hx, fun _ => ⟨true, by rw [ht]; rfl, fun _ => ⟨Or.inr (by rw [ht]; rfl), ht, e_cell h0 (by omega) ⟨_, _, rfl, Or.inr (by rw [ht]; rfl), ht, e_cell h0 (by omega) ⟨_, _, rfl, hE, ?_⟩⟩⟩, fun z => absurd rfl z⟩⟩⟩⟩⟩⟩
    exact v_set hE (show box (v % 240) (v % 240) from by unfold box; omega) (by omega) (q h)
  · have ht := h0.1
    exact k162 hE (by omega) ⟨fun z => absurd z hx, fun _ => ⟨true, by rw [ht]; rfl, fun _ => er (k := 4) (by omega) (by omega) h, fun z => absurd rfl z⟩⟩
  · have ht := h0.1.1
    have hS := hI.2.1
    have t5 := hS.1.1
    have e5 := hS.1.2.2.2.2.1
    have t6 := hS.1.2.2.2.2.2.1
    have hN := hS.shk.2
    have hs0 : cm_R σ x 0 ≠ 0 := by have := h0.2.2; omega
    rw [arV_nm] at h
    refine k162 hE (by omega) ⟨fun z => absurd z hx, fun _ => ⟨false, by rw [ht]; rfl, fun z => absurd z (by decide), fun _ => ⟨fun z => absurd z hx, fun _ => ⟨false, by rw [ht]; rfl, fun z => absurd z (by decide), fun _ => ⟨fun z => absurd z hx, fun _ => ⟨false, by rw [ht]; rfl, fun z => absurd z (by decide), fun _ => ⟨t5, Or.inr (by rw [ht]; rfl), ht, by rw [e5]; exact t6, ?_⟩⟩⟩⟩⟩⟩⟩
    rw [e5]
    refine r_find hS h0.2.1.1 hs0 (by omega) ⟨_, _, rfl, fun z => ?_, fun z => ⟨hE, t5, by rw [e5]; exact t6, ?_⟩⟩
    · rw [nmTx_at hN hc] at z
      cases hn : nmAt S.2 c with
      | none =>
        rw [nmR_no hn] at h
        exact er (k := 3) (by omega) (by omega) h
      | some k =>
        rw [hn] at z
        have := nmAt_some hn
        have h10 : S.2.length ≤ 10 := by obtain ⟨_, _, _, _, _, _, g5, _⟩ := hS.2.2; exact g5
        have z : zi (k : Int) < zi 0 := z
        rw [zi_lt (by omega) (by omega) (by omega) (by omega)] at z; omega
    · rw [nmTx_at hN hc] at z ⊢
      rw [e5]
      cases hn : nmAt S.2 c with
      | none => rw [hn] at z; exact absurd (by decide) z
      | some k =>
        have hk := nmAt_some hn
        have hq : S.2[k]? = some S.2[k] := List.getElem?_eq_getElem hk
        obtain ⟨w, eq⟩ : ∃ w, w = S.2[k] := ⟨_, rfl⟩
        rw [← eq] at hq
        rw [nmR_eq hn hq] at h
        show wp_c _ 113 [_, .int (zi (k : Int))] σ _
        refine r_get hS hq (by omega) fun y hy => ⟨_, _, rfl, Or.inr (by rw [hy.2.1.1]; rfl), hy.2.1.1, k447 (by omega) ⟨hy.2.1.1, fun z => ?_, fun z => ?_⟩⟩
        · refine ⟨_, _, rfl, fun z2 => absurd z2 (by decide), fun _ => ?_⟩
          obtain ⟨c9, o⟩ := w
          cases o with
          | none => exact er (k := 4) (by omega) (by omega) h
          | some ab =>
            obtain ⟨a1, b1⟩ := ab
            have hbx : box a1 b1 := hy.1.2
            rw [hy.2.2.2.2.1] at z
            unfold box at hbx
            rw [zi_lt (by omega) (by omega) (by omega) (by omega)] at z; omega
        · refine ⟨_, _, rfl, fun _ => ⟨hy.2.1.1, hE, ?_⟩, fun z2 => absurd rfl z2⟩
          obtain ⟨c9, o⟩ := w
          cases o with
          | none => rw [hy.2.2.2.2.1] at z; exact absurd (by decide) z
          | some ab =>
            obtain ⟨a1, b1⟩ := ab
            have hbx : box a1 b1 := hy.1.2
            rw [hy.2.2.2.2.1, hy.2.2.2.2.2]
            exact v_set hE hbx (by omega) (q h)
  · have ht := h0.1.1
    refine k162 hE (by omega) ⟨fun z => absurd z hx, fun _ => ⟨false, by rw [ht]; rfl, fun z => absurd z (by decide), fun _ => ⟨fun z => absurd z hx, fun _ => ⟨true, by rw [ht]; rfl, fun _ => ⟨Or.inr (by rw [ht]; rfl), e_first hE h0.1.1 h0.2.1 h0.2.2 (by omega) ⟨_, _, rfl, Or.inr (by rw [ht]; rfl), e_last hE h0.1.1 h0.2.1 h0.2.2 (by omega) ⟨_, _, rfl, hE, ?_⟩⟩⟩, fun z => absurd rfl z⟩⟩⟩⟩
    exact v_set hE (rgF_box u v) (by omega) (q h)
theorem arV_ok {t : Fm} {N : List Nm} (hN : nmo N) (hw : wf t) {f l : Nat} (h : arV N t = .inr (f, l)) : box f l := by
  by_cases ha : ar t
  · rcases ar_cases hw ha with ⟨v, hv, rfl⟩ | rfl | ⟨c, hc, rfl⟩ | ⟨u, v, hu, hv, rfl⟩
    · cases h; unfold box; omega
    · cases h
    · rw [arV_nm] at h
      cases e : nmR N c with
      | none => rw [e] at h; cases h
      | some o =>
        rw [e] at h
        cases o with
        | none => cases h
        | some ab =>
          cases h
          exact (nmR_ok hN e).1
    · have := rgF_box u v
      unfold rgF rgL at this
      cases h
      exact this
  · unfold arV at h
    split at h <;> first | (exact absurd trivial ha) | cases h
end
