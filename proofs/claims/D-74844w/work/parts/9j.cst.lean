/-! THE CONSTANTS (addresses below 322) -/
def k_strs : List (Nat × List Nat) := [(10, [35, 82, 69, 70]), (11, [42]), (12, [47]), (13, [37]), (14, [43]), (15, [45]), (16, [61]), (17, []), (18, [60]), (19, [62]), (20, [36]), (21, [60, 62]), (22, [60, 61]), (23, [83, 85, 77]), (24, [77, 73, 78]), (25, [77, 65, 88]), (26, [65, 86, 71]), (27, [67, 79, 85, 78, 84]), (28, [73, 70]), (29, [65, 66, 83]), (30, [77, 65, 84, 67, 72]), (31, [73, 78, 68, 69, 88])]
def k_ops : List (Nat × List Nat) := [(11, [42]), (12, [47]), (13, [37]), (14, [43]), (15, [45]), (16, [61]), (18, [60]), (19, [62])]
def cst (σ : cm_S) : Prop := (∀ q ∈ k_strs, isStr σ q.1 q.2 ∧ 0 < cm_R σ q.1 0 ∧ cm_R σ q.1 0 < 322) ∧ (∀ q ∈ k_ops, cm_I σ q.1 2 = hsh q.2 ∧ cm_I σ q.1 3 = zi 0) ∧ (∀ f, f < 9 → cm_tg σ (f + 1) = 60 ∧ cm_R σ (f + 1) 0 = 23 + f ∧ cm_I σ (f + 1) 1 = zi f) ∧
  (cm_tg σ 60 = 108 ∧ cm_ln σ 60 = 9 ∧ ∀ f, f < 9 → cm_R σ 60 f = f + 1) ∧ (cm_tg σ 56 = 61 ∧ cm_I σ 56 0 = zi 1 ∧ cm_tg σ 57 = 61 ∧ cm_I σ 57 0 = zi 0) ∧
  (104 < cm_tg σ 61 ∧ cm_ln σ 61 = 256 ∧ ∀ k : Nat, k < 256 → cm_R σ 61 k = 65 + k ∧ cm_tg σ (65 + k) = 30 ∧ cm_I σ (65 + k) 0 = zi ((k : Int) - 128)) ∧
  (cm_tg σ 62 = 103 ∧ cm_ln σ 62 = 100 ∧ cm_tg σ 63 = 103 ∧ cm_ln σ 63 = 100 ∧ ∀ k : Nat, k < 100 → cm_I σ 62 k = sb (48 + k % 10) ∧ cm_I σ 63 k = sb (48 + k / 10))
theorem k_strs_lt : ∀ q ∈ k_strs, 0 < q.1 ∧ q.1 < 322 := by
  intro q hq
  have : (k_strs.all fun q => Nat.blt 0 q.1 && Nat.blt q.1 322) = true := by decide
  have := List.all_eq_true.mp this q hq
  rw [Bool.and_eq_true, Nat.blt_eq, Nat.blt_eq] at this
  exact this
theorem k_ops_lt : ∀ q ∈ k_ops, 0 < q.1 ∧ q.1 < 34 ∧ q ∈ k_strs := by
  intro q hq
  have : (k_ops.all fun q => (Nat.blt 0 q.1 && Nat.blt q.1 34) && decide (q ∈ k_strs)) = true := by decide
  have := List.all_eq_true.mp this q hq
  rw [Bool.and_eq_true, Bool.and_eq_true, Nat.blt_eq, Nat.blt_eq, decide_eq_true_eq] at this
  exact ⟨this.1.1, this.1.2, this.2⟩
section
variable {G : Nat → Prop} {σ σ2 : cm_S} {X Y : Nat → Prop} {n : Nat}
theorem cst_like (h : cst σ) (ht : ∀ a, a < 322 → cm_tg σ2 a = cm_tg σ a) (hl : ∀ a, a < 322 → cm_ln σ2 a = cm_ln σ a) (hr : ∀ a, a < 322 → cm_R σ2 a = cm_R σ a) (hi : ∀ a, a < 322 → cm_I σ2 a = cm_I σ a) : cst σ2 := by
  obtain ⟨h1, h2, h3, ⟨h4, h5, h6⟩, ⟨h7, h8, h9, h10⟩, ⟨h11, h12, h13⟩, ⟨h14, h15, h16, h17, h18⟩⟩ := h
  refine ⟨fun q hq => ?_, fun q hq => ?_, fun f hf => ?_, ⟨by rw [ht _ (by omega)]; exact h4, by rw [hl _ (by omega)]; exact h5, fun f hf => by rw [hr _ (by omega)]; exact h6 f hf⟩, ⟨by rw [ht _ (by omega)]; exact h7, by rw [hi _ (by omega)]; exact h8, by rw [ht _ (by omega)]; exact h9, by rw [hi _ (by omega)]; exact h10⟩, ⟨by rw [ht _ (by omega)]; exact h11, by rw [hl _ (by omega)]; exact h12, fun k hk => ?_⟩, ⟨by rw [ht _ (by omega)]; exact h14, by rw [hl _ (by omega)]; exact h15, by rw [ht _ (by omega)]; exact h16, by rw [hl _ (by omega)]; exact h17, fun k hk => ?_⟩⟩
  · obtain ⟨g1, g2, g3⟩ := h1 q hq
    have hq2 := (k_strs_lt q hq).2
    have e : ∀ a, a < 322 → sm σ σ2 a ∨ True := fun _ _ => Or.inr trivial
    obtain ⟨s1, s2, s3, s4, s5, s6⟩ := g1
    rw [hr _ hq2]
    refine ⟨⟨by rw [ht _ hq2]; exact s1, by rw [hi _ hq2]; exact s2, by rw [hr _ hq2, ht _ g3]; exact s3, by rw [hr _ hq2, hl _ g3]; exact s4, s5, fun i x hx => ?_⟩, g2, g3⟩
    rw [hr _ hq2, hi _ g3]; exact s6 i x hx
  · rw [hi _ (Nat.lt_trans (k_ops_lt q hq).2.1 (by decide))]; exact h2 q hq
  · rw [ht _ (by omega), hr _ (by omega), hi _ (by omega)]; exact h3 f hf
  · rw [hr _ (by omega), ht _ (by omega), hi _ (by omega)]; exact h13 k hk
  · rw [hi _ (by omega), hi _ (by omega)]; exact h18 k hk
theorem cst_fr (h : cst σ) (hn : 322 ≤ cm_nx σ) (hf : fr X Y n σ σ2) (hx : ∀ a, X a → 322 ≤ a) (hy : ∀ a, Y a → 322 ≤ a) : cst σ2 :=
  cst_like h (fun a ha => hf.tg (by omega)) (fun a ha => hf.ln (by omega)) (fun a ha => hf.R (by omega) (fun z => by have := hy a z; omega)) (fun a ha => hf.I (by omega) (fun z => by have := hx a z; omega))
theorem cst_str (h : cst σ) {x : Nat} {s : List Nat} (hq : (x, s) ∈ k_strs) (hg : gk G σ) : sIn G σ x s := by
  obtain ⟨g1, g2, g3⟩ := h.1 _ hq
  have := k_strs_lt _ hq
  exact ⟨g1, hg.2 _ this.1 this.2, hg.2 _ g2 g3⟩
theorem cst_op (h : cst σ) {x : Nat} {s : List Nat} (hq : (x, s) ∈ k_ops) (hg : gk G σ) : opS G σ x s := by
  obtain ⟨g1, g2⟩ := h.2.1 _ hq
  exact ⟨cst_str h (k_ops_lt _ hq).2.2 hg, Or.inl g1, g2, Or.inl (k_ops_lt _ hq).2.1⟩
/-- what holds at every step: fixed objects, constants, frozen objects -/
def eB (G : Nat → Prop) (σ : cm_S) : Prop := en_ok σ ∧ cst σ ∧ gk G σ
theorem eB_fr (h : eB G σ) (hf : fr X Y n σ σ2) (hx : ∀ a, X a → 322 ≤ a) (hy : ∀ a, Y a → 322 ≤ a ∧ ¬ en_ra a) : eB G σ2 :=
  ⟨en_fr h.1 hf (fun a ha => (hy a ha).2), cst_fr h.2.1 (Nat.le_trans (by decide) h.1.1) hf hx (fun a ha => (hy a ha).1), gk_nx h.2.2 hf.1⟩
theorem eB_fr0 (h : eB G σ) (hf : fr X no_ n σ σ2) (hx : ∀ a, X a → 322 ≤ a) : eB G σ2 := eB_fr h hf hx (fun _ z => z.elim)
theorem eB_no (h : eB G σ) (hf : fr no_ no_ n σ σ2) : eB G σ2 := eB_fr0 h hf (fun _ z => z.elim)
theorem eB.gx (h : eB G σ) (h2 : eB G σ2) (hn : cm_nx σ ≤ cm_nx σ2) : eB (gx G σ σ2) σ2 := ⟨h2.1, h2.2.1, gk_gx h.2.2 h.1.1 hn⟩
theorem nd_no {a i : Nat} {t : Fm} (hw : wf t) (h0 : nd G σ t a i) (hg : gk G σ) (hf : fr no_ no_ n σ σ2) : nd G σ2 t a i := nd_fr hw h0 hg hf (fun _ _ => ⟨fun z => z, fun z => z⟩)
/-- truth as an object -/
def bo (b : Bool) : Nat := if b then 56 else 57
theorem bo_tg (h : cst σ) (b : Bool) : cm_tg σ (bo b) = 61 ∧ cm_I σ (bo b) 0 = bz b := by
  obtain ⟨h7, h8, h9, h10⟩ := h.2.2.2.2.1
  cases b
  · exact ⟨h9, h10⟩
  · exact ⟨h7, h8⟩
theorem j_bv {d : Nat} {Q : cm_O → Prop} (h : cst σ) (b : Bool) (hd : 1 ≤ d) (hq : Q (false, .int (bz b), σ)) : wp_c d 599 [.ref (bo b)] σ Q := by
  obtain ⟨e1, e2⟩ := bo_tg h b
  exact k599 hd ⟨e1, by rw [e2]; exact bz_fit b, by rw [e2]; exact hq⟩
theorem j_bo {d : Nat} {Q : cm_O → Prop} (b : Bool) (hd : 1 ≤ d) (hq : Q (false, .ref (bo b), σ)) : wp_c d 600 [.int (bz b)] σ Q := by
  refine k600 hd ⟨fun z => ?_, fun z => ?_⟩
  · rw [bz_0] at z; subst z; exact hq
  · rw [bz_0, Bool.not_eq_false] at z; subst z; exact hq
/-- small numbers as objects -/
theorem j_iv {d : Nat} {Q : cm_O → Prop} {k : Nat} (h : cst σ) (hk : k < 128) (hd : 1 ≤ d) (hq : Q (false, .int (zi k), σ)) : wp_c d 595 [.ref (193 + k)] σ Q := by
  obtain ⟨e1, e2, e3⟩ := h.2.2.2.2.2.1.2.2 (128 + k) (by omega)
  rw [show 65 + (128 + k) = 193 + k from (by omega)] at e2 e3
  rw [show ((128 + k : Nat) : Int) - 128 = (k : Int) from (by omega)] at e3
  exact k595 hd ⟨e2, by rw [e3]; exact hq⟩
theorem j_io {d : Nat} {Q : cm_O → Prop} {k : Nat} (h : cst σ) (hk : k < 128) (hd : 2 ≤ d) (hq : Q (false, .ref (193 + k), σ)) : wp_c d 598 [.int (zi k)] σ Q := by
  obtain ⟨e1, e2, e3⟩ := h.2.2.2.2.2.1.2.2 (128 + k) (by omega)
  refine k598 hd ⟨fun z => ?_, fun _ => ⟨fun z => ?_, fun _ => ⟨h.2.2.2.2.2.1.1, ?_, ?_⟩⟩⟩
  · rw [zi_lt (by omega) (by omega) (by omega) (by omega)] at z; omega
  · rw [zi_lt (by omega) (by omega) (by omega) (by omega)] at z; omega
  · rw [h.2.2.2.2.2.1.2.1, zi_add, show (k : Int) + 128 = ((128 + k : Nat) : Int) from (by omega)]; exact zn_in (by omega) (by omega)
  · rw [zi_add, show (k : Int) + 128 = ((128 + k : Nat) : Int) from (by omega), zn_ix (by omega), e1, show 65 + (128 + k) = 193 + k from (by omega)]; exact hq
/-- a formula's turn with a visitor v -/
def acc (d v a : Nat) (σ : cm_S) (Q : cm_O → Prop) : Prop := ∃ mm, cp_disp 8 (cm_tg σ a) = some mm ∧ cm_rk cp mm = 3 ∧ wp_c d mm [.ref a, .ref v] σ Q
theorem acc_q {d v a : Nat} {Q Q2 : cm_O → Prop} (h : acc d v a σ Q) (k : ∀ o, Q o → Q2 o) : acc d v a σ Q2 := by
  obtain ⟨m, h1, h2, h3⟩ := h
  exact ⟨m, h1, h2, h3.mono k⟩
end
