/-! THE TWIN: undo -/
section
variable {τ : tw_K} {I : tw_I} {L : tw_L} {d : Nat} {B : List Nat} {S : Sh} {H : List Sh} {V O : Nat → Vl} {M W : Nat → Bool} {au : Bool} {ev : Nat}
theorem t_undo (hτ : tw_ok τ) (h0 : tst τ I L B S H V O M W au ev) {Q : Int32 → tw_I → tw_L → Prop} (hd : 5 ≤ d)
    (h1 : H = [] → Q (zi (-2)) I L)
    (h2 : ∀ S1 H1, H = S1 :: H1 → ∀ I2 L2, tst τ I2 L2 B S1 H1 (fil (fun c => bgV (S1.1 c)) (fun _ => true) 240 V) O (fil (fun c => decide (cty (S1.1 c) = 2)) (fun _ => true) 240 M) W au ev →
      wp_c (d - 1) 188 [.ref 1315] (tw τ I2 L2) (tv τ fun I3 L3 => Q (I3 1315 8) I3 L3)) : wp_c d 332 [.ref 1315] (tw τ I L) (ti τ Q) := by
  obtain ⟨g1, g2, g3, g4, g5, g6, g7, g8, g9, g10, g11⟩ := h0
  have hl := g4.2.1
  refine k332 hτ (by omega) ?_
  rw [g4.1, zi_eq (by omega) (by omega) (by omega) (by omega)]
  match H, g4, h1, h2, hl with
  | [], g4, h1, h2, hl => exact ⟨fun _ => h1 rfl, fun z => absurd rfl z⟩
  | S1 :: H1, g4, h1, h2, hl =>
    rw [List.length_cons] at hl
    have s1 := g4.2.2 0 S1 rfl
    rw [Nat.sub_zero] at s1
    refine ⟨fun z => absurd z (by rw [List.length_cons]; omega), fun _ => ?_⟩
    refine t_copiesState (k := 0) hτ (by rw [List.length_cons]; omega) (by omega) (by rw [List.length_cons]; omega) s1 (by omega) fun I2 L2 f2 t2 => ?_
    rintro I3 rfl
    have e8 : I2 1315 8 = zi ((S1 :: H1).length : Nat) := by rw [(f2 1315 8 (by unfold KW; omega)).1]; exact g4.1
    rw [e8, List.length_cons, zi_sub, show ((H1.length + 1 : Nat) : Int) - 1 = (H1.length : Nat) by omega]
    have f3 : twf (fun a i => a = 1315 ∧ i = 8) I2 L2 (cm_u2 I2 1315 8 (zi (H1.length : Nat))) L2 := twf.rf.pI ⟨rfl, rfl⟩ _
    have fr : twf (fun a i => KW 0 a i ∨ (a = 1315 ∧ i = 8)) I L (cm_u2 I2 1315 8 (zi (H1.length : Nat))) L2 := (f2.wi (fun a i z => .inl z)).tr (f3.wi (fun a i z => .inr z))
    have g : tst τ (cm_u2 I2 1315 8 (zi (H1.length : Nat))) L2 B S1 H1 V O M W au ev := by
      refine ⟨g1.kept hτ (fun a i z => by unfold KW at z; omega) fr, g2.kept fr (by unfold KW; omega) (fun i => by unfold KW; omega), t2.kept f3 (fun a i z => by unfold KW; omega), ⟨by rw [u2_same], by omega, fun i T hT => ?_⟩,
        g5.kept fr (fun c => by unfold KW; omega) (fun c => by unfold KW; omega), g6.kept fr (fun c => by unfold KW; omega) (fun c => by unfold KW; omega), g7.kept fr (fun c => by unfold KW; omega), g8.kept fr (fun c => by unfold KW; omega), by rw [(fr _ _ (by unfold KW; omega)).1]; exact g9, by rw [(fr _ _ (by unfold KW; omega)).1]; exact g10, g11⟩
      have hi := (List.getElem?_eq_some_iff.mp hT).1
      have := g4.2.2 (i + 1) T (by rw [List.getElem?_cons_succ]; exact hT)
      rw [List.length_cons, show H1.length + 1 - (i + 1) = H1.length - i by omega] at this
      exact this.kept fr (fun a j z => by unfold KW at *; omega)
    generalize cm_u2 I2 1315 8 (zi (H1.length : Nat)) = I3 at g
    have loop : ∀ (n c : Nat) (I : tw_I) (L : tw_L), 240 - c = n → c ≤ 240 → tst τ I L B S1 H1 (fil (fun c => bgV (S1.1 c)) (fun _ => true) c V) O (fil (fun c => decide (cty (S1.1 c) = 2)) (fun _ => true) c M) W au ev →
        wp_r (d - 1) 332 (31, [.ref 1315, .int (zi c)], [], tw τ I L) (ti τ Q) := by
      intro n
      induction n with
      | zero =>
        intro c I L hn hc g
        have hc : c = 240 := by omega
        subst hc
        refine k332_31 hτ (by omega) ⟨fun z => absurd z (by decide), fun _ => h2 S1 H1 rfl I L g⟩
      | succ n ih =>
        intro c I L hn hc g
        refine k332_31 hτ (by omega) ?_
        rw [zi_lt (by omega) (by omega) (by omega) (by omega), zn_a c 1 1 rfl]
        refine ⟨fun _ => ?_, fun z => absurd (by omega) z⟩
        refine t_bg hτ g (by omega) (by omega) fun I4 L4 _ g4 => ih (c + 1) I4 L4 (by omega) (by omega) ?_
        rw [fil_t _ _ _ _ rfl, fil_t _ _ _ _ rfl]
        exact g4
    exact loop _ 0 I3 L2 rfl (by omega) (by rw [fil_0, fil_0]; exact g)
end
