/-! THE TWIN: chains, cycles, levels, the order of calculation -/
noncomputable def lsB (S : Sh) (to n x : Nat) : Bool :=
  haveI := Classical.propDecidable (∃ m, m ≤ n ∧ lstP S to m x)
  decide (∃ m, m ≤ n ∧ lstP S to m x)
theorem lsB_t {S : Sh} {to n x : Nat} : lsB S to n x = true ↔ ∃ m, m ≤ n ∧ lstP S to m x := by
  unfold lsB
  haveI := Classical.propDecidable (∃ m, m ≤ n ∧ lstP S to m x)
  simp only [decide_eq_true_eq]
theorem lsB_f {S : Sh} {to n x : Nat} (h : ¬ ∃ m, m ≤ n ∧ lstP S to m x) : lsB S to n x = false := by
  cases q : lsB S to n x with
  | false => rfl
  | true => exact absurd (lsB_t.mp q) h
/-- how far a cell is, as far as is known -/
def fa1 (S : Sh) (to n : Nat) (v : Int32) (c : Nat) : Prop := (∃ m, m ≤ n ∧ lstP S to m c ∧ v = zi m) ∨ ((∀ m, m ≤ n → ¬ pth S to m c) ∧ v = zi (-1))
/-- how far a cell is -/
def faF (S : Sh) (to : Nat) (v : Int32) (c : Nat) : Prop := (∃ m, m ≤ 250 ∧ lstP S to m c ∧ v = zi m) ∨ ((∀ m, ¬ pth S to m c) ∧ v = zi (-1))
theorem fa1_neg {S : Sh} {to n c : Nat} {v : Int32} (hn : n ≤ 250) (h : fa1 S to n v c) : (v < zi 0 ↔ ∀ m, m ≤ n → ¬ pth S to m c) := by
  rcases h with ⟨m, m1, m2, rfl⟩ | ⟨h1, rfl⟩
  · rw [zi_lt (by omega) (by omega) (by omega) (by omega)]
    exact ⟨fun z => by omega, fun z => absurd m2.1 (z m m1)⟩
  · exact ⟨fun _ => h1, fun _ => by decide⟩
theorem fa1_eq {S : Sh} {to n c k : Nat} {v : Int32} (hn : n ≤ 250) (hk : k ≤ n) (h : fa1 S to n v c) : (v = zi k ↔ lstP S to k c) := by
  rcases h with ⟨m, m1, m2, rfl⟩ | ⟨h1, rfl⟩
  · rw [zi_eq (by omega) (by omega) (by omega) (by omega)]
    exact ⟨fun z => by have : m = k := by omega
                       subst this; exact m2, fun z => by rw [lst_uniq m2 z]⟩
  · rw [zi_eq (by omega) (by omega) (by omega) (by omega)]
    exact ⟨fun z => by omega, fun z => absurd z.1 (h1 k hk)⟩
section
variable {τ : tw_K} {I : tw_I} {L : tw_L} {d : Nat} {B : List Nat} {S : Sh} {H : List Sh} {V O : Nat → Vl} {M W : Nat → Bool} {au : Bool} {ev : Nat}
theorem t_measures (hτ : tw_ok τ) {to : Nat} (hS : nmo S.2) (hl : tlk L S) (ht : to < 240) {Q : tw_I → tw_L → Prop} (hd : 3 ≤ d) (h : ∀ I2, twf (fun a i => a = 1344) I L I2 L → (∀ c, c < 240 → faF S to (I2 1344 c) c) → Q I2 L) : wp_c d 264 [.ref 1315, .int (zi to)] (tw τ I L) (tv τ Q) := by
  refine k264 hτ (by omega) ?_
  have outer : ∀ (k n : Nat) (J : tw_I) (v4 v5 : Value), 240 < cnt (lsB S to n) 240 + k → n ≤ cnt (lsB S to n) 240 → twf (fun a i => a = 1344) I L J L → (∀ c, c < 240 → fa1 S to n (J 1344 c) c) → wp_r (d - 1) 264 (35, [.ref 1315, .int (zi to), .int (zi 1), .int (zi n), v4, v5], [], tw τ J L) (tv τ Q) := by
    intro k
    induction k with
    | zero =>
      intro n J v4 v5 h1
      have := cnt_le (lsB S to n) 240
      omega
    | succ k ih =>
      intro n J v4 v5 h1 h2 f hf
      have hn := cnt_le (lsB S to n) 240
      refine k264_35 hτ (by omega) ⟨fun z => absurd z (by decide), fun _ => ?_⟩
      have pass : ∀ (c : Nat) J' K', c ≤ 240 → (K' = L ∧ twf (fun a i => a = 1344) I L J' L ∧ ∀ x, x < 240 → if x < c then fa1 S to (n + 1) (J' 1344 x) x else fa1 S to n (J' 1344 x) x) → ∀ (b : Bool) (v5 : Value), (if b then ∃ x, x < 240 ∧ lstP S to (n + 1) x else ∀ x, x < c → ¬ lstP S to (n + 1) x) → wp_r (d - 1) 264 (44, [.ref 1315, .int (zi to), .int (bz b), .int (zi n), .int (zi c), v5], [], tw τ J' K') (tv τ Q) := by
        refine up_ind 240 (W := fun c J' K' => ∀ (b : Bool) (v5 : Value), (if b then ∃ x, x < 240 ∧ lstP S to (n + 1) x else ∀ x, x < c → ¬ lstP S to (n + 1) x) → wp_r (d - 1) 264 (44, [.ref 1315, .int (zi to), .int (bz b), .int (zi n), .int (zi c), v5], [], tw τ J' K') (tv τ Q)) (P := fun c J' K' => K' = L ∧ twf (fun a i => a = 1344) I L J' L ∧ ∀ x, x < 240 → if x < c then fa1 S to (n + 1) (J' 1344 x) x else fa1 S to n (J' 1344 x) x) (fun J' K' hP b v5 hb => ?_) (fun c J' K' hc hP ih2 b v5 hb => ?_)
        · obtain ⟨rfl, f2, p⟩ := hP
          refine k264_44 hτ (by omega) ⟨fun z => absurd z (by decide), fun _ => ?_⟩
          rw [zn_a n 1 1 rfl]
          have p2 : ∀ x, x < 240 → fa1 S to (n + 1) (J' 1344 x) x := fun x hx => by
            have := p x hx
            rwa [if_pos hx] at this
          cases b with
          | true =>
            obtain ⟨x, hx, hl2⟩ : ∃ x, x < 240 ∧ lstP S to (n + 1) x := hb
            have hsub := cnt_sub (P := lsB S to n) (Q := lsB S to (n + 1)) (x := x) (fun e he => by rw [lsB_t] at *; obtain ⟨m, m1, m2⟩ := he; exact ⟨m, by omega, m2⟩) (lsB_f fun ⟨m, m1, m2⟩ => by have := lst_uniq hl2 m2; omega) (lsB_t.mpr ⟨n + 1, Nat.le_refl _, hl2⟩) 240 hx
            exact ih (n + 1) J' _ _ (by omega) (by omega) f2 p2
          | false =>
            have hb : ∀ x, x < 240 → ¬ lstP S to (n + 1) x := hb
            have ln := lst_none hb
            refine k264_35 hτ (by omega) ⟨fun _ => h J' f2 fun c hc => ?_, fun z => absurd rfl z⟩
            rcases p2 c hc with ⟨m, m1, m2, e⟩ | ⟨q, e⟩
            · exact .inl ⟨m, by omega, m2, e⟩
            · refine .inr ⟨fun m hm => ?_, e⟩
              obtain ⟨m2, k1, k2⟩ := pth_lst m c hm
              have := ln m2 c hc k2
              exact q m2 (by omega) k2.1
        · obtain ⟨rfl, f2, p⟩ := hP
          have pc := p c hc
          rw [if_neg (Nat.lt_irrefl _)] at pc
          have hl2 := hl
          have peq : ∀ x, x < 240 → (J' 1344 x = zi n ↔ lstP S to n x) := fun x hx => by
            have := p x hx
            split at this
            · exact fa1_eq (by omega) (by omega) this
            · exact fa1_eq (by omega) (by omega) this
          have nxtc : ∀ (J2 : tw_I) (b2 : Bool) (v5 : Value), twf (fun a i => a = 1344 ∧ i = c) J' K' J2 K' → fa1 S to (n + 1) (J2 1344 c) c → (if b2 then ∃ x, x < 240 ∧ lstP S to (n + 1) x else ∀ x, x < c + 1 → ¬ lstP S to (n + 1) x) → wp_r (d - 1) 264 (44, [.ref 1315, .int (zi to), .int (bz b2), .int (zi n), .int (zi ((c + 1 : Nat) : Int)), v5], [], tw τ J2 K') (tv τ Q) := by
            intro J2 b2 v5 f3 hc2 hb2
            refine ih2 J2 K' ⟨rfl, f2.tr (f3.wi fun a i z => z.1), fun x hx => ?_⟩ b2 v5 hb2
            by_cases e : x = c
            · subst e; rw [if_pos (by omega)]; exact hc2
            · rw [(f3 1344 x (by omega)).1]
              have := p x hx
              by_cases e2 : x < c
              · rw [if_pos e2] at this; rw [if_pos (by omega)]; exact this
              · rw [if_neg e2] at this; rw [if_neg (by omega)]; exact this
          have same : ¬ lstP S to (n + 1) c → (if b then ∃ x, x < 240 ∧ lstP S to (n + 1) x else ∀ x, x < c + 1 → ¬ lstP S to (n + 1) x) := fun hno => by
            cases b with
            | true => exact hb
            | false =>
              intro x hx
              by_cases e : x = c
              · subst e; exact hno
              · exact hb x (by omega)
          refine k264_44 hτ (by omega) ?_
          rw [zi_lt (by omega) (by omega) (by omega) (by omega), zn_ix (by omega), zn_a c 1 1 rfl]
          refine ⟨fun _ => ⟨zn_in hc (by omega), fun z => ?_, fun z => ?_⟩, fun z => absurd (by omega) z⟩
          · have nop := (fa1_neg (by omega) pc).mp z
            have e1 : J' 1344 c = zi (-1) := by
              rcases pc with ⟨m, m1, m2, e⟩ | ⟨_, e⟩
              · exact absurd m2.1 (nop m m1)
              · exact e
            refine t_hasB hτ hl.2 (.inr rfl) hc ht (by omega) ?_
            rw [bz_0]
            have stay : ¬ pth S to (n + 1) c → fa1 S to (n + 1) (J' 1344 c) c := fun q => .inr ⟨fun m hm => by
              by_cases e : m = n + 1
              · subst e; exact q
              · exact nop m (by omega), e1⟩
            refine ⟨fun w => ?_, fun w => ?_⟩
            · have q : ¬ pth S to (n + 1) c := fun q => by rw [pth_rch n c q] at w; cases w
              exact nxtc J' b v5 twf.rf (stay q) (same fun y => q y.1)
            have inner : ∀ (e : Nat) J2 K2, e ≤ 240 → (J2 = J' ∧ K2 = K' ∧ ∀ x, x < e → ¬ (lstP S to n x ∧ dir S c x = true)) → wp_r (d - 1) 264 (81, [.ref 1315, .int (zi to), .int (bz b), .int (zi n), .int (zi c), .int (zi e)], [], tw τ J2 K2) (tv τ Q) := by
              refine up_ind 240 (W := fun e J2 K2 => wp_r (d - 1) 264 (81, [.ref 1315, .int (zi to), .int (bz b), .int (zi n), .int (zi c), .int (zi e)], [], tw τ J2 K2) (tv τ Q)) (P := fun e J2 K2 => J2 = J' ∧ K2 = K' ∧ ∀ x, x < e → ¬ (lstP S to n x ∧ dir S c x = true)) (fun J2 K2 hP => ?_) (fun e J2 K2 he hP ih3 => ?_)
              · obtain ⟨rfl, rfl, hno⟩ := hP
                have q : ¬ pth S to (n + 1) c := fun ⟨x, x1, x2, x3⟩ => by
                  obtain ⟨m, m1, m2⟩ := pth_lst n x x3
                  by_cases e : m = n
                  · subst e; exact hno x x1 ⟨m2, x2⟩
                  · exact nop (m + 1) (by omega) ⟨x, x1, x2, m2.1⟩
                refine k264_81 hτ (by omega) ⟨fun z => absurd z (by decide), fun _ => k264_140 hτ (by omega) ?_⟩
                rw [bz_0, zn_ix (by omega), e1, zn_a n 1 1 rfl, zi_eq (by omega) (by omega) (by omega) (by omega), zn_a c 1 1 rfl]
                refine ⟨fun b0 => ⟨zn_in hc (by omega), fun z => absurd z (by omega), fun _ => ?_⟩, fun b1 => ?_⟩
                · have := nxtc J2 false (.int (zi 240)) twf.rf (stay q) (by have := same fun y => q y.1; rw [b0] at this; exact this)
                  exact this
                · have bt : b = true := by cases q2 : b; exact absurd q2 b1; rfl
                  have := nxtc J2 true (.int (zi 240)) twf.rf (stay q) (by have := same fun y => q y.1; rw [bt] at this; exact this)
                  exact this
              · obtain ⟨rfl, rfl, hno⟩ := hP
                refine k264_81 hτ (by omega) ?_
                rw [zi_lt (by omega) (by omega) (by omega) (by omega), zn_ix (by omega), zn_ix (by omega), peq e he, zn_a e 1 1 rfl]
                have go : ¬ (lstP S to n e ∧ dir S c e = true) → wp_r (d - 1) 264 (81, [.ref 1315, .int (zi to), .int (bz b), .int (zi n), .int (zi c), .int (zi ((e + 1 : Nat) : Int))], [], tw τ J2 K2) (tv τ Q) := fun q => ih3 _ _ ⟨rfl, rfl, fun x hx => by
                  by_cases ex : x = e
                  · subst ex; exact q
                  · exact hno x (by omega)⟩
                refine ⟨fun _ => ⟨zn_in hc (by omega), fun _ => ⟨zn_in he (by omega), fun q1 => t_hasB hτ hl.1 (.inl rfl) hc he (by omega) ?_, fun q1 => go fun y => q1 y.1⟩, fun y => absurd z y⟩, fun z => absurd (by omega) z⟩
                rw [bz_0]
                refine ⟨fun q2 => go fun y => (by rw [q2] at y; cases y.2), fun q2 => ?_⟩
                have q2 : dir S c e = true := by
                  cases q3 : dir S c e with
                  | true => rfl
                  | false => exact absurd q3 q2
                have lc : lstP S to (n + 1) c := ⟨⟨e, he, q2, q1.1⟩, fun m hm => nop m (by omega)⟩
                rintro I3 rfl
                rw [zn_a n 1 1 rfl]
                have f3 : twf (fun a i => a = 1344 ∧ i = c) J2 K2 (cm_u2 J2 1344 c (zi ((n + 1 : Nat) : Int))) K2 := twf.rf.pI ⟨by omega, by omega⟩ _
                have fin : ∀ v5 : Int32, wp_r (d - 1) 264 (140, [.ref 1315, .int (zi to), .int (bz b), .int (zi n), .int (zi c), .int v5], [], tw τ (cm_u2 J2 1344 c (zi ((n + 1 : Nat) : Int))) K2) (tv τ Q) := fun v5 => by
                  have := nxtc _ true (.int v5) f3 (by rw [u2_same]; exact .inl ⟨n + 1, Nat.le_refl _, lc, rfl⟩) ⟨c, hc, lc⟩
                  refine k264_140 hτ (by omega) ?_
                  rw [zn_ix (by omega), u2_same, zn_a n 1 1 rfl, zn_a c 1 1 rfl]
                  exact ⟨fun _ => ⟨zn_in hc (by omega), fun _ => this, fun z => absurd rfl z⟩, fun _ => this⟩
                refine k264_81 hτ (by omega) ?_
                rw [zn_ix (by omega), u2_same]
                refine ⟨fun _ => ⟨zn_in hc (by omega), fun y => ?_, fun _ => fin _⟩, fun _ => fin _⟩
                rw [zi_lt (by omega) (by omega) (by omega) (by omega)] at y
                omega
            exact inner 0 J' K' (by omega) ⟨rfl, rfl, fun x hx => absurd hx (by omega)⟩
          · have hp : ∃ m, m ≤ n ∧ lstP S to m c ∧ J' 1344 c = zi m := by
              rcases pc with q | ⟨q, e⟩
              · exact q
              · exact absurd (by rw [e]; decide) z
            obtain ⟨m, m1, m2, e⟩ := hp
            exact nxtc J' b v5 twf.rf (.inl ⟨m, by omega, m2, e⟩) (same fun y => by have := lst_uniq y m2; omega)
      exact pass 0 J L (by omega) ⟨rfl, f, fun x hx => by rw [if_neg (by omega)]; exact hf x hx⟩ false _ (fun x hx => absurd hx (by omega))
  have start : ∀ (c : Nat) J K, c ≤ 240 → (K = L ∧ twf (fun a i => a = 1344) I L J L ∧ ∀ x, x < c → J 1344 x = if x = to then zi 0 else zi (-1)) → ∀ v3 v4 v5, wp_r (d - 1) 264 (2, [.ref 1315, .int (zi to), .int (zi c), v3, v4, v5], [], tw τ J K) (tv τ Q) := by
    refine up_ind 240 (W := fun c J K => ∀ v3 v4 v5, wp_r (d - 1) 264 (2, [.ref 1315, .int (zi to), .int (zi c), v3, v4, v5], [], tw τ J K) (tv τ Q)) (P := fun c J K => K = L ∧ twf (fun a i => a = 1344) I L J L ∧ ∀ x, x < c → J 1344 x = if x = to then zi 0 else zi (-1)) (fun J K hP v3 v4 v5 => ?_) (fun c J K hc hP ih v3 v4 v5 => ?_)
    · obtain ⟨rfl, f, p⟩ := hP
      refine k264_2 hτ (by omega) ⟨fun z => absurd z (by decide), fun _ => outer 241 0 J _ _ (by omega) (by omega) f fun c hc => ?_⟩
      rw [p c hc]
      by_cases e : c = to
      · rw [if_pos e]
        exact .inl ⟨0, Nat.le_refl _, ⟨e, fun m hm => absurd hm (by omega)⟩, rfl⟩
      · rw [if_neg e]
        refine .inr ⟨fun m hm => ?_, rfl⟩
        have : m = 0 := by omega
        subst this
        exact e
    · obtain ⟨rfl, f, p⟩ := hP
      have go : ∀ v : Int32, v = (if c = to then zi 0 else zi (-1)) → ∀ I1, I1 = cm_u2 J 1344 c v → wp_r (d - 1) 264 (2, [.ref 1315, .int (zi to), .int (zi ((c + 1 : Nat) : Int)), v3, v4, v5], [], tw τ I1 K) (tv τ Q) := fun v hv I1 e1 => by
        subst e1
        refine ih _ _ ⟨rfl, f.pI rfl _, fun x hx => ?_⟩ v3 v4 v5
        rw [u2_at]
        by_cases e : x = c
        · subst e; rw [if_pos rfl]; exact hv
        · rw [if_neg e]; exact p x (by omega)
      refine k264_2 hτ (by omega) ?_
      rw [zi_lt (by omega) (by omega) (by omega) (by omega), zi_eq (by omega) (by omega) (by omega) (by omega), zn_ix (by omega), zn_a c 1 1 rfl]
      refine ⟨fun _ => ⟨fun z => ⟨zn_in hc (by omega), go _ ?_⟩, fun z => ⟨zn_in hc (by omega), go _ ?_⟩⟩, fun z => absurd (by omega) z⟩
      · rw [if_pos (by omega)]
      · rw [if_neg (by omega)]
  exact start 0 I L (by omega) ⟨rfl, twf.rf, fun x hx => absurd hx (by omega)⟩ _ _ _
theorem t_nearest (hτ : tw_ok τ) {to c : Nat} (hl : tlk L S) (hc : c < 240) (hf : ∀ c, c < 240 → faF S to (I 1344 c) c) {Q : Int32 → tw_I → tw_L → Prop} (hd : 2 ≤ d) (h : Q (opz (dst S to c)) I L) : wp_c d 275 [.ref 1315, .int (zi c)] (tw τ I L) (ti τ Q) := by
  refine k275 hτ (by omega) ?_
  have loop : ∀ (e : Nat) J K, e ≤ 240 → (J = I ∧ K = L) → ∀ v : Int32, ((v = zi (-2) ∧ ∀ x, x < e → dir S c x = true → ∀ m, ¬ pth S to m x) ∨ (∃ r : Nat, r ≤ 250 ∧ v = zi ((r + 1 : Nat) : Int) ∧ (∃ x, x < e ∧ dir S c x = true ∧ lstP S to r x) ∧ ∀ x, x < e → dir S c x = true → ∀ m, lstP S to m x → r ≤ m)) → wp_r (d - 1) 275 (5, [.ref 1315, .int (zi c), .int v, .int (zi e)], [], tw τ J K) (ti τ Q) := by
    refine up_ind 240 (W := fun e J K => ∀ v : Int32, ((v = zi (-2) ∧ ∀ x, x < e → dir S c x = true → ∀ m, ¬ pth S to m x) ∨ (∃ r : Nat, r ≤ 250 ∧ v = zi ((r + 1 : Nat) : Int) ∧ (∃ x, x < e ∧ dir S c x = true ∧ lstP S to r x) ∧ ∀ x, x < e → dir S c x = true → ∀ m, lstP S to m x → r ≤ m)) → wp_r (d - 1) 275 (5, [.ref 1315, .int (zi c), .int v, .int (zi e)], [], tw τ J K) (ti τ Q)) (P := fun e J K => J = I ∧ K = L) (fun J K hP v hv => ?_) (fun e J K he hP ih v hv => ?_)
    · obtain ⟨rfl, rfl⟩ := hP
      refine k275_5 hτ (by omega) ⟨fun z => absurd z (by decide), fun _ => ?_⟩
      rcases hv with ⟨rfl, hv⟩ | ⟨r, r1, rfl, ⟨x, x1, x2, x3⟩, r4⟩
      · rw [dst_none fun n hn hp => ?_] at h
        · exact h
        · obtain ⟨n, rfl⟩ : ∃ m, n = m + 1 := ⟨n - 1, by omega⟩
          obtain ⟨x, x1, x2, x3⟩ := hp
          exact hv x x1 x2 n x3
      · rw [dst_some (n := r + 1) ⟨by omega, ⟨x, x1, x2, x3.1⟩, fun m hm1 hm2 hp => ?_⟩] at h
        · exact h
        · obtain ⟨m, rfl⟩ : ∃ k, m = k + 1 := ⟨m - 1, by omega⟩
          obtain ⟨y, y1, y2, y3⟩ := hp
          obtain ⟨k, k1, k2⟩ := pth_lst m y y3
          have := r4 y y1 y2 k k2
          omega
    · obtain ⟨rfl, rfl⟩ := hP
      have go := ih J K ⟨rfl, rfl⟩
      refine k275_5 hτ (by omega) ?_
      rw [zi_lt (by omega) (by omega) (by omega) (by omega), zn_ix (by omega), zn_a e 1 1 rfl]
      refine ⟨fun _ => t_hasB hτ hl.1 (.inl rfl) hc he (by omega) ?_, fun z => absurd (by omega) z⟩
      rw [bz_0]
      have skip : (dir S c e = true → ∀ m, ¬ pth S to m e) → wp_r (d - 1) 275 (5, [.ref 1315, .int (zi c), .int v, .int (zi ((e + 1 : Nat) : Int))], [], tw τ J K) (ti τ Q) := fun hs => by
        refine go v ?_
        rcases hv with ⟨h1, h2⟩ | ⟨r, r1, r2, ⟨x, x1, x2, x3⟩, r4⟩
        · refine .inl ⟨h1, fun x hx => ?_⟩
          by_cases ex : x = e
          · subst ex; exact hs
          · exact h2 x (by omega)
        · refine .inr ⟨r, r1, r2, ⟨x, by omega, x2, x3⟩, fun y hy hd m hm => ?_⟩
          by_cases ex : y = e
          · subst ex; exact absurd hm.1 (hs hd m)
          · exact r4 y (by omega) hd m hm
      refine ⟨fun z => skip fun w => (by rw [z] at w; cases w), fun z => ⟨zn_in he (by omega), ?_⟩⟩
      have z : dir S c e = true := by
        cases q : dir S c e with
        | true => rfl
        | false => exact absurd q z
      rcases hf e he with ⟨m, m1, m2, ev⟩ | ⟨m1, ev⟩
      · rw [ev, zn_a m 1 1 rfl, zi_lt (by omega) (by omega) (by omega) (by omega)]
        refine ⟨fun z => absurd z (by omega), fun _ => ?_⟩
        have take : (∀ x, x < e → dir S c x = true → ∀ k, lstP S to k x → m ≤ k) → wp_r (d - 1) 275 (5, [.ref 1315, .int (zi c), .int (zi ((m + 1 : Nat) : Int)), .int (zi ((e + 1 : Nat) : Int))], [], tw τ J K) (ti τ Q) := fun hs => by
          refine go _ (.inr ⟨m, m1, rfl, ⟨e, by omega, z, m2⟩, fun y hy hd k hk => ?_⟩)
          by_cases ex : y = e
          · subst ex; rw [lst_uniq m2 hk]; exact Nat.le_refl _
          · exact hs y (by omega) hd k hk
        rcases hv with ⟨rfl, h2⟩ | ⟨r, r1, rfl, ⟨x, x1, x2, x3⟩, r4⟩
        · exact ⟨fun _ => take fun x hx hd k hk => absurd hk.1 (h2 x hx hd k), fun w => absurd (by decide) w⟩
        · rw [zi_lt (by omega) (by omega) (by omega) (by omega), zi_lt (by omega) (by omega) (by omega) (by omega)]
          refine ⟨fun z => absurd z (by omega), fun _ => ⟨fun w => take fun y hy hd k hk => ?_, fun w => ?_⟩⟩
          · have := r4 y hy hd k hk; omega
          · refine go _ (.inr ⟨r, r1, rfl, ⟨x, by omega, x2, x3⟩, fun y hy hd k hk => ?_⟩)
            by_cases ex : y = e
            · subst ex; have := lst_uniq m2 hk; omega
            · exact r4 y (by omega) hd k hk
      · rw [ev]
        exact ⟨fun _ => skip fun _ => m1, fun z => absurd z (by decide)⟩
  exact loop 0 I L (by omega) ⟨rfl, rfl⟩ _ (.inl ⟨rfl, fun x hx => absurd hx (by omega)⟩)
theorem t_chainLength (hτ : tw_ok τ) (h0 : tst τ I L B S H V O M W au ev) (x y : Int32) {Q : Int32 → tw_I → tw_L → Prop} (hd : 8 ≤ d) (h1 : ∀ c o : Nat, c < 240 → o < 240 → x = zi c → y = zi o → ∀ I2 L2, tst τ I2 L2 B S H V O M W au ev → Q (opz (dst S o c)) I2 L2) (h2 : (¬ ∃ a b : Nat, a < 240 ∧ b < 240 ∧ x = zi a ∧ y = zi b) → Q (zi (-1)) I L) : wp_c d 187 [.ref 1315, .int x, .int y] (tw τ I L) (ti τ Q) := by
  have hS := h0.shk
  refine k187 hτ (by omega) (t_isCellX hτ x (by omega) (fun c hc ex => ⟨fun z => absurd z (by decide), fun _ => ?_⟩) (fun n => ⟨fun _ => h2 fun ⟨a, b, ha, hb, e1, e2⟩ => n ⟨a, ha, e1⟩, fun z => absurd rfl z⟩))
  refine t_isCellX hτ y (by omega) (fun o ho ey => ⟨fun z => absurd z (by decide), fun _ => ?_⟩) (fun n => ⟨fun _ => h2 fun ⟨a, b, ha, hb, e1, e2⟩ => n ⟨b, hb, e2⟩, fun z => absurd rfl z⟩)
  subst ex ey
  refine t_links hτ h0 (by omega) fun I2 L2 f g l => t_measures hτ hS.2 l ho (by omega) fun I3 f3 hf => t_nearest hτ l hc hf (by omega) ?_
  exact h1 c o hc ho rfl rfl I3 L2 (g.kept hτ (f3.wi fun a i z => by unfold XW; omega))
end
