/-! THE TWIN: questions (by gen/mk86.py) -/
def dgst (V : Nat → Vl) : Nat → Int64
  | 0 => zl 7
  | n + 1 => zl 31 * dgst V n + zl 3 * zl ((V n).1 : Nat) + (V n).2
def aff (S : Sh) (c : Nat) : Nat := cnt (fun e => rch S e c) 240
def miL (S : Sh) (V : Nat → Vl) : Nat → Option Nat × Nat
  | 0 => (none, 0)
  | n + 1 => if (V n).1 = 1 ∧ ((miL S V n).1 = none ∨ (miL S V n).2 < aff S n) then (some n, aff S n) else miL S V n
def opz (q : Option Nat) : Int32 := match q with
  | some n => zi n
  | none => zi (-2)
theorem tokT_len {q : Nat × Nat} (h : txk q) : (tokT q).length ≤ 30 := by
  obtain ⟨k, v⟩ := q
  obtain ⟨q1, q2, q4, q5, q6, q3, q7, q8⟩ := h
  simp only at *
  have q : k = 1 ∨ k = 2 ∨ k = 3 ∨ k = 4 ∨ k = 5 ∨ k = 6 := by omega
  rcases q with rfl | rfl | rfl | rfl | rfl | rfl
  · show (digs v).length ≤ 30
    have := digs_len v
    omega
  · show (refTx v).length ≤ 30
    have := digs_len (v % 240 / 12 + 1)
    unfold refTx
    simp only [List.length_append, List.length_singleton]
    split <;> split <;> simp <;> omega
  · show 4 ≤ 30
    decide
  · show (dec v).length ≤ 30
    have := okN_dec (q4 rfl)
    omega
  · show ((fnames[v]?).getD []).length ≤ 30
    have v9 := q5 rfl
    have := fn_len v _ (List.getElem?_eq_getElem v9)
    rw [List.getElem?_eq_getElem v9]
    exact Nat.le_trans this.2 (by decide)
  · show (opT v).length ≤ 30
    unfold opT
    split
    · decide
    · split
      · decide
      · split <;> simp
section
variable {τ : tw_K} {I : tw_I} {L : tw_L} {d : Nat} {B : List Nat} {S : Sh} {H : List Sh} {V O : Nat → Vl} {M W : Nat → Bool} {au : Bool} {ev : Nat}
theorem t_tellsCell (hτ : tw_ok τ) (h0 : tst τ I L B S H V O M W au ev) {c k : Nat} (hc : c < 240) (hk : k < 2147483648) {Q : Int32 → tw_I → tw_L → Prop} (hd : 7 ≤ d) (h : ∀ I2, tst τ I2 L B S H V O M W au ev → I2 1315 61 = zi (txC (S.1 c)).length → Q (match (txC (S.1 c))[k]? with
    | some b => zi b
    | none => zi (-1)) I2 L) : wp_c d 322 [.ref 1315, .int (zi c), .int (zi k)] (tw τ I L) (ti τ Q) := by
  refine k322 hτ (by omega) ?_
  rintro I1 rfl I2 rfl I3 rfl
  have f0 : twf (fun a i => a = 1315 ∧ 59 ≤ i ∧ i ≤ 61) I L (cm_u2 (cm_u2 (cm_u2 I 1315 59 (zi k)) 1315 60 (zi (-1))) 1315 61 (zi 0)) L := ((twf.rf.pI (by omega) _).pI (by omega) _).pI (by omega) _
  have t0 : ttx (cm_u2 (cm_u2 (cm_u2 I 1315 59 (zi k)) 1315 60 (zi (-1))) 1315 61 (zi 0)) k [] := ⟨by rw [u2_nj _ _ _ _ _ (by omega), u2_nj _ _ _ _ _ (by omega), u2_same], by rw [u2_same]; rfl, by rw [u2_nj _ _ _ _ _ (by omega), u2_same]; simp⟩
  have g0 := h0.kept hτ (f0.wi fun a i z => by unfold XW; omega)
  generalize cm_u2 (cm_u2 (cm_u2 I 1315 59 (zi k)) 1315 60 (zi (-1))) 1315 61 (zi 0) = I3 at *
  have hq := g0.cell hc
  have hok := hq.2.2.1
  refine ⟨zn_in (show c < 2400 by omega) (by omega), ?_⟩
  rw [zn_ix (by omega), hq.1]
  have l3 := cty_lt (S.1 c)
  have loop : ∀ (i : Nat) (J : tw_I) (K : tw_L), i ≤ (ctk (S.1 c)).length → (K = L ∧ twf TXW I3 L J L ∧ ∃ l, l.length + 30 * (80 - i) < 50000 ∧ ttx J k l ∧ l ++ toksT ((ctk (S.1 c)).drop i) = txC (S.1 c)) → wp_r (d - 1) 322 (53, [.ref 1315, .int (zi c), .int (zi k), .int (zi i)], [], tw τ J K) (ti τ Q) := by
    have ht := hq.2.1
    have tl := ht.2.1
    refine up_ind (ctk (S.1 c)).length (W := fun i J K => wp_r (d - 1) 322 (53, [.ref 1315, .int (zi c), .int (zi k), .int (zi i)], [], tw τ J K) (ti τ Q)) (P := fun i J K => K = L ∧ twf TXW I3 L J L ∧ ∃ l, l.length + 30 * (80 - i) < 50000 ∧ ttx J k l ∧ l ++ toksT ((ctk (S.1 c)).drop i) = txC (S.1 c)) (fun J K hP => ?_) (fun i J K hi hP ih => ?_)
    · obtain ⟨rfl, f, l, hl, t, e⟩ := hP
      have g := g0.kept hτ (f.wi fun a i z => by unfold TXW at z; unfold XW; omega)
      have ht := (g.cell hc).2.1
      rw [List.drop_length, show toksT [] = [] from rfl, List.append_nil] at e
      rw [e] at t
      refine k322_53 hτ (by omega) ⟨zn_in (show c < 2400 by omega) (by omega), ?_⟩
      rw [zn_ix (by omega), ht.1, zi_lt (by omega) (by omega) (by omega) (by omega), t.2.2]
      exact ⟨fun z => absurd z (by omega), fun _ => h J g t.2.1⟩
    · obtain ⟨rfl, f, l, hl, t, e⟩ := hP
      have g := g0.kept hτ (f.wi fun a i z => by unfold TXW at z; unfold XW; omega)
      have ht := (g.cell hc).2.1
      have hget := List.getElem?_eq_getElem hi
      have hx : txk (ctk (S.1 c))[i] := by
        match hS : S.1 c, hi with
        | none, hi => exact absurd hi (Nat.not_lt_zero _)
        | some (.inl n), hi => exact absurd hi (Nat.not_lt_zero _)
        | some (.inr t), hi => rw [hS] at hok; exact tk_txk t hok.1 _ (List.getElem_mem hi)
      refine k322_53 hτ (by omega) ⟨zn_in (show c < 2400 by omega) (by omega), ?_⟩
      rw [zn_ix (by omega), ht.1, zi_lt (by omega) (by omega) (by omega) (by omega)]
      refine ⟨fun _ => t_at hτ (by omega) (by omega) ht (by omega) ?_, fun z => absurd (by omega) z⟩
      rw [tko_some hget]
      refine t_tellsToken hτ g hk hx (by omega) (by omega) t fun I4 f4 t4 => ?_
      rw [zn_a i 1 1 rfl]
      refine ih I4 _ ⟨rfl, f.tr f4, _, ?_, t4, ?_⟩
      · have := tokT_len hx
        rw [List.length_append]
        omega
      · rw [List.append_assoc, ← e, List.drop_eq_getElem_cons hi]
        rfl
  match hS : S.1 c, hok, hq with
  | none, hok, hq =>
    refine ⟨fun z => absurd (show zi 0 = zi 1 from z) (by decide), fun _ => ⟨fun z => absurd (show zi 0 = zi 2 from z) (by decide), fun _ => ?_⟩⟩
    exact loop 0 I3 L (by omega) ⟨rfl, twf.rf, [], by simp, t0, by rw [hS]; rfl⟩
  | some (.inl n), hok, hq =>
    refine ⟨fun _ => ?_, fun z => absurd rfl z⟩
    have hn : -2147483648 ≤ n ∧ n < 2147483648 := hok
    rw [hq.2.2.2 n rfl]
    refine t_tellsNumber hτ hk ⟨by omega, by omega⟩ (by omega) (by simp) t0 fun I4 f4 t4 => ?_
    have g4 := g0.kept hτ (f4.wi fun a i z => by unfold TXW at z; unfold XW; omega)
    rw [g4.ty hc, hS]
    refine ⟨fun z => absurd (show zi 1 = zi 2 from z) (by decide), fun _ => ?_⟩
    refine loop 0 I4 L (by omega) ⟨rfl, f4, numT n, ?_, t4, by rw [hS]; show numT n ++ [] = numT n; rw [List.append_nil]⟩
    have := digs_len n.natAbs
    unfold numT
    split
    · rw [List.length_cons]; omega
    · omega
  | some (.inr t), hok, hq =>
    refine ⟨fun z => absurd (show zi 2 = zi 1 from z) (by decide), fun _ => ⟨fun _ => ?_, fun z => absurd rfl z⟩⟩
    refine t_tb (b := 61) hτ t0 hk (by simp) rfl (by omega) fun I4 f4 t4 => ?_
    exact loop 0 I4 L (by omega) ⟨rfl, f4, [61], by simp, t4, by rw [hS]; rfl⟩
theorem t_textLength (hτ : tw_ok τ) (h0 : tst τ I L B S H V O M W au ev) (x : Int32) {Q : Int32 → tw_I → tw_L → Prop} (hd : 8 ≤ d) (h1 : ∀ c : Nat, c < 240 → x = zi c → ∀ I2, tst τ I2 L B S H V O M W au ev → Q (zi (txC (S.1 c)).length) I2 L) (h2 : (¬ ∃ a : Nat, a < 240 ∧ x = zi a) → Q (zi (-1)) I L) : wp_c d 328 [.ref 1315, .int x] (tw τ I L) (ti τ Q) := by
  refine k328 hτ (by omega) (t_isCellX hτ x (by omega) (fun c hc ex => ⟨fun z => absurd z (by decide), fun _ => ?_⟩) (fun n => ⟨fun _ => h2 n, fun z => absurd rfl z⟩))
  subst ex
  refine t_tellsCell (k := 0) hτ h0 hc (by omega) (by omega) fun I2 g e => ?_
  rw [e]
  exact h1 c hc rfl I2 g
theorem t_textByte (hτ : tw_ok τ) (h0 : tst τ I L B S H V O M W au ev) (x y : Int32) {Q : Int32 → tw_I → tw_L → Prop} (hd : 8 ≤ d) (h1 : ∀ c k : Nat, c < 240 → x = zi c → k < 2147483648 → y = zi k → ∀ I2, tst τ I2 L B S H V O M W au ev → Q (match (txC (S.1 c))[k]? with
    | some b => zi b
    | none => zi (-1)) I2 L) (h2 : ((¬ ∃ a : Nat, a < 240 ∧ x = zi a) ∨ y.toInt < 0) → Q (zi (-1)) I L) : wp_c d 327 [.ref 1315, .int x, .int y] (tw τ I L) (ti τ Q) := by
  refine k327 hτ (by omega) (t_isCellX hτ x (by omega) (fun c hc ex => ⟨fun z => absurd z (by decide), fun _ => ?_⟩) (fun n => ⟨fun _ => h2 (.inl n), fun z => absurd rfl z⟩))
  subst ex
  have hy := zi_rng y
  have ey := zi_self y
  rw [Int32.lt_iff_toInt_lt, show (zi 0).toInt = 0 from rfl]
  refine ⟨fun z => h2 (.inr z), fun z => ?_⟩
  obtain ⟨k, hk⟩ : ∃ k : Nat, y.toInt = k := ⟨y.toInt.toNat, by omega⟩
  have e : y = zi k := by rw [← ey, hk]
  rw [e]
  exact t_tellsCell hτ h0 hc (by omega) (by omega) fun I2 g _ => h1 c k hc rfl (by omega) e I2 g
theorem t_manyDirect (hτ : tw_ok τ) {c : Nat} (hl : tlk L S) (hc : c < 240) {Q : Int32 → tw_I → tw_L → Prop} (hd : 2 ≤ d) (h : Q (zi (cnt (fun x => dir S c x) 240)) I L) : wp_c d 261 [.ref 1315, .int (zi c)] (tw τ I L) (ti τ Q) := by
  refine k261 hτ (by omega) ?_
  have loop : ∀ (x : Nat) J K, x ≤ 240 → (J = I ∧ K = L) → wp_r (d - 1) 261 (4, [.ref 1315, .int (zi c), .int (zi (cnt (fun x => dir S c x) x)), .int (zi x)], [], tw τ J K) (ti τ Q) := by
    refine up_ind 240 (W := fun x J K => wp_r (d - 1) 261 (4, [.ref 1315, .int (zi c), .int (zi (cnt (fun x => dir S c x) x)), .int (zi x)], [], tw τ J K) (ti τ Q)) (P := fun x J K => J = I ∧ K = L) (fun J K hP => ?_) (fun x J K hx hP ih => ?_)
    · obtain ⟨rfl, rfl⟩ := hP
      exact k261_4 hτ (by omega) ⟨fun z => absurd z (by decide), fun _ => h⟩
    · obtain ⟨rfl, rfl⟩ := hP
      have go := ih _ _ ⟨rfl, rfl⟩
      rw [show cnt (fun x => dir S c x) (x + 1) = cnt (fun x => dir S c x) x + (if dir S c x = true then 1 else 0) from rfl] at go
      refine k261_4 hτ (by omega) ?_
      rw [zi_lt (by omega) (by omega) (by omega) (by omega), zn_a x 1 1 rfl, zn_a _ 1 1 rfl, zn_a _ 0 0 rfl]
      refine ⟨fun _ => t_hasB hτ hl.1 (.inl rfl) hc hx (by omega) ?_, fun z => absurd (by omega) z⟩
      cases q : dir S c x with
      | false => rw [q] at go; exact ⟨fun _ => go, fun z => absurd rfl z⟩
      | true => rw [q] at go; exact ⟨fun z => absurd z (by decide), fun _ => go⟩
  exact loop 0 I L (by omega) ⟨rfl, rfl⟩
theorem t_affected (hτ : tw_ok τ) {c : Nat} (hl : tlk L S) (hc : c < 240) {Q : Int32 → tw_I → tw_L → Prop} (hd : 2 ≤ d) (h : Q (zi (aff S c)) I L) : wp_c d 174 [.ref 1315, .int (zi c)] (tw τ I L) (ti τ Q) := by
  refine k174 hτ (by omega) ?_
  have loop : ∀ (x : Nat) J K, x ≤ 240 → (J = I ∧ K = L) → wp_r (d - 1) 174 (4, [.ref 1315, .int (zi c), .int (zi (cnt (fun x => rch S x c) x)), .int (zi x)], [], tw τ J K) (ti τ Q) := by
    refine up_ind 240 (W := fun x J K => wp_r (d - 1) 174 (4, [.ref 1315, .int (zi c), .int (zi (cnt (fun x => rch S x c) x)), .int (zi x)], [], tw τ J K) (ti τ Q)) (P := fun x J K => J = I ∧ K = L) (fun J K hP => ?_) (fun x J K hx hP ih => ?_)
    · obtain ⟨rfl, rfl⟩ := hP
      exact k174_4 hτ (by omega) ⟨fun z => absurd z (by decide), fun _ => h⟩
    · obtain ⟨rfl, rfl⟩ := hP
      have go := ih _ _ ⟨rfl, rfl⟩
      rw [show cnt (fun x => rch S x c) (x + 1) = cnt (fun x => rch S x c) x + (if rch S x c = true then 1 else 0) from rfl] at go
      refine k174_4 hτ (by omega) ?_
      rw [zi_lt (by omega) (by omega) (by omega) (by omega), zn_a x 1 1 rfl, zn_a _ 1 1 rfl, zn_a _ 0 0 rfl]
      refine ⟨fun _ => t_hasB hτ hl.2 (.inr rfl) hx hc (by omega) ?_, fun z => absurd (by omega) z⟩
      cases q : rch S x c with
      | false => rw [q] at go; exact ⟨fun _ => go, fun z => absurd rfl z⟩
      | true => rw [q] at go; exact ⟨fun z => absurd z (by decide), fun _ => go⟩
  exact loop 0 I L (by omega) ⟨rfl, rfl⟩
theorem t_precedentCount (hτ : tw_ok τ) (h0 : tst τ I L B S H V O M W au ev) (x : Int32) {Q : Int32 → tw_I → tw_L → Prop} (hd : 8 ≤ d) (h1 : ∀ c : Nat, c < 240 → x = zi c → ∀ I2 L2, tst τ I2 L2 B S H V O M W au ev → Q (zi (cnt (fun x => dir S c x) 240)) I2 L2) (h2 : (¬ ∃ a : Nat, a < 240 ∧ x = zi a) → Q (zi (-1)) I L) : wp_c d 283 [.ref 1315, .int x] (tw τ I L) (ti τ Q) := by
  refine k283 hτ (by omega) (t_isCellX hτ x (by omega) (fun c hc ex => ⟨fun z => absurd z (by decide), fun _ => ?_⟩) (fun n => ⟨fun _ => h2 n, fun z => absurd rfl z⟩))
  subst ex
  refine t_links hτ h0 (by omega) fun I2 L2 f g l => ?_
  have h := h1 c hc rfl I2 L2 g
  exact t_manyDirect hτ l hc (by omega) h
theorem t_affectedCount (hτ : tw_ok τ) (h0 : tst τ I L B S H V O M W au ev) (x : Int32) {Q : Int32 → tw_I → tw_L → Prop} (hd : 8 ≤ d) (h1 : ∀ c : Nat, c < 240 → x = zi c → ∀ I2 L2, tst τ I2 L2 B S H V O M W au ev → Q (zi (aff S c)) I2 L2) (h2 : (¬ ∃ a : Nat, a < 240 ∧ x = zi a) → Q (zi (-1)) I L) : wp_c d 175 [.ref 1315, .int x] (tw τ I L) (ti τ Q) := by
  refine k175 hτ (by omega) (t_isCellX hτ x (by omega) (fun c hc ex => ⟨fun z => absurd z (by decide), fun _ => ?_⟩) (fun n => ⟨fun _ => h2 n, fun z => absurd rfl z⟩))
  subst ex
  refine t_links hτ h0 (by omega) fun I2 L2 f g l => ?_
  have h := h1 c hc rfl I2 L2 g
  exact t_affected hτ l hc (by omega) h
theorem t_dependentCount (hτ : tw_ok τ) (h0 : tst τ I L B S H V O M W au ev) (x : Int32) {Q : Int32 → tw_I → tw_L → Prop} (hd : 8 ≤ d) (h1 : ∀ c : Nat, c < 240 → x = zi c → ∀ I2 L2, tst τ I2 L2 B S H V O M W au ev → Q (zi (cnt (fun x => dir S x c) 240)) I2 L2) (h2 : (¬ ∃ a : Nat, a < 240 ∧ x = zi a) → Q (zi (-1)) I L) : wp_c d 206 [.ref 1315, .int x] (tw τ I L) (ti τ Q) := by
  refine k206 hτ (by omega) (t_isCellX hτ x (by omega) (fun c hc ex => ⟨fun z => absurd z (by decide), fun _ => ?_⟩) (fun n => ⟨fun _ => h2 n, fun z => absurd rfl z⟩))
  subst ex
  refine t_links hτ h0 (by omega) fun I2 L2 f g l => ?_
  have h := h1 c hc rfl I2 L2 g
  have loop : ∀ (x : Nat) J K, x ≤ 240 → (J = I2 ∧ K = L2) → wp_r (d - 1) 206 (17, [.ref 1315, .int (zi c), .int (zi (cnt (fun x => dir S x c) x)), .int (zi x)], [], tw τ J K) (ti τ Q) := by
    refine up_ind 240 (W := fun x J K => wp_r (d - 1) 206 (17, [.ref 1315, .int (zi c), .int (zi (cnt (fun x => dir S x c) x)), .int (zi x)], [], tw τ J K) (ti τ Q)) (P := fun x J K => J = I2 ∧ K = L2) (fun J K hP => ?_) (fun x J K hx hP ih => ?_)
    · obtain ⟨rfl, rfl⟩ := hP
      exact k206_17 hτ (by omega) ⟨fun z => absurd z (by decide), fun _ => h⟩
    · obtain ⟨rfl, rfl⟩ := hP
      have go := ih _ _ ⟨rfl, rfl⟩
      rw [show cnt (fun x => dir S x c) (x + 1) = cnt (fun x => dir S x c) x + (if dir S x c = true then 1 else 0) from rfl] at go
      refine k206_17 hτ (by omega) ?_
      rw [zi_lt (by omega) (by omega) (by omega) (by omega), zn_a x 1 1 rfl, zn_a _ 1 1 rfl, zn_a _ 0 0 rfl]
      refine ⟨fun _ => t_hasB hτ l.1 (.inl rfl) hx hc (by omega) ?_, fun z => absurd (by omega) z⟩
      cases q : dir S x c with
      | false => rw [q] at go; exact ⟨fun _ => go, fun z => absurd rfl z⟩
      | true => rw [q] at go; exact ⟨fun z => absurd z (by decide), fun _ => go⟩
  exact loop 0 I2 L2 (by omega) ⟨rfl, rfl⟩
theorem t_cyclicCount (hτ : tw_ok τ) (h0 : tst τ I L B S H V O M W au ev) {Q : Int32 → tw_I → tw_L → Prop} (hd : 8 ≤ d) (h1 : ∀ I2 L2, tst τ I2 L2 B S H V O M W au ev → Q (zi (cnt (fun x => rch S x x) 240)) I2 L2) : wp_c d 202 [.ref 1315] (tw τ I L) (ti τ Q) := by
  refine k202 hτ (by omega) (t_links hτ h0 (by omega) fun I2 L2 f g l => ?_)
  have h := h1 I2 L2 g
  have loop : ∀ (x : Nat) J K, x ≤ 240 → (J = I2 ∧ K = L2) → wp_r (d - 1) 202 (8, [.ref 1315, .int (zi (cnt (fun x => rch S x x) x)), .int (zi x)], [], tw τ J K) (ti τ Q) := by
    refine up_ind 240 (W := fun x J K => wp_r (d - 1) 202 (8, [.ref 1315, .int (zi (cnt (fun x => rch S x x) x)), .int (zi x)], [], tw τ J K) (ti τ Q)) (P := fun x J K => J = I2 ∧ K = L2) (fun J K hP => ?_) (fun x J K hx hP ih => ?_)
    · obtain ⟨rfl, rfl⟩ := hP
      exact k202_8 hτ (by omega) ⟨fun z => absurd z (by decide), fun _ => h⟩
    · obtain ⟨rfl, rfl⟩ := hP
      have go := ih _ _ ⟨rfl, rfl⟩
      rw [show cnt (fun x => rch S x x) (x + 1) = cnt (fun x => rch S x x) x + (if rch S x x = true then 1 else 0) from rfl] at go
      refine k202_8 hτ (by omega) ?_
      rw [zi_lt (by omega) (by omega) (by omega) (by omega), zn_a x 1 1 rfl, zn_a _ 1 1 rfl, zn_a _ 0 0 rfl]
      refine ⟨fun _ => t_isCyclic hτ l hx (by omega) ?_, fun z => absurd (by omega) z⟩
      cases q : rch S x x with
      | false => rw [q] at go; exact ⟨fun _ => go, fun z => absurd rfl z⟩
      | true => rw [q] at go; exact ⟨fun z => absurd z (by decide), fun _ => go⟩
  exact loop 0 I2 L2 (by omega) ⟨rfl, rfl⟩
theorem t_rngX (hτ : tw_ok τ) (x : Int32) {a b : Nat} (hab : a < 1000 ∧ b < 1000) {Q : Int32 → tw_I → tw_L → Prop} (hd : 1 ≤ d) (h1 : ∀ n : Nat, a ≤ n → n ≤ b → x = zi n → Q (zi 1) I L) (h2 : (¬ ∃ n : Nat, a ≤ n ∧ n ≤ b ∧ x = zi n) → Q (zi 0) I L) : wp_c d 225 [.long x.toInt64, .long (zl a), .long (zl b)] (tw τ I L) (ti τ Q) := by
  have hx := zi_rng x
  have ex := zi_self x
  rw [← ex, zi_l hx.1 hx.2]
  refine t_in hτ hx ⟨by omega, by omega⟩ ⟨by omega, by omega⟩ hd ?_
  by_cases z : (a : Int) ≤ x.toInt ∧ x.toInt ≤ b
  · rw [decide_eq_true z]
    exact h1 x.toInt.toNat (by omega) (by omega) (by rw [← ex]; congr 1; rw [ex]; omega)
  · rw [decide_eq_false z]
    refine h2 fun ⟨n, n1, n2, e⟩ => z ?_
    have : x.toInt = n := by rw [e, zi_toInt (by omega) (by omega)]
    omega
theorem t_contentCount (hτ : tw_ok τ) (h0 : tst τ I L B S H V O M W au ev) (y : Int32) {Q : Int32 → tw_I → tw_L → Prop} (hd : 2 ≤ d) (h1 : ∀ t : Nat, 1 ≤ t → t ≤ 2 → y = zi t → Q (zi (cnt (fun x => decide (cty (S.1 x) = t)) 240)) I L) (h2 : (¬ ∃ n : Nat, 1 ≤ n ∧ n ≤ 2 ∧ y = zi n) → Q (zi (-1)) I L) : wp_c d 194 [.ref 1315, .int y] (tw τ I L) (ti τ Q) := by
  refine k194 hτ (by omega) (t_rngX (a := 1) (b := 2) hτ y ⟨by omega, by omega⟩ (by omega) (fun t t1 t2 ey => ⟨fun z => absurd z (by decide), fun _ => ?_⟩) (fun n => ⟨fun _ => h2 n, fun z => absurd rfl z⟩))
  subst ey
  have h := h1 t t1 t2 rfl
  have loop : ∀ (x : Nat) J K, x ≤ 240 → (J = I ∧ K = L) → wp_r (d - 1) 194 (18, [.ref 1315, .int (zi t), .int (zi (cnt (fun x => decide (cty (S.1 x) = t)) x)), .int (zi x)], [], tw τ J K) (ti τ Q) := by
    refine up_ind 240 (W := fun x J K => wp_r (d - 1) 194 (18, [.ref 1315, .int (zi t), .int (zi (cnt (fun x => decide (cty (S.1 x) = t)) x)), .int (zi x)], [], tw τ J K) (ti τ Q)) (P := fun x J K => J = I ∧ K = L) (fun J K hP => ?_) (fun x J K hx hP ih => ?_)
    · obtain ⟨rfl, rfl⟩ := hP
      exact k194_18 hτ (by omega) ⟨fun z => absurd z (by decide), fun _ => h⟩
    · obtain ⟨rfl, rfl⟩ := hP
      have go := ih _ _ ⟨rfl, rfl⟩
      rw [show cnt (fun x => decide (cty (S.1 x) = t)) (x + 1) = cnt (fun x => decide (cty (S.1 x) = t)) x + (if decide (cty (S.1 x) = t) = true then 1 else 0) from rfl] at go
      refine k194_18 hτ (by omega) ?_
      rw [zi_lt (by omega) (by omega) (by omega) (by omega), zn_a x 1 1 rfl, zn_a _ 1 1 rfl, zn_a _ 0 0 rfl]
      have l3 := cty_lt (S.1 x)
      rw [zn_ix (by omega), h0.ty hx, zi_eq (by omega) (by omega) (by omega) (by omega)]
      refine ⟨fun _ => ⟨zn_in (show x < 2400 by omega) (by omega), fun z => ?_, fun z => ?_⟩, fun z => absurd (by omega) z⟩
      · rw [decide_eq_true (by omega)] at go
        exact go
      · rw [decide_eq_false (by omega)] at go
        exact go
  exact loop 0 I L (by omega) ⟨rfl, rfl⟩
theorem t_errorCount (hτ : tw_ok τ) (h0 : tst τ I L B S H V O M W au ev) (y : Int32) {Q : Int32 → tw_I → tw_L → Prop} (hd : 2 ≤ d) (h1 : ∀ t : Nat, t ≤ 8 → y = zi t → Q (zi (cnt (fun x => decide ((V x).1 = 2) && (decide (t = 0) || decide ((V x).2 = zl t))) 240)) I L) (h2 : (¬ ∃ n : Nat, 0 ≤ n ∧ n ≤ 8 ∧ y = zi n) → Q (zi (-1)) I L) : wp_c d 212 [.ref 1315, .int y] (tw τ I L) (ti τ Q) := by
  refine k212 hτ (by omega) (t_rngX (a := 0) (b := 8) hτ y ⟨by omega, by omega⟩ (by omega) (fun t t1 t2 ey => ⟨fun z => absurd z (by decide), fun _ => ?_⟩) (fun n => ⟨fun _ => h2 n, fun z => absurd rfl z⟩))
  subst ey
  have h := h1 t t2 rfl
  have loop : ∀ (x : Nat) J K, x ≤ 240 → (J = I ∧ K = L) → wp_r (d - 1) 212 (18, [.ref 1315, .int (zi t), .int (zi (cnt (fun x => (decide ((V x).1 = 2) && (decide (t = 0) || decide ((V x).2 = zl t)))) x)), .int (zi x)], [], tw τ J K) (ti τ Q) := by
    refine up_ind 240 (W := fun x J K => wp_r (d - 1) 212 (18, [.ref 1315, .int (zi t), .int (zi (cnt (fun x => (decide ((V x).1 = 2) && (decide (t = 0) || decide ((V x).2 = zl t)))) x)), .int (zi x)], [], tw τ J K) (ti τ Q)) (P := fun x J K => J = I ∧ K = L) (fun J K hP => ?_) (fun x J K hx hP ih => ?_)
    · obtain ⟨rfl, rfl⟩ := hP
      exact k212_18 hτ (by omega) ⟨fun z => absurd z (by decide), fun _ => h⟩
    · obtain ⟨rfl, rfl⟩ := hP
      have go := ih _ _ ⟨rfl, rfl⟩
      rw [show cnt (fun x => (decide ((V x).1 = 2) && (decide (t = 0) || decide ((V x).2 = zl t)))) (x + 1) = cnt (fun x => (decide ((V x).1 = 2) && (decide (t = 0) || decide ((V x).2 = zl t)))) x + (if (decide ((V x).1 = 2) && (decide (t = 0) || decide ((V x).2 = zl t))) = true then 1 else 0) from rfl] at go
      refine k212_18 hτ (by omega) ?_
      rw [zi_lt (by omega) (by omega) (by omega) (by omega), zn_a x 1 1 rfl, zn_a _ 1 1 rfl, zn_a _ 0 0 rfl]
      obtain ⟨v1, v2, v3⟩ := h0.v1 hx
      have v4 := vok_le v3
      rw [zn_ix (by omega), v1, v2, zi_l (by omega) (by omega), zi_eq (by omega) (by omega) (by omega) (by omega), zi_eq (by omega) (by omega) (by omega) (by omega)]
      refine ⟨fun _ => ⟨zn_in hx (by omega), fun z => ⟨fun z2 => ?_, fun z2 => ⟨fun z3 => ?_, fun z3 => ?_⟩⟩, fun z => ?_⟩, fun z => absurd (by omega) z⟩
      · rw [if_pos (by rw [decide_eq_true (show (V x).1 = 2 by omega), decide_eq_true (show t = 0 by omega)]; rfl)] at go
        exact go
      · rw [if_pos (by rw [decide_eq_true (show (V x).1 = 2 by omega), decide_eq_true z3, Bool.or_true]; rfl)] at go
        exact go
      · rw [if_neg (by rw [decide_eq_false (show ¬ t = 0 by omega), decide_eq_false z3]; simp)] at go
        exact go
      · rw [if_neg (by rw [decide_eq_false (show ¬ (V x).1 = 2 by omega)]; simp)] at go
        exact go
  exact loop 0 I L (by omega) ⟨rfl, rfl⟩
theorem t_digest (hτ : tw_ok τ) (h0 : tst τ I L B S H V O M W au ev) {Q : Int64 → tw_I → tw_L → Prop} (hd : 1 ≤ d) (h : Q (dgst V 240) I L) : wp_c d 207 [.ref 1315] (tw τ I L) (tl τ Q) := by
  refine k207 hτ hd ?_
  have loop : ∀ (x : Nat) J K, x ≤ 240 → (J = I ∧ K = L) → wp_r (d - 1) 207 (6, [.ref 1315, .long (dgst V x), .retAddr 0, .int (zi x)], [], tw τ J K) (tl τ Q) := by
    refine up_ind 240 (W := fun x J K => wp_r (d - 1) 207 (6, [.ref 1315, .long (dgst V x), .retAddr 0, .int (zi x)], [], tw τ J K) (tl τ Q)) (P := fun x J K => J = I ∧ K = L) (fun J K hP => ?_) (fun x J K hx hP ih => ?_)
    · obtain ⟨rfl, rfl⟩ := hP
      exact k207_6 hτ ⟨fun z => absurd z (by decide), fun _ => h⟩
    · obtain ⟨rfl, rfl⟩ := hP
      obtain ⟨v1, v2, v3⟩ := h0.v1 hx
      have v4 := vok_le v3
      refine k207_6 hτ ?_
      rw [zi_lt (by omega) (by omega) (by omega) (by omega), zn_ix (by omega), v1, v2, zi_l (by omega) (by omega), zn_a x 1 1 rfl]
      exact ⟨fun _ => ⟨zn_in hx (by omega), ih _ _ ⟨rfl, rfl⟩⟩, fun z => absurd (by omega) z⟩
  exact loop 0 I L (by omega) ⟨rfl, rfl⟩
theorem t_precedent (hτ : tw_ok τ) (h0 : tst τ I L B S H V O M W au ev) (x y : Int32) {Q : Int32 → tw_I → tw_L → Prop} (hd : 8 ≤ d) (h1 : ∀ c : Nat, c < 240 → x = zi c → ∀ I2 L2, tst τ I2 L2 B S H V O M W au ev → (∀ x : Nat, x < 240 → dir S c x = true → y = zi (cnt (fun x => dir S c x) x) → Q (zi x) I2 L2) ∧ ((¬ ∃ x : Nat, x < 240 ∧ dir S c x = true ∧ y = zi (cnt (fun x => dir S c x) x)) → Q (zi (-2)) I2 L2)) (h2 : (¬ ∃ a : Nat, a < 240 ∧ x = zi a) → Q (zi (-1)) I L) : wp_c d 282 [.ref 1315, .int x, .int y] (tw τ I L) (ti τ Q) := by
  refine k282 hτ (by omega) (t_isCellX hτ x (by omega) (fun c hc ex => ⟨fun z => absurd z (by decide), fun _ => ?_⟩) (fun n => ⟨fun _ => h2 n, fun z => absurd rfl z⟩))
  subst ex
  refine t_links hτ h0 (by omega) fun I2 L2 f g l => ?_
  have h := h1 c hc rfl I2 L2 g
  have loop : ∀ (x : Nat) J K, x ≤ 240 → (J = I2 ∧ K = L2 ∧ ∀ e, e < x → (fun x => dir S c x) e = true → y ≠ zi (cnt (fun x => dir S c x) e)) → wp_r (d - 1) 282 (18, [.ref 1315, .int (zi c), .int y, .int (zi (cnt (fun x => dir S c x) x)), .int (zi x)], [], tw τ J K) (ti τ Q) := by
    refine up_ind 240 (W := fun x J K => wp_r (d - 1) 282 (18, [.ref 1315, .int (zi c), .int y, .int (zi (cnt (fun x => dir S c x) x)), .int (zi x)], [], tw τ J K) (ti τ Q)) (P := fun x J K => J = I2 ∧ K = L2 ∧ ∀ e, e < x → (fun x => dir S c x) e = true → y ≠ zi (cnt (fun x => dir S c x) e)) (fun J K hP => ?_) (fun x J K hx hP ih => ?_)
    · obtain ⟨rfl, rfl, hn⟩ := hP
      exact k282_18 hτ (by omega) ⟨fun z => absurd z (by decide), fun _ => h.2 fun ⟨e, he, p, q⟩ => hn e he p q⟩
    · obtain ⟨rfl, rfl, hn⟩ := hP
      have go := ih J K
      rw [show cnt (fun x => dir S c x) (x + 1) = cnt (fun x => dir S c x) x + (if dir S c x = true then 1 else 0) from rfl] at go
      refine k282_18 hτ (by omega) ?_
      rw [zi_lt (by omega) (by omega) (by omega) (by omega), zn_a x 1 1 rfl, zn_a _ 1 1 rfl]
      refine ⟨fun _ => t_hasB hτ l.1 (.inl rfl) hc hx (by omega) ?_, fun z => absurd (by omega) z⟩
      cases q : dir S c x with
      | false =>
        rw [q] at go
        refine ⟨fun _ => go ⟨rfl, rfl, fun e he p => ?_⟩, fun z => absurd rfl z⟩
        by_cases ee : e = x
        · subst ee; simp only at p; rw [q] at p; cases p
        · exact hn e (by omega) p
      | true =>
        rw [q] at go
        refine ⟨fun z => absurd z (by decide), fun _ => ⟨fun z => h.1 x hx q z.symm, fun z => go ⟨rfl, rfl, fun e he p => ?_⟩⟩⟩
        by_cases ee : e = x
        · subst ee; exact fun w => z w.symm
        · exact hn e (by omega) p
  exact loop 0 I2 L2 (by omega) ⟨rfl, rfl, fun e he => absurd he (by omega)⟩
theorem t_dependent (hτ : tw_ok τ) (h0 : tst τ I L B S H V O M W au ev) (x y : Int32) {Q : Int32 → tw_I → tw_L → Prop} (hd : 8 ≤ d) (h1 : ∀ c : Nat, c < 240 → x = zi c → ∀ I2 L2, tst τ I2 L2 B S H V O M W au ev → (∀ x : Nat, x < 240 → dir S x c = true → y = zi (cnt (fun x => dir S x c) x) → Q (zi x) I2 L2) ∧ ((¬ ∃ x : Nat, x < 240 ∧ dir S x c = true ∧ y = zi (cnt (fun x => dir S x c) x)) → Q (zi (-2)) I2 L2)) (h2 : (¬ ∃ a : Nat, a < 240 ∧ x = zi a) → Q (zi (-1)) I L) : wp_c d 205 [.ref 1315, .int x, .int y] (tw τ I L) (ti τ Q) := by
  refine k205 hτ (by omega) (t_isCellX hτ x (by omega) (fun c hc ex => ⟨fun z => absurd z (by decide), fun _ => ?_⟩) (fun n => ⟨fun _ => h2 n, fun z => absurd rfl z⟩))
  subst ex
  refine t_links hτ h0 (by omega) fun I2 L2 f g l => ?_
  have h := h1 c hc rfl I2 L2 g
  have loop : ∀ (x : Nat) J K, x ≤ 240 → (J = I2 ∧ K = L2 ∧ ∀ e, e < x → (fun x => dir S x c) e = true → y ≠ zi (cnt (fun x => dir S x c) e)) → wp_r (d - 1) 205 (18, [.ref 1315, .int (zi c), .int y, .int (zi (cnt (fun x => dir S x c) x)), .int (zi x)], [], tw τ J K) (ti τ Q) := by
    refine up_ind 240 (W := fun x J K => wp_r (d - 1) 205 (18, [.ref 1315, .int (zi c), .int y, .int (zi (cnt (fun x => dir S x c) x)), .int (zi x)], [], tw τ J K) (ti τ Q)) (P := fun x J K => J = I2 ∧ K = L2 ∧ ∀ e, e < x → (fun x => dir S x c) e = true → y ≠ zi (cnt (fun x => dir S x c) e)) (fun J K hP => ?_) (fun x J K hx hP ih => ?_)
    · obtain ⟨rfl, rfl, hn⟩ := hP
      exact k205_18 hτ (by omega) ⟨fun z => absurd z (by decide), fun _ => h.2 fun ⟨e, he, p, q⟩ => hn e he p q⟩
    · obtain ⟨rfl, rfl, hn⟩ := hP
      have go := ih J K
      rw [show cnt (fun x => dir S x c) (x + 1) = cnt (fun x => dir S x c) x + (if dir S x c = true then 1 else 0) from rfl] at go
      refine k205_18 hτ (by omega) ?_
      rw [zi_lt (by omega) (by omega) (by omega) (by omega), zn_a x 1 1 rfl, zn_a _ 1 1 rfl]
      refine ⟨fun _ => t_hasB hτ l.1 (.inl rfl) hx hc (by omega) ?_, fun z => absurd (by omega) z⟩
      cases q : dir S x c with
      | false =>
        rw [q] at go
        refine ⟨fun _ => go ⟨rfl, rfl, fun e he p => ?_⟩, fun z => absurd rfl z⟩
        by_cases ee : e = x
        · subst ee; simp only at p; rw [q] at p; cases p
        · exact hn e (by omega) p
      | true =>
        rw [q] at go
        refine ⟨fun z => absurd z (by decide), fun _ => ⟨fun z => h.1 x hx q z.symm, fun z => go ⟨rfl, rfl, fun e he p => ?_⟩⟩⟩
        by_cases ee : e = x
        · subst ee; exact fun w => z w.symm
        · exact hn e (by omega) p
  exact loop 0 I2 L2 (by omega) ⟨rfl, rfl, fun e he => absurd he (by omega)⟩
theorem miL_le (S : Sh) (V : Nat → Vl) : ∀ n, (miL S V n).2 ≤ 240 ∧ ∀ b, (miL S V n).1 = some b → b < n := by
  intro n
  induction n with
  | zero => exact ⟨Nat.zero_le _, fun b h => by cases h⟩
  | succ n ih =>
    rw [miL]
    split
    · exact ⟨cnt_le _ 240, fun b h => by have := Option.some.inj h; omega⟩
    · exact ⟨ih.1, fun b h => by have := ih.2 b h; omega⟩
theorem t_mostInfluential (hτ : tw_ok τ) (h0 : tst τ I L B S H V O M W au ev) {Q : Int32 → tw_I → tw_L → Prop} (hd : 8 ≤ d) (h1 : ∀ I2 L2, tst τ I2 L2 B S H V O M W au ev → Q (opz (miL S V 240).1) I2 L2) : wp_c d 265 [.ref 1315] (tw τ I L) (ti τ Q) := by
  refine k265 hτ (by omega) (t_links hτ h0 (by omega) fun I2 L2 f g l => ?_)
  have h := h1 I2 L2 g
  have loop : ∀ (x : Nat) J K, x ≤ 240 → (J = I2 ∧ K = L2) → wp_r (d - 1) 265 (11, [.ref 1315, .int (opz (miL S V x).1), .int (zi (miL S V x).2), .int (zi x)], [], tw τ J K) (ti τ Q) := by
    refine up_ind 240 (W := fun x J K => wp_r (d - 1) 265 (11, [.ref 1315, .int (opz (miL S V x).1), .int (zi (miL S V x).2), .int (zi x)], [], tw τ J K) (ti τ Q)) (P := fun x J K => J = I2 ∧ K = L2) (fun J K hP => ?_) (fun x J K hx hP ih => ?_)
    · obtain ⟨rfl, rfl⟩ := hP
      exact k265_11 hτ (by omega) ⟨fun z => absurd z (by decide), fun _ => h⟩
    · obtain ⟨rfl, rfl⟩ := hP
      obtain ⟨v1, v2, v3⟩ := g.v1 hx
      have v4 := vok_le v3
      have go := ih _ _ ⟨rfl, rfl⟩
      rw [miL] at go
      obtain ⟨m1, m2⟩ := miL_le S V x
      have a1 : aff S x ≤ 240 := cnt_le _ 240
      refine k265_11 hτ (by omega) ?_
      rw [zi_lt (by omega) (by omega) (by omega) (by omega), zn_ix (by omega), v1, zi_eq (by omega) (by omega) (by omega) (by omega), zn_a x 1 1 rfl]
      refine ⟨fun _ => ⟨zn_in hx (by omega), fun z => ?_, fun z => ?_⟩, fun z => absurd (by omega) z⟩
      · cases hb : (miL S V x).1 with
        | none =>
          rw [if_pos ⟨by omega, .inl hb⟩] at go
          exact ⟨fun _ => t_affected hτ l hx (by omega) go, fun z => absurd z (by decide)⟩
        | some b =>
          have hb2 := m2 b hb
          have e : opz (some b) = zi b := rfl
          rw [e, zi_lt (by omega) (by omega) (by omega) (by omega)]
          refine ⟨fun z => absurd z (by omega), fun _ => t_affected hτ l hx (by omega) ?_⟩
          rw [zi_lt (by omega) (by omega) (by omega) (by omega)]
          refine ⟨fun y => t_affected hτ l hx (by omega) ?_, fun y => ?_⟩
          · rw [if_pos ⟨by omega, .inr (by omega)⟩] at go
            exact go
          · rw [if_neg (fun w => by rcases w.2 with q | q; rw [hb] at q; cases q; omega), hb] at go
            exact go
      · rw [if_neg (fun w => z (by have := w.1; omega))] at go
        exact go
  exact loop 0 I2 L2 (by omega) ⟨rfl, rfl⟩
end
