/-! THE TWIN: tokens of the buffer -/
/-- nothing changed outside W -/
def twf (W : Nat → Nat → Prop) (I : tw_I) (L : tw_L) (I2 : tw_I) (L2 : tw_L) : Prop := ∀ a i, ¬ W a i → I2 a i = I a i ∧ L2 a i = L a i
theorem twf.rf {W : Nat → Nat → Prop} {I : tw_I} {L : tw_L} : twf W I L I L := fun _ _ _ => ⟨rfl, rfl⟩
theorem twf.tr {W : Nat → Nat → Prop} {I I2 I3 : tw_I} {L L2 L3 : tw_L} (h : twf W I L I2 L2) (g : twf W I2 L2 I3 L3) : twf W I L I3 L3 := fun a i q => ⟨(g a i q).1.trans (h a i q).1, (g a i q).2.trans (h a i q).2⟩
theorem twf.wi {W V : Nat → Nat → Prop} {I I2 : tw_I} {L L2 : tw_L} (h : twf W I L I2 L2) (g : ∀ a i, W a i → V a i) : twf V I L I2 L2 := fun a i q => h a i (fun z => q (g a i z))
theorem twf.pI {W : Nat → Nat → Prop} {I I2 : tw_I} {L L2 : tw_L} (h : twf W I L I2 L2) {a i : Nat} (g : W a i) (v : Int32) : twf W I L (cm_u2 I2 a i v) L2 := fun b j q => by
  refine ⟨?_, (h b j q).2⟩
  unfold cm_u2
  rw [if_neg (fun z => q (by rw [z.1, z.2]; exact g))]
  exact (h b j q).1
theorem twf.pL {W : Nat → Nat → Prop} {I I2 : tw_I} {L L2 : tw_L} (h : twf W I L I2 L2) {a i : Nat} (g : W a i) (v : Int64) : twf W I L I2 (cm_u2 L2 a i v) := fun b j q => by
  refine ⟨(h b j q).1, ?_⟩
  unfold cm_u2
  rw [if_neg (fun z => q (by rw [z.1, z.2]; exact g))]
  exact (h b j q).2
def bok (B : List Nat) : Prop := ∀ (i x : Nat), B[i]? = some x → x < 256
theorem tbf.bok {I : tw_I} {B : List Nat} (h : tbf I B) : bok B := fun i x hx => (h.2.2 i x hx).2
theorem tbf.kept {W : Nat → Nat → Prop} {I I2 : tw_I} {L L2 : tw_L} {B : List Nat} (h : tbf I B) (f : twf W I L I2 L2) (w1 : ¬ W 1315 18) (w2 : ∀ i, ¬ W 1330 i) : tbf I2 B := ⟨by rw [(f 1315 18 w1).1]; exact h.1, h.2.1, fun i x hx => ⟨by rw [(f 1330 i (w2 i)).1]; exact (h.2.2 i x hx).1, (h.2.2 i x hx).2⟩⟩
theorem cb_eq {e : Int} (he : -3 ≤ e ∧ e < 0) {B : List Nat} (hB : bok B) {k : Nat} {c : Int} (hc : 0 ≤ c ∧ c < 256) : zi (cb e B k) = zi c ↔ (by_ B k : Int) = c := by
  unfold cb by_
  cases h : B[k]? with
  | none =>
    simp only [Option.getD_none]
    rw [zi_eq (by omega) (by omega) (by omega) (by omega)]
    omega
  | some x =>
    have := hB k x h
    simp only [Option.getD_some]
    rw [zi_eq (by omega) (by omega) (by omega) (by omega)]
theorem cb_no {e : Int} (he : -3 ≤ e ∧ e < 0) {B : List Nat} (hB : bok B) {k : Nat} : zi (cb e B k) = zi e ↔ by_ B k = 300 := by
  unfold cb by_
  cases h : B[k]? with
  | none => simp
  | some x =>
    have := hB k x h
    simp only [Option.getD_some]
    rw [zi_eq (by omega) (by omega) (by omega) (by omega)]
    omega
theorem by_lt {B : List Nat} (hB : bok B) {k : Nat} (h : by_ B k ≠ 300) : by_ B k < 256 ∧ k < B.length := by
  unfold by_ at *
  cases hk : B[k]? with
  | none => rw [hk] at h; exact absurd rfl h
  | some x => exact ⟨hB k x hk, (List.getElem?_eq_some_iff.mp hk).1⟩
theorem by_le {B : List Nat} (hB : bok B) (k : Nat) : by_ B k ≤ 300 := by
  by_cases h : by_ B k = 300
  · omega
  · have := (by_lt hB h).1; omega
theorem cb_in {e : Int} (he : -3 ≤ e ∧ e < 0) {B : List Nat} {k : Nat} {lo hi : Nat} (P : Nat → Bool) (hP : ∀ x, P x = (Nat.ble lo x && Nat.ble x hi)) : decide ((lo : Int) ≤ cb e B k ∧ cb e B k ≤ hi) = atB P B k := by
  unfold cb atB
  cases h : B[k]? with
  | none => simp only [decide_eq_false_iff_not]; omega
  | some x =>
    simp only [hP]
    by_cases q : lo ≤ x ∧ x ≤ hi
    · rw [decide_eq_true (by omega), Nat.ble_eq.mpr q.1, Nat.ble_eq.mpr q.2]; rfl
    · rw [decide_eq_false (by omega)]
      symm
      rw [Bool.and_eq_false_iff]
      by_cases q1 : lo ≤ x
      · right
        exact Bool.eq_false_iff.mpr (fun z => q ⟨q1, Nat.ble_eq.mp z⟩)
      · left
        exact Bool.eq_false_iff.mpr (fun z => q1 (Nat.ble_eq.mp z))
theorem atB_by {P : Nat → Bool} {B : List Nat} (hB : bok B) (h3 : P 300 = false) (k : Nat) : atB P B k = P (by_ B k) := by
  unfold atB by_
  cases h : B[k]? with
  | none => simp [h3]
  | some x => rfl
section
variable {τ : tw_K} {I : tw_I} {L : tw_L} {d : Nat} {B : List Nat}
theorem t_isDigit (hτ : tw_ok τ) {k : Nat} (hk : k < 1000000) (hB : tbf I B) {Q : Int32 → tw_I → tw_L → Prop} (hd : 2 ≤ d) (h : Q (bz (atB isDg B k)) I L) : wp_c d 235 [.ref 1315, .int (zi k)] (tw τ I L) (ti τ Q) := by
  refine k235 hτ hd (t_byteAt hτ hk hB (by omega) ?_)
  have r := cb_rng (-2) (by omega) hB.bok k
  rw [zi_l (by omega) (by omega)]
  refine t_in hτ (by omega) (by omega) (by omega) (by omega) ⟨bz_fit _, ?_⟩
  rw [← cb_in (e := -2) (by omega) (lo := 48) (hi := 57) isDg (fun x => rfl)] at h
  exact h
theorem t_isSmall (hτ : tw_ok τ) {k : Nat} (hk : k < 1000000) (hB : tbf I B) {Q : Int32 → tw_I → tw_L → Prop} (hd : 2 ≤ d) (h : Q (bz (atB isSm B k)) I L) : wp_c d 245 [.ref 1315, .int (zi k)] (tw τ I L) (ti τ Q) := by
  refine k245 hτ hd (t_byteAt hτ hk hB (by omega) ?_)
  have r := cb_rng (-2) (by omega) hB.bok k
  rw [zi_l (by omega) (by omega)]
  refine t_in hτ (by omega) (by omega) (by omega) (by omega) ⟨bz_fit _, ?_⟩
  rw [← cb_in (e := -2) (by omega) (lo := 97) (hi := 122) isSm (fun x => rfl)] at h
  exact h
theorem t_isCapital (hτ : tw_ok τ) {k : Nat} (hk : k < 1000000) (hB : tbf I B) {Q : Int32 → tw_I → tw_L → Prop} (hd : 2 ≤ d) (h : Q (bz (atB isCa B k)) I L) : wp_c d 232 [.ref 1315, .int (zi k)] (tw τ I L) (ti τ Q) := by
  refine k232 hτ hd (t_byteAt hτ hk hB (by omega) ?_)
  have r := cb_rng (-2) (by omega) hB.bok k
  rw [zi_l (by omega) (by omega)]
  refine t_in hτ (by omega) (by omega) (by omega) (by omega) ⟨bz_fit _, ?_⟩
  rw [← cb_in (e := -2) (by omega) (lo := 65) (hi := 90) isCa (fun x => rfl)] at h
  exact h
/-- what look() writes -/
def LW (a i : Nat) : Prop := a = 1315 ∧ (i = 20 ∨ i = 21 ∨ i = 22 ∨ i = 26)
theorem LW_b : ¬ LW 1315 18 ∧ ∀ i, ¬ LW 1330 i := by
  unfold LW; constructor
  · omega
  · intro i; omega
/-- the token at hand -/
def tlx (I : tw_I) (L : tw_L) (t : Tk) : Prop := I 1315 20 = zi t.1 ∧ I 1315 22 = zi t.2.1 ∧ L 1315 26 = zl t.2.2.1 ∧ I 1315 21 = zi t.2.2.2
theorem t_tells (hτ : tw_ok τ) {b k v e : Nat} (hb : I 1315 20 = zi b) {x1 : Int32} {x2 : Int64} {x4 : Int32} (h1 : x1 = zi k) (h2 : x2 = zl v) (h4 : x4 = zi e) {Q : tw_I → tw_L → Prop} (hd : 1 ≤ d) (h : ∀ I2 L2, twf LW I L I2 L2 → tlx I2 L2 (b, k, v, e) → Q I2 L2) : wp_c d 321 [.ref 1315, .int x1, .long x2, .int x4] (tw τ I L) (tv τ Q) := by
  subst h1; subst h2; subst h4
  refine k321 hτ hd ?_
  rintro I1 rfl L2 rfl I3 rfl
  refine h _ _ (((twf.rf.pI (by unfold LW; omega) _).pL (by unfold LW; omega) _).pI (by unfold LW; omega) _) ⟨?_, ?_, ?_, ?_⟩
  · rw [u2_nj _ _ _ _ _ (by omega), u2_nj _ _ _ _ _ (by omega)]; exact hb
  · rw [u2_nj _ _ _ _ _ (by omega), u2_same]
  · rw [u2_same]
  · rw [u2_same]
theorem nvg_lt {b k v : Nat} (hb : b ≤ k) (hv : k - b ≤ 9 → v < 10 ^ (k - b)) (hv9 : v < 1000000000) {x : Nat} (h1 : 48 ≤ x) (h2 : x ≤ 57) : (k + 1 - b ≤ 9 → nvg b k x v < 10 ^ (k + 1 - b)) ∧ nvg b k x v < 1000000000 := by
  unfold nvg
  by_cases q : k - b < 9
  · rw [if_pos q]
    have h3 := hv (by omega)
    have h4 : k + 1 - b = (k - b) + 1 := by omega
    have h5 : 10 ^ (k + 1 - b) = 10 ^ (k - b) * 10 := by rw [h4, Nat.pow_succ]
    have h6 : 10 ^ (k - b) ≤ 10 ^ 8 := Nat.pow_le_pow_right (by omega) (by omega)
    refine ⟨fun _ => ?_, ?_⟩ <;> omega
  · rw [if_neg q]
    exact ⟨fun h => by omega, hv9⟩
theorem atB_rng {P : Nat → Bool} {lo hi : Nat} (hP : ∀ x, P x = (Nat.ble lo x && Nat.ble x hi)) {k : Nat} (h : atB P B k = true) : lo ≤ by_ B k ∧ by_ B k ≤ hi ∧ cb (-2) B k = by_ B k ∧ k < B.length := by
  have hl := atB_lt h
  unfold atB at h
  unfold by_ cb
  rw [List.getElem?_eq_getElem hl] at h ⊢
  simp only [hP, Bool.and_eq_true, Nat.ble_eq] at h
  exact ⟨h.1, h.2, rfl, hl⟩
theorem t_lookNumber_loop (hτ : tw_ok τ) (hB : tbf I B) {b : Nat} (hb : I 1315 20 = zi b) {Q : tw_I → tw_L → Prop} (hd : 2 ≤ d)
    (h : ∀ I2 L2, twf LW I L I2 L2 → tlx I2 L2 (b, if 9 < rn isDg B b - b then 7 else 1, nv B b, rn isDg B b) → Q I2 L2) :
    ∀ n k v, B.length - k = n → b ≤ k → k ≤ B.length → (k - b ≤ 9 → v < 10 ^ (k - b)) → v < 1000000000 → rn isDg B k = rn isDg B b → lp isDg (nvg b) B k v = nv B b → wp_r d 258 (7, [.ref 1315, .int (zi k), .long (zl v), .retAddr 0], [], tw τ I L) (tv τ Q) := by
  have hlen := hB.2.1
  intro n
  induction n with
  | zero =>
    intro k v hn hbk hk hv hv9 hr hl
    have hno : atB isDg B k = false := by
      cases q : atB isDg B k with
      | false => rfl
      | true => have := atB_lt q; omega
    refine k258_7 hτ (by omega) (t_isDigit hτ (by omega) hB hd ?_)
    rw [hno]
    rw [rn_step, hno] at hr
    rw [lp_step, hno] at hl
    refine ⟨fun _ => ?_, fun q => absurd rfl q⟩
    have hr : k = rn isDg B b := hr
    have hl : v = nv B b := hl
    subst hl
    rw [hb, zi_sub, zi_lt (by omega) (by omega) (by omega) (by omega)]
    refine ⟨fun q => ?_, fun q => ?_⟩
    · rw [if_pos (by omega)] at h
      exact t_tells hτ (k := 7) (e := rn isDg B b) hb rfl rfl (by rw [hr]) (by omega) h
    · rw [if_neg (by omega)] at h
      exact t_tells hτ (k := 1) (e := rn isDg B b) hb rfl rfl (by rw [hr]) (by omega) h
  | succ n ih =>
    intro k v hn hbk hk hv hv9 hr hl
    refine k258_7 hτ (by omega) (t_isDigit hτ (by omega) hB hd ?_)
    cases q : atB isDg B k with
    | false =>
      rw [rn_step, q] at hr
      rw [lp_step, q] at hl
      refine ⟨fun _ => ?_, fun q => absurd rfl q⟩
      have hr : k = rn isDg B b := hr
      have hl : v = nv B b := hl
      subst hl
      rw [hb, zi_sub, zi_lt (by omega) (by omega) (by omega) (by omega)]
      refine ⟨fun q => ?_, fun q => ?_⟩
      · rw [if_pos (by omega)] at h
        exact t_tells hτ (k := 7) (e := rn isDg B b) hb rfl rfl (by rw [hr]) (by omega) h
      · rw [if_neg (by omega)] at h
        exact t_tells hτ (k := 1) (e := rn isDg B b) hb rfl rfl (by rw [hr]) (by omega) h
    | true =>
      obtain ⟨g1, g2, g3, g4⟩ := atB_rng (lo := 48) (hi := 57) (fun x => rfl) q
      rw [rn_step, q] at hr
      rw [lp_step, q] at hl
      have hr : rn isDg B (k + 1) = rn isDg B b := hr
      have hl : lp isDg (nvg b) B (k + 1) (nvg b k (by_ B k) v) = nv B b := hl
      obtain ⟨n1, n2⟩ := nvg_lt hbk hv hv9 g1 g2
      refine ⟨fun z => absurd z (by decide), fun _ => ?_⟩
      rw [hb, zi_sub, zi_lt (by omega) (by omega) (by omega) (by omega)]
      have go := ih (k + 1) (nvg b k (by_ B k) v) (by omega) (by omega) (by omega) n1 n2 hr hl
      rw [show ((k + 1 : Nat) : Int) = (k : Int) + 1 by omega, ← zi_add] at go
      refine ⟨fun z => ?_, fun z => ?_⟩
      · refine t_byteAt hτ (by omega) hB (by omega) ?_
        rw [g3, zi_l (by omega) (by omega), zl_mul, zl_add, zl_sub]
        unfold nvg at go
        rw [if_pos (by omega), show ((10 * v + by_ B k - 48 : Nat) : Int) = 10 * (v : Int) + by_ B k - 48 by omega] at go
        exact go
      · unfold nvg at go
        rw [if_neg (by omega)] at go
        exact go
theorem t_lookNumber (hτ : tw_ok τ) (hB : tbf I B) {b : Nat} (hb : I 1315 20 = zi b) (hbl : b ≤ B.length) {Q : tw_I → tw_L → Prop} (hd : 3 ≤ d)
    (h : ∀ I2 L2, twf LW I L I2 L2 → tlx I2 L2 (b, if 9 < rn isDg B b - b then 7 else 1, nv B b, rn isDg B b) → Q I2 L2) : wp_c d 258 [.ref 1315] (tw τ I L) (tv τ Q) := by
  refine k258 hτ (by omega) ?_
  rw [hb]
  exact t_lookNumber_loop hτ hB hb (by omega) h (B.length - b) b 0 rfl (Nat.le_refl _) hbl (fun _ => by simp) (by omega) rfl rfl
end
