/-! THE TWIN: its whole state; setCell -/
/-- the buffer as a number -/
def psN (B : List Nat) : Nat ⊕ Int :=
  let b := if by_ B 0 = 45 then 1 else 0
  if 9 < rn isDg B b - b then .inl b else if rn isDg B b = b ∨ rn isDg B b < B.length then .inl (rn isDg B b) else .inr (if b = 1 then -(nv B b : Int) else nv B b)
/-- the buffer as a content -/
def psC (B : List Nat) : Nat ⊕ Cn :=
  if B.length = 0 then .inr none else if by_ B 0 = 61 then (match psF B with
    | .inl e => .inl e
    | .inr (t, _) => .inr (some (.inr t))) else (match psN B with
    | .inl e => .inl e
    | .inr n => .inr (some (.inl n)))
def up1 {α : Type} (f : Nat → α) (c : Nat) (v : α) : Nat → α := fun i => if i = c then v else f i
theorem up_s {α : Type} (f : Nat → α) (c : Nat) (v : α) : up1 f c v c = v := if_pos rfl
theorem up_n {α : Type} (f : Nat → α) (c : Nat) (v : α) {i : Nat} (h : i ≠ c) : up1 f c v i = f i := if_neg h
/-- a value that may be -/
def vok (v : Vl) : Prop := (v.1 = 0 ∧ v.2 = zl 0) ∨ v.1 = 1 ∨ (v.1 = 2 ∧ ∃ e : Nat, v.2 = zl e ∧ 1 ≤ e ∧ e ≤ 8)
def tvl (a b : Nat) (I : tw_I) (L : tw_L) (V : Nat → Vl) : Prop := ∀ c, c < 240 → I a c = zi (V c).1 ∧ L b c = (V c).2 ∧ vok (V c)
def tmk (a : Nat) (I : tw_I) (M : Nat → Bool) : Prop := ∀ c, c < 240 → I a c = bz (M c)
/-- what is fixed: the constants; all that isn't the twin's is as τ has it -/
def tcf (τ : tw_K) (I : tw_I) (L : tw_L) : Prop := tcs τ I ∧ ∀ a i, ¬ (1315 ≤ a ∧ a < 1346) → I a i = τ.2.2.2.2.2.1 a i ∧ L a i = τ.2.2.2.2.2.2 a i
theorem tcf.kept {τ : tw_K} (hτ : tw_ok τ) {W : Nat → Nat → Prop} (hW : twI W) {I I2 : tw_I} {L L2 : tw_L} (h : tcf τ I L) (f : twf W I L I2 L2) : tcf τ I2 L2 :=
  ⟨h.1.kept hτ hW f, fun a i q => ⟨(f a i fun z => q (hW a i z)).1.trans (h.2 a i q).1, (f a i fun z => q (hW a i z)).2.trans (h.2 a i q).2⟩⟩
def tst (τ : tw_K) (I : tw_I) (L : tw_L) (B : List Nat) (S : Sh) (H : List Sh) (V O : Nat → Vl) (M W : Nat → Bool) (au : Bool) (ev : Nat) : Prop :=
  tcf τ I L ∧ tbf I B ∧ tsh I L 0 S ∧ thi I L H ∧ tvl 1324 1325 I L V ∧ tvl 1326 1327 I L O ∧ tmk 1328 I M ∧ tmk 1329 I W ∧ I 1315 15 = bz au ∧ I 1315 16 = zi ev ∧ ev ≤ 240
theorem tvl.kept {W : Nat → Nat → Prop} {I I2 : tw_I} {L L2 : tw_L} {a b : Nat} {V : Nat → Vl} (h : tvl a b I L V) (f : twf W I L I2 L2) (h1 : ∀ c, ¬ W a c) (h2 : ∀ c, ¬ W b c) : tvl a b I2 L2 V := fun c hc => by
  rw [(f a c (h1 c)).1, (f b c (h2 c)).2]; exact h c hc
theorem tmk.kept {W : Nat → Nat → Prop} {I I2 : tw_I} {L L2 : tw_L} {a : Nat} {M : Nat → Bool} (h : tmk a I M) (f : twf W I L I2 L2) (h1 : ∀ c, ¬ W a c) : tmk a I2 M := fun c hc => by
  rw [(f a c (h1 c)).1]; exact h c hc
theorem thi.kept {W : Nat → Nat → Prop} {I I2 : tw_I} {L L2 : tw_L} {H : List Sh} (h : thi I L H) (f : twf W I L I2 L2) (h0 : ¬ W 1315 8) (h1 : ∀ k, 1 ≤ k → ∀ a i, W a i → ¬ KW k a i) : thi I2 L2 H := by
  refine ⟨by rw [(f _ _ h0).1]; exact h.1, h.2.1, fun i S hS => ?_⟩
  have hi := (List.getElem?_eq_some_iff.mp hS).1
  exact (h.2.2 i S hS).kept f (h1 _ (by omega))
/-- scratch -/
def XW (a i : Nat) : Prop := (a = 1315 ∧ i ≠ 8 ∧ i ≠ 15 ∧ i ≠ 16 ∧ i ≠ 18) ∨ (1331 ≤ a ∧ a < 1346)
theorem PW_XW (a i : Nat) (h : PW a i) : XW a i := by unfold PW at h; unfold XW; omega
section
variable {τ : tw_K} {I : tw_I} {L : tw_L} {d : Nat} {B : List Nat} {S : Sh} {H : List Sh} {V O : Nat → Vl} {M W : Nat → Bool} {au : Bool} {ev : Nat}
theorem tst.kept (hτ : tw_ok τ) {I2 : tw_I} {L2 : tw_L} (h : tst τ I L B S H V O M W au ev) (f : twf XW I L I2 L2) : tst τ I2 L2 B S H V O M W au ev := by
  obtain ⟨h1, h2, h3, h4, h5, h6, h7, h8, h9, h10, h11⟩ := h
  exact ⟨h1.kept hτ (fun a i z => by unfold XW at z; omega) f, h2.kept f (by unfold XW; omega) (fun i => by unfold XW; omega), h3.kept f (fun a i z => by unfold XW at z; unfold KW; omega), h4.kept f (by unfold XW; omega) (fun k hk a i z => by unfold XW at z; unfold KW; omega),
    h5.kept f (fun c => by unfold XW; omega) (fun c => by unfold XW; omega), h6.kept f (fun c => by unfold XW; omega) (fun c => by unfold XW; omega), h7.kept f (fun c => by unfold XW; omega), h8.kept f (fun c => by unfold XW; omega), by rw [(f _ _ (by unfold XW; omega)).1]; exact h9, by rw [(f _ _ (by unfold XW; omega)).1]; exact h10, h11⟩
theorem tst.empty (hτ : tw_ok τ) (h : tst τ I L B S H V O M W au ev) : tst τ (cm_u2 I 1315 18 (zi 0)) L [] S H V O M W au ev := by
  have f : twf (fun a i => a = 1315 ∧ i = 18) I L (cm_u2 I 1315 18 (zi 0)) L := twf.rf.pI ⟨rfl, rfl⟩ _
  obtain ⟨h1, h2, h3, h4, h5, h6, h7, h8, h9, h10, h11⟩ := h
  exact ⟨h1.kept hτ (fun a i z => by omega) f, ⟨by rw [u2_same]; rfl, by simp, fun i x hx => by simp at hx⟩, h3.kept f (fun a i z => by unfold KW; omega), h4.kept f (by omega) (fun k hk a i z => by unfold KW; omega),
    h5.kept f (fun c => by omega) (fun c => by omega), h6.kept f (fun c => by omega) (fun c => by omega), h7.kept f (fun c => by omega), h8.kept f (fun c => by omega), by rw [(f _ _ (by omega)).1]; exact h9, by rw [(f _ _ (by omega)).1]; exact h10, h11⟩
theorem t_rec (hτ : tw_ok τ) (h0 : tst τ I L B S H V O M W au ev) {Q : tw_I → tw_L → Prop} (hd : 5 ≤ d) (h : ∀ I2 L2, twf RW I L I2 L2 → tst τ I2 L2 B S ((S :: H).take 8) V O M W au ev → Q I2 L2) : wp_c d 302 [.ref 1315] (tw τ I L) (tv τ Q) := by
  obtain ⟨h1, h2, h3, h4, h5, h6, h7, h8, h9, h10, h11⟩ := h0
  refine t_records hτ h3 h4 hd fun I2 L2 f g3 g4 => h I2 L2 f ?_
  exact ⟨h1.kept hτ (fun a i z => by unfold RW at z; omega) f, h2.kept f (by unfold RW; omega) (fun i => by unfold RW; omega), g3, g4,
    h5.kept f (fun c => by unfold RW; omega) (fun c => by unfold RW; omega), h6.kept f (fun c => by unfold RW; omega) (fun c => by unfold RW; omega), h7.kept f (fun c => by unfold RW; omega), h8.kept f (fun c => by unfold RW; omega), by rw [(f _ _ (by unfold RW; omega)).1]; exact h9, by rw [(f _ _ (by unfold RW; omega)).1]; exact h10, h11⟩
theorem t_readNumber_loop (hτ : tw_ok τ) (hB : tbf I B) {b : Nat} (hb : b ≤ 1) (hbb : b = if by_ B 0 = 45 then 1 else 0) {Q : Int32 → tw_I → tw_L → Prop} (hd : 2 ≤ d)
    (h : match psN B with
      | .inl e => Q (zi e) I L
      | .inr n => ∀ L2, twf PW I L I L2 → L2 1315 26 = zl n → Q (zi (-1)) I L2) :
    ∀ n k v, B.length - k = n → b ≤ k → (k ≤ B.length ∨ k = b) → (k - b ≤ 9 → v < 10 ^ (k - b)) → v < 1000000000 → rn isDg B k = rn isDg B b → lp isDg (nvg b) B k v = nv B b → wp_r d 294 (20, [.ref 1315, .int (zi k), .int (zi b), .long (zl v), .retAddr 0], [], tw τ I L) (ti τ Q) := by
  have hlen := hB.2.1
  have fin : ∀ k v, b ≤ k → (k ≤ B.length ∨ k = b) → v < 1000000000 → atB isDg B k = false → k = rn isDg B b → v = nv B b → wp_r d 294 (20, [.ref 1315, .int (zi k), .int (zi b), .long (zl v), .retAddr 0], [], tw τ I L) (ti τ Q) := by
    intro k v hbk hk hv9 q hr hl
    refine k294_20 hτ (by omega) (t_isDigit hτ (by omega) hB hd ?_)
    rw [q]
    refine ⟨fun _ => ?_, fun q => absurd rfl q⟩
    unfold psN at h
    rw [← hbb] at h
    simp only at h
    rw [← hr, ← hl] at h
    rw [zi_sub, zi_lt (by omega) (by omega) (by omega) (by omega), zi_eq (by omega) (by omega) (by omega) (by omega), hB.1, zi_lt (by omega) (by omega) (by omega) (by omega), zi_eq (by omega) (by omega) (by omega) (by omega)]
    refine ⟨fun z => ?_, fun z => ⟨fun z2 => ?_, fun z2 => ⟨fun z3 => ?_, fun z3 => ⟨fun z4 => ?_, fun z4 => ?_⟩⟩⟩⟩
    · rw [if_pos (by omega)] at h
      exact h
    · rw [if_neg (by omega), if_pos (by omega)] at h
      exact h
    · rw [if_neg (by omega), if_pos (by omega)] at h
      exact h
    · rw [if_neg (by omega), if_neg (by omega), if_pos (by omega)] at h
      rintro L2 rfl
      exact h _ (twf.rf.pL (by unfold PW; omega) _) (by rw [u2_same]; show -Int64.ofInt (v : Int) = Int64.ofInt (-(v : Int)); exact (Int64.ofInt_neg _).symm)
    · rw [if_neg (by omega), if_neg (by omega), if_neg (by omega)] at h
      rintro L2 rfl
      exact h _ (twf.rf.pL (by unfold PW; omega) _) (by rw [u2_same])
  intro n
  induction n with
  | zero =>
    intro k v hn hbk hk hv hv9 hr hl
    have hno : atB isDg B k = false := by
      cases q : atB isDg B k with
      | false => rfl
      | true => have := atB_lt q; omega
    rw [rn_step, hno] at hr
    rw [lp_step, hno] at hl
    exact fin k v hbk hk hv9 hno hr hl
  | succ n ih =>
    intro k v hn hbk hk hv hv9 hr hl
    cases q : atB isDg B k with
    | false =>
      rw [rn_step, q] at hr
      rw [lp_step, q] at hl
      exact fin k v hbk hk hv9 q hr hl
    | true =>
      refine k294_20 hτ (by omega) (t_isDigit hτ (by omega) hB hd ?_)
      rw [q]
      obtain ⟨g1, g2, g3, g4⟩ := atB_rng (lo := 48) (hi := 57) (fun x => rfl) q
      rw [rn_step, q] at hr
      rw [lp_step, q] at hl
      have hr : rn isDg B (k + 1) = rn isDg B b := hr
      have hl : lp isDg (nvg b) B (k + 1) (nvg b k (by_ B k) v) = nv B b := hl
      obtain ⟨n1, n2⟩ := nvg_lt hbk hv hv9 g1 g2
      refine ⟨fun z => absurd z (by decide), fun _ => ?_⟩
      rw [zi_sub, zi_lt (by omega) (by omega) (by omega) (by omega)]
      have go := ih (k + 1) (nvg b k (by_ B k) v) (by omega) (by omega) (by omega) n1 n2 hr hl
      rw [show ((k + 1 : Nat) : Int) = (k : Int) + 1 by omega, ← zi_add] at go
      refine ⟨fun z => ?_, fun z => ?_⟩
      · refine t_byteAt hτ (by omega) hB (by omega) ?_
        rw [g3, zi_l (by omega) (by omega), zl_mul, zl_add, zl_sub]
        unfold nvg at go
        rw [if_pos (by omega), show ((10 * v + by_ B k - 48 : Nat) : Int) = 10 * (v : Int) + by_ B k - 48 by omega] at go
        exact go
      · unfold nvg at go
        rw [if_neg (by omega)] at go
        exact go
theorem t_readNumber (hτ : tw_ok τ) (hB : tbf I B) {Q : Int32 → tw_I → tw_L → Prop} (hd : 3 ≤ d)
    (h : match psN B with
      | .inl e => Q (zi e) I L
      | .inr n => ∀ L2, twf PW I L I L2 → L2 1315 26 = zl n → Q (zi (-1)) I L2) : wp_c d 294 [.ref 1315] (tw τ I L) (ti τ Q) := by
  refine k294 hτ (by omega) (t_byteAt (k := 0) hτ (by omega) hB (by omega) ?_)
  rw [cb_eq (by omega) hB.bok (by omega)]
  refine ⟨fun q => ?_, fun q => ?_⟩
  · exact t_readNumber_loop (b := 1) hτ hB (by omega) (by rw [if_pos (by omega)]) (by omega) h _ 1 0 rfl (by omega) (Or.inr rfl) (fun _ => by simp) (by omega) rfl rfl
  · exact t_readNumber_loop (b := 0) hτ hB (by omega) (by rw [if_neg (by omega)]) (by omega) h _ 0 0 rfl (by omega) (Or.inr rfl) (fun _ => by simp) (by omega) rfl rfl
theorem psN_rng {B : List Nat} {n : Int} (h : psN B = .inr n) : -1000000000 < n ∧ n < 1000000000 := by
  unfold psN at h
  simp only at h
  generalize hg : (if by_ B 0 = 45 then 1 else 0) = b at h
  have := nv_lt B b
  split at h
  · cases h
  split at h
  · cases h
  have h := Sum.inr.inj h
  split at h <;> omega
theorem psN_e80 {B : List Nat} (hl : B.length ≤ 80) (h1 : 1 ≤ B.length) {e : Nat} (h : psN B = .inl e) : e ≤ 80 := by
  unfold psN at h
  simp only at h
  generalize hg : (if by_ B 0 = 45 then 1 else 0) = b at *
  have hb : b ≤ 1 := by rw [← hg]; split <;> omega
  split at h
  · have := Sum.inl.inj h; omega
  split at h
  · have h := Sum.inl.inj h
    have := rn_le isDg B _ b rfl (by omega)
    omega
  · cases h
end
