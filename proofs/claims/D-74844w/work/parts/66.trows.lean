/-! THE TWIN: references and ranges when rows come and go -/
def shT (ins : Bool) (b v : Nat) : Int64 := match shR ins b v with
  | some w => tok 2 w
  | none => zl 0
/-- the change that is at hand -/
def tch (I : tw_I) (ins : Bool) (b : Nat) : Prop := I 1315 30 = zi b ∧ I 1315 31 = bz ins ∧ b < 20
section
variable {τ : tw_K} {I : tw_I} {L : tw_L} {d : Nat}
theorem t_shiftedCell (hτ : tw_ok τ) {ins : Bool} {b v : Nat} (hb : tch I ins b) (hv : v < 960) {Q : Int64 → tw_I → tw_L → Prop} (hd : 2 ≤ d) (h : Q (shT ins b v) I L) : wp_c d 309 [.ref 1315, .long (tok 2 v)] (tw τ I L) (tl τ Q) := by
  obtain ⟨h30, h31, hb20⟩ := hb
  refine k309 hτ hd (t_told hτ (by omega) (by omega) (by omega) ?_)
  rw [zl_i, zi_rem (by omega) (by omega) (by omega) (by omega), show (v : Int) % 240 = ((v % 240 : Nat) : Int) by omega]
  refine t_rowOf hτ (by omega) (by omega) ?_
  rw [h31, bz_0, h30, zi_lt (by omega) (by omega) (by omega) (by omega), zi_lt (by omega) (by omega) (by omega) (by omega), zi_add, zi_lt (by omega) (by omega) (by omega) (by omega)]
  unfold shT shR rwo at h
  cases ins with
  | false =>
    refine ⟨fun _ => ⟨fun q => ?_, fun q => ⟨fun q2 => ?_, fun q2 => ?_⟩⟩, fun z => absurd rfl z⟩
    · rw [if_pos (by omega)] at h; exact h
    · rw [if_neg (by omega), if_neg (by decide), if_pos (by omega)] at h
      unfold tok at h ⊢
      rw [zl_sub, show (281474976710656 * (2 : Nat) + v : Int) - 12 = 281474976710656 * (2 : Nat) + (v - 12 : Nat) by omega]
      exact h
    · rw [if_neg (by omega), if_neg (by decide), if_neg (by omega)] at h; exact h
  | true =>
    refine ⟨fun z => (by cases z), fun _ => ⟨fun q => ?_, fun q => ⟨fun q2 => ?_, fun q2 => ?_⟩⟩⟩
    · rw [if_pos (by omega)] at h; exact h
    · rw [if_neg (by omega), if_pos rfl, if_pos (by omega)] at h
      unfold tok at h ⊢
      rw [zl_add, show (281474976710656 * (2 : Nat) + v : Int) + 12 = 281474976710656 * (2 : Nat) + (v + 12 : Nat) by omega]
      exact h
    · rw [if_neg (by omega), if_pos rfl, if_neg (by omega)] at h; exact h
theorem t_atRow (hτ : tw_ok τ) {v r : Nat} (hv : v < 960) (hr : r < 20) {Q : Int64 → tw_I → tw_L → Prop} (hd : 2 ≤ d) (h : Q (tok 2 (atR v r)) I L) : wp_c d 179 [.long (tok 2 v), .int (zi r)] (tw τ I L) (tl τ Q) := by
  refine k179 hτ hd (t_told hτ (by omega) (by omega) (by omega) ?_)
  rw [zl_rem (by omega) (by omega) (by omega) (by omega), zl_i, show (v : Int) % 240 = ((v % 240 : Nat) : Int) by omega]
  refine t_rowOf hτ (by omega) (by omega) ?_
  rw [zi_sub, zi_mul, zi_l (by omega) (by omega)]
  unfold atR rwo at h
  unfold tok at h ⊢
  rw [zl_add, show (281474976710656 * (2 : Nat) + v : Int) + 12 * ((r : Int) - (v % 240 / 12 : Nat)) = 281474976710656 * (2 : Nat) + (v - 12 * (v % 240 / 12) + 12 * r : Nat) by omega]
  exact h
/-- rows of a range, or none -/
theorem t_shiftsRows (hτ : tw_ok τ) {ins : Bool} {b f g : Nat} (hb : tch I ins b) (hf : f ≤ g) (hg : g < 20) {Q : Int32 → tw_I → tw_L → Prop} (hd : 3 ≤ d)
    (h1 : rng ins b f g = none → ∀ I2, twf (fun a i => a = 1315 ∧ (i = 32 ∨ i = 33)) I L I2 L → Q (zi 0) I2 L)
    (h2 : ∀ lo up, rng ins b f g = some (lo, up) → ∀ I2, twf (fun a i => a = 1315 ∧ (i = 32 ∨ i = 33)) I L I2 L → I2 1315 32 = zi lo → I2 1315 33 = zi up → Q (zi 1) I2 L) : wp_c d 312 [.ref 1315, .int (zi f), .int (zi g)] (tw τ I L) (ti τ Q) := by
  obtain ⟨h30, h31, hb20⟩ := hb
  have fr : ∀ x y : Int32, twf (fun a i => a = 1315 ∧ (i = 32 ∨ i = 33)) I L (cm_u2 (cm_u2 I 1315 32 x) 1315 33 y) L := fun x y => (twf.rf.pI (by omega) _).pI (by omega) _
  have e30 : ∀ x : Int32, cm_u2 I 1315 32 x 1315 30 = zi b := fun x => by rw [u2_nj _ _ _ _ _ (by omega)]; exact h30
  have e32 : ∀ x y : Int32, cm_u2 (cm_u2 I 1315 32 x) 1315 33 y 1315 32 = x := fun x y => by rw [u2_nj _ _ _ _ _ (by omega), u2_same]
  have e33 : ∀ x y : Int32, cm_u2 (cm_u2 I 1315 32 x) 1315 33 y 1315 33 = y := fun x y => u2_same ..
  refine k312 hτ (by omega) ?_
  rw [h31, bz_0, h30]
  unfold rng at h1 h2
  cases ins with
  | false =>
    simp only [Bool.false_eq_true, if_false] at h1 h2
    refine ⟨fun _ => ?_, fun z => absurd rfl z⟩
    -- the end: lower p, upper r
    have fin : ∀ (p r : Int) , -1 ≤ p ∧ p < 20 → -1 ≤ r ∧ r < 20 → r = (if g < b then (g : Int) else (g : Int) - 1) → p = (if b < f then (f : Int) - 1 else (f : Int)) →
        (((cm_u2 (cm_u2 I 1315 32 (zi p)) 1315 33 (zi r)) 1315 33 < (cm_u2 (cm_u2 I 1315 32 (zi p)) 1315 33 (zi r)) 1315 32 → Q (zi 0) (cm_u2 (cm_u2 I 1315 32 (zi p)) 1315 33 (zi r)) L) ∧ (¬ (cm_u2 (cm_u2 I 1315 32 (zi p)) 1315 33 (zi r)) 1315 33 < (cm_u2 (cm_u2 I 1315 32 (zi p)) 1315 33 (zi r)) 1315 32 → Q (zi 1) (cm_u2 (cm_u2 I 1315 32 (zi p)) 1315 33 (zi r)) L)) := by
      intro p r hp hr er ep
      rw [e32, e33, zi_lt (by omega) (by omega) (by omega) (by omega)]
      rw [← er, ← ep] at h1 h2
      refine ⟨fun q => h1 (if_pos q) _ (fr _ _), fun q => h2 _ _ (if_neg q) _ (fr _ _) ?_ ?_⟩
      · rw [e32]; congr 1; rw [ep]; split <;> omega
      · rw [e33]; congr 1; rw [er]; split at er <;> split <;> omega
    rw [zi_lt (by omega) (by omega) (by omega) (by omega)]
    refine ⟨fun q => ?_, fun q => ?_⟩
    · rintro I1 rfl
      rw [e30, zi_lt (by omega) (by omega) (by omega) (by omega), zi_sub]
      refine ⟨fun q2 => ?_, fun q2 => ?_⟩
      · rintro I2 rfl
        exact fin _ _ (by omega) (by omega) (by rw [if_pos (by omega)]) (by rw [if_pos (by omega)])
      · rintro I2 rfl
        rw [zi_sub]
        exact fin _ _ (by omega) (by omega) (by rw [if_neg (by omega)]) (by rw [if_pos (by omega)])
    · rintro I1 rfl
      rw [e30, zi_lt (by omega) (by omega) (by omega) (by omega)]
      refine ⟨fun q2 => ?_, fun q2 => ?_⟩
      · rintro I2 rfl
        exact fin _ _ (by omega) (by omega) (by rw [if_pos (by omega)]) (by rw [if_neg (by omega)])
      · rintro I2 rfl
        rw [zi_sub]
        exact fin _ _ (by omega) (by omega) (by rw [if_neg (by omega)]) (by rw [if_neg (by omega)])
  | true =>
    simp only [if_true] at h1 h2
    refine ⟨fun z => (by cases z), fun _ => ?_⟩
    have fin : ∀ (p r : Nat), p ≤ 20 → p = (if f < b then f else f + 1) → r = min 19 (if g < b then g else g + 1) →
        (((cm_u2 (cm_u2 I 1315 32 (zi p)) 1315 33 (zi r)) 1315 32 < zi 20 → Q (zi 1) (cm_u2 (cm_u2 I 1315 32 (zi p)) 1315 33 (zi r)) L) ∧ (¬ (cm_u2 (cm_u2 I 1315 32 (zi p)) 1315 33 (zi r)) 1315 32 < zi 20 → Q (zi 0) (cm_u2 (cm_u2 I 1315 32 (zi p)) 1315 33 (zi r)) L)) := by
      intro p r hp ep er
      rw [e32, zi_lt (by omega) (by omega) (by omega) (by omega)]
      rw [← ep, ← er] at h1 h2
      refine ⟨fun q => h2 _ _ (if_pos (by omega)) _ (fr _ _) (e32 _ _) (e33 _ _), fun q => h1 (if_neg (by omega)) _ (fr _ _)⟩
    rw [zi_lt (by omega) (by omega) (by omega) (by omega)]
    refine ⟨fun q => ?_, fun q => ?_⟩
    · rintro I1 rfl
      rw [e30, zi_lt (by omega) (by omega) (by omega) (by omega)]
      refine ⟨fun q2 => m_min ⟨by omega, by omega⟩ ⟨by omega, by omega⟩ (by omega) (ti_k ?_), fun q2 => ?_⟩
      · rintro I2 rfl
        rw [show min (19 : Int) (g : Int) = (min 19 g : Nat) by omega]
        exact fin _ _ (by omega) (by rw [if_pos (by omega)]) (by rw [if_pos (by omega)])
      · rw [zi_add]
        refine m_min ⟨by omega, by omega⟩ ⟨by omega, by omega⟩ (by omega) (ti_k ?_)
        rintro I2 rfl
        rw [show min (19 : Int) ((g : Int) + 1) = (min 19 (g + 1) : Nat) by omega]
        exact fin _ _ (by omega) (by rw [if_pos (by omega)]) (by rw [if_neg (by omega)])
    · rintro I1 rfl
      rw [e30, zi_lt (by omega) (by omega) (by omega) (by omega), zn_a f 1 1 rfl]
      refine ⟨fun q2 => m_min ⟨by omega, by omega⟩ ⟨by omega, by omega⟩ (by omega) (ti_k ?_), fun q2 => ?_⟩
      · rintro I2 rfl
        rw [show min (19 : Int) (g : Int) = (min 19 g : Nat) by omega]
        exact fin _ _ (by omega) (by rw [if_neg (by omega)]) (by rw [if_pos (by omega)])
      · rw [zi_add]
        refine m_min ⟨by omega, by omega⟩ ⟨by omega, by omega⟩ (by omega) (ti_k ?_)
        rintro I2 rfl
        rw [show min (19 : Int) ((g : Int) + 1) = (min 19 (g + 1) : Nat) by omega]
        exact fin _ _ (by omega) (by rw [if_neg (by omega)]) (by rw [if_neg (by omega)])
end
