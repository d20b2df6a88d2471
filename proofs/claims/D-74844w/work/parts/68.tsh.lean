/-! THE TWIN: tokens when rows come and go -/
def TY (x a i : Nat) : Prop := (a = 1315 ∧ (i = 29 ∨ i = 32 ∨ i = 33 ∨ i = 34)) ∨ (a = 1318 ∧ i = x) ∨ (a = 1319 ∧ 80 * x ≤ i ∧ i < 80 * x + 80)
theorem TX_TY (x a i : Nat) (h : TX x a i) : TY x a i := by unfold TX at h; unfold TY; omega
theorem tch.kept {x : Nat} {I I2 : tw_I} {L L2 : tw_L} {ins : Bool} {b : Nat} (h : tch I ins b) (f : twf (TY x) I L I2 L2) : tch I2 ins b := ⟨by rw [(f _ _ (by unfold TY; omega)).1]; exact h.1, by rw [(f _ _ (by unfold TY; omega)).1]; exact h.2.1, h.2.2⟩
section
variable {τ : tw_K} {I : tw_I} {L : tw_L} {d : Nat}
theorem t_shiftsRange (hτ : tw_ok τ) {ins : Bool} {b x w n u v : Nat} (hb : tch I ins b) (hx : x < 2400) {pre r : List (Nat × Nat)} (hu : u < 960) (hv : v < 960) (ht : ttk I L x (pre ++ (2, u) :: (6, 58) :: (2, v) :: r)) (hw : w ≤ pre.length) (hI : I 1315 29 = zi w) (hn : I 1315 34 = zi n) (hn2 : n < 100000) {Q : Int32 → tw_I → tw_L → Prop} (hd : 4 ≤ d)
    (h : ∀ I2 L2 pre2 w2, twf (TY x) I L I2 L2 → ttk I2 L2 x (pre2 ++ r) → pre2.length = pre.length + 3 → w2 ≤ pre2.length → pre2.take w2 = pre.take w ++ tk (fgR ins b u v) → I2 1315 29 = zi (w2 : Nat) → I2 1315 34 = zi ((n + lg ins b u v : Nat) : Int) → Q (zi 3) I2 L2) : wp_c d 311 [.ref 1315, .int (zi x), .int (zi pre.length)] (tw τ I L) (ti τ Q) := by
  have hl := ht.2.1
  rw [List.length_append, List.length_cons, List.length_cons, List.length_cons] at hl
  have ru := rwo_lt u
  have rv := rwo_lt v
  refine k311 hτ (by omega) (t_at hτ hx (by omega) ht (by omega) ?_)
  rw [tko_some at0, zn_a pre.length 2 2 rfl]
  refine t_at hτ hx (by omega) ht (by omega) ?_
  rw [tko_some at2]
  refine t_told hτ (show 2 < 8 by omega) (show u < 281474976710656 by omega) (by omega) ?_
  rw [zl_rem (by omega) (by omega) (by omega) (by omega), zl_i, show (u : Int) % 240 = ((u % 240 : Nat) : Int) by omega]
  refine t_rowOf hτ (by omega) (by omega) ?_
  refine t_told hτ (show 2 < 8 by omega) (show v < 281474976710656 by omega) (by omega) ?_
  rw [zl_rem (by omega) (by omega) (by omega) (by omega), zl_i, show (v : Int) % 240 = ((v % 240 : Nat) : Int) by omega]
  refine t_rowOf hτ (by omega) (by omega) ?_
  rw [show u % 240 / 12 = rwo u from rfl, show v % 240 / 12 = rwo v from rfl]
  refine m_min ⟨by omega, by omega⟩ ⟨by omega, by omega⟩ (by omega) (ti_k (m_max ⟨by omega, by omega⟩ ⟨by omega, by omega⟩ (by omega) (ti_k ?_)))
  rw [show min (rwo u : Int) (rwo v : Int) = ((min (rwo u) (rwo v) : Nat) : Int) by omega, show max (rwo u : Int) (rwo v : Int) = ((max (rwo u) (rwo v) : Nat) : Int) by omega]
  refine t_shiftsRows hτ hb (by omega) (by omega) (by omega) (fun hno I2 f2 => ?_) (fun lo up hso I2 f2 e32 e33 => ?_)
  · refine ⟨fun _ => t_of (k := 3) (v := 0) hτ (by omega) (by omega) ?_, fun z => absurd rfl z⟩
    have f2' : twf (TY x) I L I2 L := f2.wi (fun a i z => by unfold TY; omega)
    have t2 : ttk I2 L x (pre ++ (2, u) :: (6, 58) :: (2, v) :: r) := ⟨by rw [(f2 _ _ (by omega)).1]; exact ht.1, ht.2⟩
    refine t_wt hτ hx t2 hw (by rw [(f2 _ _ (by omega)).1]; exact hI) (p := (3, 0)) ⟨by decide, by decide, by decide⟩ rfl (by omega) fun I3 L3 pre3 f3 t3 l3 tk3 e3 => ?_
    rintro I4 rfl
    obtain ⟨t4, l4, tk4, w4⟩ := tk_pass t3 (w := w + 1) (by omega)
    obtain ⟨t5, l5, tk5, w5⟩ := tk_pass t4 (w := w + 1) w4
    have e34 : I3 1315 34 = zi n := by rw [(f3 _ _ (by unfold TX; omega)).1, (f2 _ _ (by omega)).1]; exact hn
    refine h _ _ (pre3 ++ [(6, 58)] ++ [(2, v)]) (w + 1) ((f2'.tr (f3.wi (TX_TY x))).pI (by unfold TY; omega) _) ⟨by rw [u2_ne _ _ _ _ (by omega)]; exact t5.1, t5.2⟩ (by omega) (by omega) ?_ (by rw [u2_nj _ _ _ _ _ (by omega)]; exact e3) ?_
    · rw [tk5, tk4, tk3]
      unfold fgR
      rw [hno]
      rfl
    · rw [u2_same, e34, zn_a n 1 1 rfl]
      unfold lg
      rw [if_pos hno]
  · have g := rng_lt hb.2.2 (by omega) (by omega) hso
    refine ⟨fun z => absurd z (by decide), fun _ => ?_⟩
    have f2' : twf (TY x) I L I2 L := f2.wi (fun a i z => by unfold TY; omega)
    have t2 : ttk I2 L x (pre ++ (2, u) :: (6, 58) :: (2, v) :: r) := ⟨by rw [(f2 _ _ (by omega)).1]; exact ht.1, ht.2⟩
    have hI2 : I2 1315 29 = zi w := by rw [(f2 _ _ (by omega)).1]; exact hI
    have hn3 : I2 1315 34 = zi n := by rw [(f2 _ _ (by omega)).1]; exact hn
    have hlg : lg ins b u v = 0 := by unfold lg; rw [hso, if_neg (by simp)]
    rw [hlg] at h
    rw [zi_lt (by omega) (by omega) (by omega) (by omega)]
    refine ⟨fun q => ?_, fun q => ?_⟩
    · rw [e33]
      refine t_atRow hτ hu (by omega) (by omega) (t_wt hτ hx t2 hw hI2 (p := (2, atR u up)) (tkO_mk (by omega) (by omega) (by have := atR_lt hu (show up < 20 by omega); omega)) rfl (by omega) fun I3 L3 pre3 f3 t3 l3 tk3 e3 => ?_)
      refine t_of (k := 6) (v := 58) hτ (by omega) (by omega) ?_
      refine t_wt hτ hx t3 (by omega) e3 (p := (6, 58)) ⟨by decide, by decide, by decide⟩ rfl (by omega) fun I4 L4 pre4 f4 t4 l4 tk4 e4 => ?_
      rw [show I4 1315 32 = zi lo by rw [(f4 _ _ (by unfold TX; omega)).1, (f3 _ _ (by unfold TX; omega)).1]; exact e32]
      refine t_atRow hτ hv (by omega) (by omega) (t_wt hτ hx t4 (by omega) e4 (p := (2, atR v lo)) (tkO_mk (by omega) (by omega) (by have := atR_lt hv (show lo < 20 by omega); omega)) rfl (by omega) fun I5 L5 pre5 f5 t5 l5 tk5 e5 => ?_)
      refine h I5 L5 pre5 (w + 1 + 1 + 1) (((f2'.tr (f3.wi (TX_TY x))).tr (f4.wi (TX_TY x))).tr (f5.wi (TX_TY x))) t5 (by omega) (by omega) ?_ e5 (by rw [(f5 _ _ (by unfold TX; omega)).1, (f4 _ _ (by unfold TX; omega)).1, (f3 _ _ (by unfold TX; omega)).1]; exact hn3)
      rw [tk5, tk4, tk3]
      unfold fgR
      rw [hso]
      simp only
      rw [if_neg (by omega)]
      simp [tk]
    · rw [e32]
      refine t_atRow hτ hu (by omega) (by omega) (t_wt hτ hx t2 hw hI2 (p := (2, atR u lo)) (tkO_mk (by omega) (by omega) (by have := atR_lt hu (show lo < 20 by omega); omega)) rfl (by omega) fun I3 L3 pre3 f3 t3 l3 tk3 e3 => ?_)
      refine t_of (k := 6) (v := 58) hτ (by omega) (by omega) ?_
      refine t_wt hτ hx t3 (by omega) e3 (p := (6, 58)) ⟨by decide, by decide, by decide⟩ rfl (by omega) fun I4 L4 pre4 f4 t4 l4 tk4 e4 => ?_
      rw [show I4 1315 33 = zi up by rw [(f4 _ _ (by unfold TX; omega)).1, (f3 _ _ (by unfold TX; omega)).1]; exact e33]
      refine t_atRow hτ hv (by omega) (by omega) (t_wt hτ hx t4 (by omega) e4 (p := (2, atR v up)) (tkO_mk (by omega) (by omega) (by have := atR_lt hv (show up < 20 by omega); omega)) rfl (by omega) fun I5 L5 pre5 f5 t5 l5 tk5 e5 => ?_)
      refine h I5 L5 pre5 (w + 1 + 1 + 1) (((f2'.tr (f3.wi (TX_TY x))).tr (f4.wi (TX_TY x))).tr (f5.wi (TX_TY x))) t5 (by omega) (by omega) ?_ e5 (by rw [(f5 _ _ (by unfold TX; omega)).1, (f4 _ _ (by unfold TX; omega)).1, (f3 _ _ (by unfold TX; omega)).1]; exact hn3)
      rw [tk5, tk4, tk3]
      unfold fgR
      rw [hso]
      simp only
      rw [if_pos (by omega)]
      simp [tk]
end
