/-! JDK: ArrayList.add with growth -/
theorem shr_1 : ∀ k : Nat, k < 21 → (zi (k : Int)) >>> ((zi 1) &&& 31) = zi ((k / 2 : Nat) : Int) := by decide +kernel
section
variable {d l b c : Nat} {xs : List Nat} {σ : cm_S} {Q : cm_O → Prop}
theorem l_addG (h0 : ls σ l b c xs) {x : Nat} (hx : 0 < cm_tg σ x ∧ cm_tg σ x < 32) (hxn : x < cm_nx σ) (hl : l < cm_nx σ) (hb : b < cm_nx σ) (hc : xs.length = c) (hc0 : 0 < c) (hc2 : c ≤ 12) (hel : ∀ y, y ∈ xs → 0 < cm_tg σ y ∧ cm_tg σ y < 32 ∧ y < cm_nx σ) (hd : 8 ≤ d)
    (h : ∀ σ2, ls σ2 l (cm_nx σ) (c + max 1 (c / 2)) (xs ++ [x]) → cm_nx σ2 = cm_nx σ + 1 → fr (fun x => x = l) (fun x => x = l) 2 σ σ2 → Q (false, .int (zi 1), σ2)) : wp_c d 457 [.ref l, .ref x] σ Q := by
  obtain ⟨⟨t1, r1, t2, l2, a1, b1, c1⟩, i1, hn, hr, hz⟩ := h0
  have hlb : l ≠ b := fun e => by rw [e, t2] at t1; cases t1
  have hln : l ≠ cm_nx σ := (by omega)
  refine k457 (by omega) ⟨t1, a1, ?_⟩
  rintro _ rfl
  have e2 : ∀ v, cm_I (cm_pI σ l 0 v) l 2 = zi (xs.length : Nat) := fun v => (u2_nj _ _ _ _ _ (by decide)).trans i1
  rw [e2, show ∀ v, cm_R (cm_pI σ l 0 v) l 1 = b from fun _ => r1]
  have hF : fr (fun x => x = l) (fun x => x = l) 0 σ (cm_pI σ l 0 (cm_I σ l 0 + zi 1)) := fr_pI (Or.inl rfl)
  generalize hσ : cm_pI σ l 0 (cm_I σ l 0 + zi 1) = σ1 at hF ⊢
  have s1 : cm_tg σ1 l = 25 := by rw [← hσ]; exact t1
  have s2 : cm_tg σ1 b = 105 := by rw [← hσ]; exact t2
  have s3 : cm_ln σ1 b = c := by rw [← hσ]; exact l2
  have s4 : cm_R σ1 = cm_R σ := by rw [← hσ]; rfl
  have s5 : cm_I σ1 l 2 = zi (c : Int) := by rw [← hσ, ← hc]; exact e2 _
  have s6 : cm_nx σ1 = cm_nx σ := by rw [← hσ]; rfl
  have s7 : cm_tg σ1 = cm_tg σ := by rw [← hσ]; rfl
  rw [hc]
  refine k459 (by omega) ⟨by rw [s2]; decide, fun _ => ⟨s1, k464 (by omega) ⟨s1, k465 (by omega) ⟨s1, by rw [s4, r1, s2]; decide, fun _ => ?_, fun z => ?_⟩⟩⟩, fun z => ?_⟩
  · rw [s4, r1, s3, s5, zi_ofNat, shr_1 c (by omega), zi_add, zi_sub, show (c : Int) + 1 - (c : Int) = 1 from (by omega)]
    refine k575 (by omega) (m_max (a := 1) (b := ((c / 2 : Nat) : Int)) ⟨(by omega), (by omega)⟩ ⟨(by omega), (by omega)⟩ (by omega) ⟨_, _, rfl, ?_⟩)
    obtain ⟨n, hnn⟩ : ∃ n : Nat, n = c + max 1 (c / 2) := ⟨_, rfl⟩
    have en : zi (c : Int) + zi (max 1 ((c / 2 : Nat) : Int)) = zi (n : Int) := by rw [zi_add]; congr 1; omega
    simp only [en]
    refine ⟨fun _ => ⟨fun z => ?_, fun _ => ⟨_, _, rfl, s1, ?_⟩⟩, fun z => ?_⟩
    · rw [zi_lt (by omega) (by omega) (by omega) (by omega)] at z; omega
    · rw [s4, r1]
      refine j_copyR s2 s3 (by omega) (by omega) (by omega) (by omega) (fun i hi => ?_) (by omega) (fun σ2 hf hx2 ht hl2 hR => ⟨_, _, rfl, ?_⟩)
      · rw [s4, s6, s7]
        obtain ⟨y, hy⟩ : ∃ y, xs[i]? = some y := ⟨_, List.getElem?_eq_getElem (show i < xs.length from (by omega))⟩
        rw [hr i y hy]
        exact Or.inr (hel y (List.mem_of_getElem? hy))
      · rw [s6] at hx2 ht hl2 hR ⊢
        have u1 : cm_tg σ2 l = 25 := ((hf no_ no_).tg (by rw [s6]; exact hl)).trans s1
        refine ⟨u1, a1, ?_⟩
        rintro _ rfl
        refine ⟨_, _, rfl, _, _, rfl, by show 104 < cm_tg σ2 _; rw [ht]; decide, zn_in (by show _ < cm_ln σ2 _; rw [hl2]; omega) (by show cm_ln σ2 _ ≤ _; rw [hl2]; omega), (show 322 ≤ cm_nx σ from (by omega)), Or.inr ?_, ?_⟩
        · show cp_asg (cm_tg σ2 (cm_nx σ)) (cm_tg σ2 x) = true
          rw [ht, (hf no_ no_).tg (by rw [s6]; exact hxn), s7]
          generalize cm_tg σ x = t at hx
          unfold cp_asg
          rw [Nat.blt_eq.mpr hx.1, Nat.blt_eq.mpr hx.2]; rfl
        · rintro _ rfl
          refine ⟨u1, a1, ?_⟩
          rintro _ rfl
          rw [zn_ix (by omega), show (c : Int) + 1 = ((c + 1 : Nat) : Int) from (by omega)]
          have hRx : ∀ i, cm_u2 (cm_u2 (cm_R σ2) l 1 (cm_nx σ)) (cm_nx σ) c x (cm_nx σ) i = if i = c then x else if i < c then cm_R σ b i else 0 := fun i => by
            rw [u2_at]
            by_cases q : i = c
            · rw [if_pos q, if_pos q]
            · rw [if_neg q, if_neg q, u2_ne _ _ _ _ (Ne.symm hln), hR, s4]
          refine ⟨rfl, h _ ⟨⟨u1, ?_, ht, by rw [← hnn]; exact hl2, a1, (show 322 ≤ cm_nx σ from (by omega)), (by omega)⟩, (u2_same _ _ _ _).trans (by rw [List.length_append, hc]; rfl), by rw [List.length_append, hc]; show c + 1 ≤ _; omega, fun i y hy => ?_, fun i hi => ?_⟩ hx2 ?_⟩
          · show cm_u2 (cm_u2 (cm_R σ2) l 1 (cm_nx σ)) (cm_nx σ) c x l 1 = _
            rw [u2_ne _ _ _ _ hln, u2_same]
          · refine (hRx i).trans ?_
            rcases get_app hy with g | ⟨g1, g2⟩
            · have := (List.getElem?_eq_some_iff.mp g).1
              rw [if_neg (by omega), if_pos (by omega)]; exact hr i y g
            · rw [if_pos (by omega)]; exact g2.symm
          · refine (hRx i).trans ?_
            rw [List.length_append, hc] at hi
            have hi : c + 1 ≤ i := hi
            rw [if_neg (by omega), if_neg (by omega)]
          · refine fr_tr (n := 2) (m := 0) (fr_tr (n := 0) (m := 2) hF (hf _ _) (fun _ _ z => z) (fun _ _ z => z)) (X2 := fun x => x = l) (Y2 := fun x => x = l ∨ x = cm_nx σ) ?_ (fun _ _ z => z) (fun _ hb z => z.elim id (fun z => absurd z (Nat.ne_of_lt hb)))
            exact ((fr_pR (X := fun x => x = l) (Y := fun x => x = l ∨ x = cm_nx σ) (Or.inl (Or.inl rfl))).tr_ (fr_pR (Or.inl (Or.inr rfl)))).tr_ (fr_pI (Or.inl rfl))
    · rw [zi_lt (by omega) (by omega) (by omega) (by omega)] at z; omega
  · rw [s4, r1, s3, zi_ofNat, zi_lt (by omega) (by omega) (by omega) (by omega)] at z; omega
  · rw [s3, zi_ofNat] at z; exact absurd rfl z
end
