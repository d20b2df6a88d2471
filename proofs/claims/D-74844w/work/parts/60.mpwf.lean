/-! PURE: what is made of formulas is well formed -/
section
variable {fr : Nat → Fm} {fg : Nat → Nat → Fm} {fn : Nat → Fm}
theorem ags_mp {r : Fm} (h : isL r) : ags (mp fr fg fn r) = (ags r).map (mp fr fg fn) := by
  induction r with
  | div a r iha ihr => show mp fr fg fn a :: ags (mp fr fg fn r) = _; rw [ihr h]; rfl
  | result => rfl
  | _ => exact absurd h (by simp [isL])
/-- no less tight, no longer -/
def mpP (t u : Fm) : Prop := wf u ∧ lv t ≤ lv u ∧ (ar t → ar u) ∧ (tk u).length ≤ (tk t).length
theorem shp_map {f : Nat} {l : List Fm} {g : Fm → Fm} (h : shp f l) (hg : ∀ a ∈ l, lv a ≤ lv (g a) ∧ (ar a → ar (g a))) : shp f (l.map g) := by
  unfold shp at h ⊢
  split at h
  · refine ⟨by rw [List.length_map]; exact h.1, by rw [List.length_map]; exact h.2.1, fun a ha => ?_⟩
    obtain ⟨b, hb, rfl⟩ := List.mem_map.mp ha
    exact (hg b hb).2 (h.2.2 b hb)
  · refine ⟨by rw [List.length_map]; exact h.1, fun a ha => ?_⟩
    obtain ⟨b, hb, rfl⟩ := List.mem_map.mp ha
    have := (hg b hb).1
    have := h.2 b hb
    omega
  · refine ⟨by rw [List.length_map]; exact h.1, fun a ha => ?_⟩
    obtain ⟨b, hb, rfl⟩ := List.mem_map.mp ha
    have := (hg b hb).1
    have := h.2 b hb
    omega
  · obtain ⟨a, b, rfl, h1, h2⟩ := h
    refine ⟨g a, g b, rfl, ?_, (hg b (by simp)).2 h2⟩
    have := (hg a (by simp)).1
    omega
  · obtain ⟨a, b, rfl, h1, h2⟩ := h
    refine ⟨g a, g b, rfl, (hg a (by simp)).2 h1, ?_⟩
    have := (hg b (by simp)).1
    omega
  · refine ⟨h.1, by rw [List.length_map]; exact h.2.1, by rw [List.length_map]; exact h.2.2.1, fun a ha => ?_⟩
    obtain ⟨b, hb, rfl⟩ := List.mem_map.mp ha
    rcases h.2.2.2 b hb with z | z
    · exact .inl ((hg b hb).2 z)
    · right
      have := (hg b hb).1
      omega
/-- every argument is like its image -/
def mpA (fr : Nat → Fm) (fg : Nat → Nat → Fm) (fn : Nat → Fm) (t : Fm) : Prop := ∀ a ∈ ags t, lv a ≤ lv (mp fr fg fn a) ∧ (ar a → ar (mp fr fg fn a))
theorem mp_wf (hm : mok fr fg fn) : ∀ t : Fm, wf t → mpP t (mp fr fg fn t) ∧ mpA fr fg fn t := by
  intro t
  have nil : ∀ t : Fm, ags t = [] → mpA fr fg fn t := fun t e a ha => by rw [e] at ha; cases ha
  induction t using tk.induct with
  | case1 n => intro h; exact ⟨⟨h, Nat.le_refl _, id, Nat.le_refl _⟩, nil _ rfl⟩
  | case2 v =>
    intro h
    refine ⟨?_, nil _ rfl⟩
    show mpP (.index v) (fr v)
    rcases hm.1 v h with e | ⟨w, hw, e⟩
    · rw [e]; exact ⟨trivial, Nat.le_refl _, fun _ => trivial, Nat.le_refl _⟩
    · rw [e]; exact ⟨hw, Nat.le_refl _, fun _ => trivial, Nat.le_refl _⟩
  | case3 => intro h; exact ⟨⟨trivial, Nat.le_refl _, id, Nat.le_refl _⟩, nil _ rfl⟩
  | case4 c =>
    intro h
    refine ⟨?_, nil _ rfl⟩
    show mpP (.length (.arg c)) (fn c)
    obtain ⟨e, he, q⟩ := hm.2.2 c h
    rw [q]
    exact ⟨he, Nat.le_refl _, fun _ => trivial, Nat.le_refl _⟩
  | case5 u v =>
    intro h
    refine ⟨?_, nil _ rfl⟩
    show mpP (.elem (.index u) (.index v)) (fg u v)
    rcases hm.2.1 u v h.1 h.2 with e | ⟨w, z, hw, hz, e⟩
    · rw [e]; exact ⟨trivial, Nat.zero_le _, fun _ => trivial, by show 1 ≤ 3; omega⟩
    · rw [e]; exact ⟨⟨hw, hz⟩, Nat.le_refl _, fun _ => trivial, Nat.le_refl _⟩
  | case6 o l r ihl ihr =>
    intro h
    refine ⟨?_, nil _ rfl⟩
    obtain ⟨l1, l2, l3, l4⟩ := (ihl h.1).1
    obtain ⟨r1, r2, r3, r4⟩ := (ihr h.2.1).1
    refine ⟨wf_op2 l1 r1 h.2.2.1 (Nat.le_trans h.2.2.2.1 l2) (Nat.le_trans h.2.2.2.2 r2), Nat.le_refl _, fun z => z.elim, ?_⟩
    show (tk (.op2 o (mp fr fg fn l) (mp fr fg fn r))).length ≤ _
    rw [tk_op2, tk_op2]
    omega
  | case7 o a ih =>
    intro h
    refine ⟨?_, nil _ rfl⟩
    cases o
    case lneg =>
      obtain ⟨l1, l2, l3, l4⟩ := (ih h.1).1
      refine ⟨⟨l1, Nat.le_trans h.2 l2⟩, Nat.le_refl _, fun z => z.elim, ?_⟩
      show (tk (.op1 _ (mp fr fg fn a))).length ≤ _
      rw [tk_op1, tk_op1]
      omega
    all_goals exact absurd h (by simp [wf])
  | case8 a ih =>
    intro h
    refine ⟨?_, nil _ rfl⟩
    obtain ⟨l1, l2, l3, l4⟩ := (ih h.1).1
    refine ⟨⟨l1, Nat.le_trans h.2 l2⟩, Nat.le_refl _, fun z => z.elim, ?_⟩
    show (tk (.old (mp fr fg fn a))).length ≤ _
    rw [tk_old, tk_old]
    omega
  | case9 f as ih =>
    intro h
    refine ⟨?_, nil _ rfl⟩
    obtain ⟨⟨l1, l2, l3, l4⟩, l5⟩ := ih h.1
    refine ⟨⟨l1, mp_L h.2.1, ?_⟩, Nat.le_refl _, fun z => z.elim, ?_⟩
    · rw [ags_mp h.2.1]
      exact shp_map h.2.2 l5
    · show (tk (.mul (.arg f) (mp fr fg fn as))).length ≤ _
      rw [tk_mul, tk_mul]
      omega
  | case10 a ih =>
    intro h
    obtain ⟨l1, l2, l3, l4⟩ := (ih h.1).1
    refine ⟨⟨⟨l1, trivial, trivial, ?_⟩, Nat.le_refl _, fun z => z.elim, l4⟩, fun b hb => ?_⟩
    · rcases h.2.2.2 with z | z
      · exact .inl (l3 z)
      · exact .inr (Nat.le_trans z l2)
    · have hb : b = a := by simpa [ags] using hb
      subst hb
      exact ⟨l2, l3⟩
  | case11 a r hr iha ihr =>
    intro h
    have hd : ∃ x y, r = .div x y := by
      rcases isL_div h.2.2.1 with z | z
      · exact absurd z hr
      · exact z
    obtain ⟨l1, l2, l3, l4⟩ := (iha h.1).1
    obtain ⟨⟨r1, r2, r3, r4⟩, r5⟩ := ihr h.2.1
    refine ⟨⟨⟨l1, r1, mp_L h.2.2.1, ?_⟩, Nat.le_refl _, fun z => z.elim, ?_⟩, fun b hb => ?_⟩
    · rcases h.2.2.2 with z | z
      · exact .inl (l3 z)
      · exact .inr (Nat.le_trans z l2)
    · show (tk (.div (mp fr fg fn a) (mp fr fg fn r))).length ≤ _
      rw [tk_div a r hd, tk_div _ _ (mp_div hd), List.length_append, List.length_append, List.length_cons, List.length_cons]
      omega
    · have hb : b = a ∨ b ∈ ags r := by simpa [ags] using hb
      rcases hb with rfl | hb
      · exact ⟨l2, l3⟩
      · exact r5 b hb
  | case12 t h1 h2 h3 h4 h5 h6 h7 h8 h9 h10 h11 =>
    intro h
    have e2 : mp fr fg fn t = t := by
      unfold mp
      split <;> first | rfl | (exfalso; simp_all)
    have e3 : ags t = [] := by
      cases t <;> first | rfl | (exfalso; simp_all)
    rw [e2]
    exact ⟨⟨h, Nat.le_refl _, id, Nat.le_refl _⟩, nil _ e3⟩
theorem mp_cok (hm : mok fr fg fn) {t : Fm} (h : cok (some (.inr t))) : cok (some (.inr (mp fr fg fn t))) := by
  have := (mp_wf hm t h.1).1
  exact ⟨this.1, Nat.le_trans h.2.1 this.2.1, Nat.le_trans this.2.2.2 h.2.2⟩
end
