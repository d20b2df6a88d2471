/-! ENGINE: frames. fr X Y n: numbers changed in X, references in Y, at most n new units (a unit: one cell, 12 slots) -/
def fr (X Y : Nat → Prop) (n : Nat) (σ σ2 : cm_S) : Prop := cm_nx σ ≤ cm_nx σ2 ∧ cm_nx σ2 ≤ cm_nx σ + n ∧ cm_sz σ2 ≤ cm_sz σ + 12 * n ∧
  ∀ a, a < cm_nx σ → cm_tg σ2 a = cm_tg σ a ∧ cm_ln σ2 a = cm_ln σ a ∧ (¬ X a → cm_I σ2 a = cm_I σ a ∧ cm_L σ2 a = cm_L σ a) ∧ (¬ Y a → cm_R σ2 a = cm_R σ a)
/-- none -/
def no_ : Nat → Prop := fun _ => False
section
variable {X Y X2 Y2 : Nat → Prop} {n m : Nat} {σ σ1 σ2 : cm_S} {a i t k : Nat}
theorem fr_0 : fr X Y n σ σ := ⟨Nat.le_refl _, (by omega), (by omega), fun _ _ => ⟨rfl, rfl, fun _ => ⟨rfl, rfl⟩, fun _ => rfl⟩⟩
theorem fr_tr (h : fr X Y n σ σ1) (h2 : fr X2 Y2 m σ1 σ2) (hx : ∀ a, a < cm_nx σ → X2 a → X a) (hy : ∀ a, a < cm_nx σ → Y2 a → Y a) : fr X Y (n + m) σ σ2 := by
  obtain ⟨a1, a2, a3, a4⟩ := h
  obtain ⟨b1, b2, b3, b4⟩ := h2
  refine ⟨(by omega), (by omega), (by omega), fun a ha => ?_⟩
  obtain ⟨c1, c2, c3, c4⟩ := a4 a ha
  obtain ⟨d1, d2, d3, d4⟩ := b4 a (by omega)
  exact ⟨d1.trans c1, d2.trans c2, fun q => ⟨(d3 fun z => q (hx a ha z)).1.trans (c3 q).1, (d3 fun z => q (hx a ha z)).2.trans (c3 q).2⟩, fun q => (d4 fun z => q (hy a ha z)).trans (c4 q)⟩
theorem fr_mono (h : fr X Y n σ σ2) (hx : ∀ a, a < cm_nx σ → X a → X2 a) (hy : ∀ a, a < cm_nx σ → Y a → Y2 a) (hn : n ≤ m) : fr X2 Y2 m σ σ2 := by
  obtain ⟨a1, a2, a3, a4⟩ := h
  refine ⟨a1, (by omega), (by omega), fun a ha => ?_⟩
  obtain ⟨c1, c2, c3, c4⟩ := a4 a ha
  exact ⟨c1, c2, fun q => c3 fun z => q (hx a ha z), fun q => c4 fun z => q (hy a ha z)⟩
theorem fr.le_ (h : fr X Y n σ σ2) (hn : n ≤ m) : fr X Y m σ σ2 := fr_mono h (fun _ _ z => z) (fun _ _ z => z) hn
/-- one after the other, with the same sets -/
theorem fr.tr_ (h : fr X Y n σ σ1) (h2 : fr X Y m σ1 σ2) : fr X Y (n + m) σ σ2 := fr_tr h h2 (fun _ _ z => z) (fun _ _ z => z)
theorem fr.nx (h : fr X Y n σ σ2) : cm_nx σ ≤ cm_nx σ2 := h.1
theorem fr.tg (h : fr X Y n σ σ2) (ha : a < cm_nx σ) : cm_tg σ2 a = cm_tg σ a := (h.2.2.2 a ha).1
theorem fr.ln (h : fr X Y n σ σ2) (ha : a < cm_nx σ) : cm_ln σ2 a = cm_ln σ a := (h.2.2.2 a ha).2.1
theorem fr.I (h : fr X Y n σ σ2) (ha : a < cm_nx σ) (q : ¬ X a) : cm_I σ2 a = cm_I σ a := ((h.2.2.2 a ha).2.2.1 q).1
theorem fr.L (h : fr X Y n σ σ2) (ha : a < cm_nx σ) (q : ¬ X a) : cm_L σ2 a = cm_L σ a := ((h.2.2.2 a ha).2.2.1 q).2
theorem fr.R (h : fr X Y n σ σ2) (ha : a < cm_nx σ) (q : ¬ Y a) : cm_R σ2 a = cm_R σ a := (h.2.2.2 a ha).2.2.2 q
theorem fr_pI {v : Int32} (h : X a ∨ cm_nx σ ≤ a) : fr X Y 0 σ (cm_pI σ a i v) := ⟨Nat.le_refl _, Nat.le_refl _, Nat.le_refl _, fun b hb => ⟨rfl, rfl, fun q => ⟨u2_row _ _ _ _ (fun e => h.elim (fun z => q (e ▸ z)) (fun z => by rw [e] at hb; omega)), rfl⟩, fun _ => rfl⟩⟩
theorem fr_pL {v : Int64} (h : X a ∨ cm_nx σ ≤ a) : fr X Y 0 σ (cm_pL σ a i v) := ⟨Nat.le_refl _, Nat.le_refl _, Nat.le_refl _, fun b hb => ⟨rfl, rfl, fun q => ⟨rfl, u2_row _ _ _ _ (fun e => h.elim (fun z => q (e ▸ z)) (fun z => by rw [e] at hb; omega))⟩, fun _ => rfl⟩⟩
theorem fr_pR {v : Nat} (h : Y a ∨ cm_nx σ ≤ a) : fr X Y 0 σ (cm_pR σ a i v) := ⟨Nat.le_refl _, Nat.le_refl _, Nat.le_refl _, fun b hb => ⟨rfl, rfl, fun q => ⟨rfl, rfl⟩, fun q => u2_row _ _ _ _ (fun e => h.elim (fun z => q (e ▸ z)) (fun z => by rw [e] at hb; omega))⟩⟩
theorem u1_ne {α : Type} (f : Nat → α) {a b : Nat} (v : α) (h : b ≠ a) : cm_u1 f a v b = f b := by unfold cm_u1; rw [if_neg h]
theorem u1_at {α : Type} (f : Nat → α) (a : Nat) (v : α) : cm_u1 f a v a = v := by unfold cm_u1; rw [if_pos rfl]
theorem fr_al (hk : k ≤ 12 * n) (h1 : 1 ≤ n) : fr X Y n σ (cm_al σ t k) := by
  have e : cm_nx (cm_al σ t k) = cm_nx σ + 1 := rfl
  have e2 : cm_sz (cm_al σ t k) = cm_sz σ + k := rfl
  refine ⟨(by omega), (by omega), (by omega), fun b hb => ?_⟩
  have hne : b ≠ cm_nx σ := (by omega)
  exact ⟨u1_ne _ _ hne, u1_ne _ _ hne, fun _ => ⟨u1_ne _ _ hne, u1_ne _ _ hne⟩, fun _ => u1_ne _ _ hne⟩
theorem fr_cl (hk : cm_ln σ a ≤ 12 * n) (h1 : 1 ≤ n) : fr X Y n σ (cm_cl σ t a) := by
  have e : cm_nx (cm_cl σ t a) = cm_nx σ + 1 := rfl
  have e2 : cm_sz (cm_cl σ t a) = cm_sz σ + cm_ln σ a := rfl
  refine ⟨(by omega), (by omega), (by omega), fun b hb => ?_⟩
  have hne : b ≠ cm_nx σ := (by omega)
  exact ⟨u1_ne _ _ hne, u1_ne _ _ hne, fun _ => ⟨u1_ne _ _ hne, u1_ne _ _ hne⟩, fun _ => u1_ne _ _ hne⟩
theorem fr_wI {f : Nat → Int32} (h : X a ∨ cm_nx σ ≤ a) : fr X Y 0 σ (cm_wI σ a f) := ⟨Nat.le_refl _, Nat.le_refl _, Nat.le_refl _, fun b hb => ⟨rfl, rfl, fun q => ⟨u1_ne _ _ (fun e => h.elim (fun z => q (e ▸ z)) (fun z => by rw [e] at hb; omega)), rfl⟩, fun _ => rfl⟩⟩
theorem fr_wL {f : Nat → Int64} (h : X a ∨ cm_nx σ ≤ a) : fr X Y 0 σ (cm_wL σ a f) := ⟨Nat.le_refl _, Nat.le_refl _, Nat.le_refl _, fun b hb => ⟨rfl, rfl, fun q => ⟨rfl, u1_ne _ _ (fun e => h.elim (fun z => q (e ▸ z)) (fun z => by rw [e] at hb; omega))⟩, fun _ => rfl⟩⟩
theorem fr_wR {f : Nat → Nat} (h : Y a ∨ cm_nx σ ≤ a) : fr X Y 0 σ (cm_wR σ a f) := ⟨Nat.le_refl _, Nat.le_refl _, Nat.le_refl _, fun b hb => ⟨rfl, rfl, fun q => ⟨rfl, rfl⟩, fun q => u1_ne _ _ (fun e => h.elim (fun z => q (e ▸ z)) (fun z => by rw [e] at hb; omega))⟩⟩
/-- the fixed objects stay, if no fixed reference is among the changed -/
theorem en_fr (hE : en_ok σ) (h : fr X Y n σ σ2) (hy : ∀ a, Y a → ¬ en_ra a) : en_ok σ2 :=
  en_like hE h.1 (fun a ha => h.tg (Nat.lt_of_lt_of_le ha hE.1)) (fun a ha => h.ln (Nat.lt_of_lt_of_le ha hE.1)) (fun a ha => h.R (Nat.lt_of_lt_of_le (by unfold en_ra at ha; omega) hE.1) (fun z => hy a z ha))
end
