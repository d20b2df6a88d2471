/-! THE RELATION of clean states to the machine's heaps -/
def cm_tv (f : Nat → Nat) (v : Value) : Value := match v with
  | .ref a => if a = 0 then .null else .ref (f a)
  | w => w
def cm_kd (ty : FieldType) : Nat := match ty with
  | .long => 1
  | .object _ => 2
  | .array _ => 2
  | .boolean => 3
  | .byte => 4
  | .char => 5
  | .short => 6
  | .float => 7
  | .double => 8
  | _ => 0
def cm_vl (f : Nat → Nat) (σ : cm_S) (a j : Nat) (ty : FieldType) : Value := match cm_kd ty with
  | 1 => .long (cm_L σ a j)
  | 2 => cm_tv f (.ref (cm_R σ a j))
  | _ => .int (cm_I σ a j)
/-- the world's numbers: classes, their slots, field types, components of arrays, array classes, addresses, the first new address -/
abbrev cm_G : Type := va_G × List vw_C × (Nat → Nat → FieldType) × (Nat → FieldType) × (Nat → ClassId) × (Nat → Nat) × Nat
abbrev cg_D (G : cm_G) : va_G := G.1
abbrev cg_cl (G : cm_G) : List vw_C := G.2.1
abbrev cg_ty (G : cm_G) : Nat → Nat → FieldType := G.2.2.1
abbrev cg_ak (G : cm_G) : Nat → FieldType := G.2.2.2.1
abbrev cg_dA (G : cm_G) : Nat → ClassId := G.2.2.2.2.1
abbrev cg_f (G : cm_G) : Nat → Nat := G.2.2.2.2.2.1
abbrev cg_b (G : cm_G) : Nat := G.2.2.2.2.2.2
def cm_ob (G : cm_G) (σ : cm_S) (a t : Nat) (cell : Cell) : Prop := cell.cls = (cg_D G).1 t ∧ ∃ r : vw_C, (cg_cl G)[t]? = some r ∧ ∀ k, k < r.2.2 → cell.slots[(cg_D G).2 t k]? = some (cm_vl (cg_f G) σ a k (cg_ty G t k))
def cm_ar (P : cm_P) (G : cm_G) (U : State) (σ : cm_S) (a t : Nat) (cell : Cell) : Prop := (100 < t ∧ t < 110) ∧ U.isArrayOf cell (cg_ak G t) ∧ ((cm_K P ≤ a ∨ 104 < t) → cell.cls = cg_dA G t) ∧ cell.slots.size = cm_ln σ a ∧ (∀ j, j < cm_ln σ a → cell.slots[j]? = some (cm_vl (cg_f G) σ a j (cg_ak G t))) ∧ ∀ j, j < cm_ln σ a → fits (cg_ak G t) (cm_vl (cg_f G) σ a j (cg_ak G t)) = true
def cm_cell (P : cm_P) (G : cm_G) (U : State) (σ : cm_S) (a : Nat) (H : Heap) : Prop := ∃ cell : Cell, H[cg_f G a]? = some cell ∧ cell.vm.isStatics = false ∧ cell.vm ≠ .unknown ∧ (cm_K P ≤ a → cell.vm = .none) ∧ (cm_tg σ a < 100 → cm_ob G σ a (cm_tg σ a) cell) ∧ (100 ≤ cm_tg σ a → cm_ar P G U σ a (cm_tg σ a) cell)
def cm_J (P : cm_P) (G : cm_G) (s : State) (σ : cm_S) (H : Heap) (locs : List Loc) : Prop :=
  cm_K P ≤ cm_nx σ ∧ H.size = cg_b G + (cm_nx σ - cm_K P) ∧ (∀ a, cm_tg σ a ≠ 0 → 0 < a ∧ a < cm_nx σ ∧ cm_cell P G s σ a H) ∧ va_S (fun q => cg_b G ≤ q) s.heap H locs
/-- addresses -/
def cm_ad (P : cm_P) (G : cm_G) : Prop := (∀ a, cm_K P ≤ a → cg_f G a = cg_b G + (a - cm_K P)) ∧ (∀ a, a < cm_K P → cg_f G a < cg_b G) ∧ cm_KD P ≤ cm_K P ∧ 0 < cm_K P ∧ ∀ a b, 0 < a → a < cm_KD P → 0 < b → b < cm_KD P → cg_f G a = cg_f G b → a = b
theorem cm_ad.ne {P : cm_P} {G : cm_G} (h : cm_ad P G) {a b : Nat} (ha : cm_K P ≤ a) (hb : b ≠ a) : cg_f G b ≠ cg_f G a := by
  intro e
  rw [h.1 a ha] at e
  by_cases hk : cm_K P ≤ b
  · rw [h.1 b hk] at e; omega
  · have := h.2.1 b (by omega); omega
theorem cm_tv_ref {f : Nat → Nat} {a : Nat} (h : a ≠ 0) : cm_tv f (.ref a) = .ref (f a) := by simp [cm_tv, h]
theorem cm_tv_0 {f : Nat → Nat} : cm_tv f (.ref 0) = .null := by simp [cm_tv]
theorem cm_tv_int {f : Nat → Nat} {x : Int32} : cm_tv f (.int x) = .int x := rfl
theorem cm_tv_long {f : Nat → Nat} {x : Int64} : cm_tv f (.long x) = .long x := rfl
theorem cm_tv_rf (f : Nat → Nat) (a : Nat) : cm_tv f (.ref a) = va_rf (if a = 0 then none else some (f a)) := by
  by_cases h : a = 0 <;> simp [cm_tv, h, va_rf]
theorem cm_tv_cat (f : Nat → Nat) (v : Value) : (cm_tv f v).category = v.category := by
  cases v <;> first | rfl | (simp only [cm_tv]; split <;> rfl)
theorem cm_wd_map (f : Nat → Nat) (st : List Value) : ((st.map (cm_tv f)).map fun v => v.category).sum = cm_wd st := by
  simp only [cm_wd, List.map_map]
  congr 1
  exact List.map_congr_left fun v _ => cm_tv_cat f v
/-! reads of written states -/
section
variable (σ : cm_S) (a i : Nat) (t n : Nat)
theorem cm_vl_pI (f : Nat → Nat) (v : Int32) {b : Nat} (j : Nat) (ty : FieldType) (h : b ≠ a) : cm_vl f (cm_pI σ a i v) b j ty = cm_vl f σ b j ty := by
  simp [cm_vl, cm_pI, cm_I, cm_L, cm_R, cm_u2, h]
theorem cm_vl_pL (f : Nat → Nat) (v : Int64) {b : Nat} (j : Nat) (ty : FieldType) (h : b ≠ a) : cm_vl f (cm_pL σ a i v) b j ty = cm_vl f σ b j ty := by
  simp [cm_vl, cm_pL, cm_I, cm_L, cm_R, cm_u2, h]
theorem cm_vl_pR (f : Nat → Nat) (v : Nat) {b : Nat} (j : Nat) (ty : FieldType) (h : b ≠ a) : cm_vl f (cm_pR σ a i v) b j ty = cm_vl f σ b j ty := by
  simp [cm_vl, cm_pR, cm_I, cm_L, cm_R, cm_u2, h]
theorem cm_vl_wI (f : Nat → Nat) (g : Nat → Int32) {b : Nat} (j : Nat) (ty : FieldType) (h : b ≠ a) : cm_vl f (cm_wI σ a g) b j ty = cm_vl f σ b j ty := by
  simp [cm_vl, cm_wI, cm_I, cm_L, cm_R, cm_u1, h]
theorem cm_vl_wL (f : Nat → Nat) (g : Nat → Int64) {b : Nat} (j : Nat) (ty : FieldType) (h : b ≠ a) : cm_vl f (cm_wL σ a g) b j ty = cm_vl f σ b j ty := by
  simp [cm_vl, cm_wL, cm_I, cm_L, cm_R, cm_u1, h]
theorem cm_vl_wR (f : Nat → Nat) (g : Nat → Nat) {b : Nat} (j : Nat) (ty : FieldType) (h : b ≠ a) : cm_vl f (cm_wR σ a g) b j ty = cm_vl f σ b j ty := by
  simp [cm_vl, cm_wR, cm_I, cm_L, cm_R, cm_u1, h]
theorem cm_vl_al (f : Nat → Nat) {b : Nat} (j : Nat) (ty : FieldType) (h : b ≠ cm_nx σ) : cm_vl f (cm_al σ t n) b j ty = cm_vl f σ b j ty := by
  simp [cm_vl, cm_al, cm_I, cm_L, cm_R, cm_u1, h]
/-- the same place -/
theorem cm_vl_pI_at (f : Nat → Nat) (v : Int32) (j : Nat) (ty : FieldType) (h : cm_kd ty ≠ 1 ∧ cm_kd ty ≠ 2) : cm_vl f (cm_pI σ a i v) a j ty = if j = i then .int v else cm_vl f σ a j ty := by
  obtain ⟨h1, h2⟩ := h
  by_cases hj : j = i
  · subst hj; simp [cm_vl, cm_pI, cm_I, cm_u2, h1, h2]
  · simp [cm_vl, cm_pI, cm_I, cm_L, cm_R, cm_u2, hj]
theorem cm_vl_pL_at (f : Nat → Nat) (v : Int64) (j : Nat) (ty : FieldType) (h : cm_kd ty = 1) : cm_vl f (cm_pL σ a i v) a j ty = if j = i then .long v else cm_vl f σ a j ty := by
  by_cases hj : j = i
  · subst hj; simp [cm_vl, cm_pL, cm_L, cm_u2, h]
  · simp [cm_vl, cm_pL, cm_I, cm_L, cm_R, cm_u2, hj]
theorem cm_vl_pR_at (f : Nat → Nat) (v : Nat) (j : Nat) (ty : FieldType) (h : cm_kd ty = 2) : cm_vl f (cm_pR σ a i v) a j ty = if j = i then cm_tv f (.ref v) else cm_vl f σ a j ty := by
  by_cases hj : j = i
  · subst hj; simp [cm_vl, cm_pR, cm_R, cm_u2, h]
  · simp [cm_vl, cm_pR, cm_I, cm_L, cm_R, cm_u2, hj]
/-- another field of the same object -/
theorem cm_vl_pI_ne (f : Nat → Nat) (v : Int32) {j : Nat} (ty : FieldType) (h : j ≠ i) (b : Nat) : cm_vl f (cm_pI σ a i v) b j ty = cm_vl f σ b j ty := by
  simp [cm_vl, cm_pI, cm_I, cm_L, cm_R, cm_u2, h]
theorem cm_vl_pL_ne (f : Nat → Nat) (v : Int64) {j : Nat} (ty : FieldType) (h : j ≠ i) (b : Nat) : cm_vl f (cm_pL σ a i v) b j ty = cm_vl f σ b j ty := by
  simp [cm_vl, cm_pL, cm_I, cm_L, cm_R, cm_u2, h]
theorem cm_vl_pR_ne (f : Nat → Nat) (v : Nat) {j : Nat} (ty : FieldType) (h : j ≠ i) (b : Nat) : cm_vl f (cm_pR σ a i v) b j ty = cm_vl f σ b j ty := by
  simp [cm_vl, cm_pR, cm_I, cm_L, cm_R, cm_u2, h]
theorem cm_vl_new (f : Nat → Nat) (j : Nat) (ty : FieldType) (h : cm_kd ty ≠ 7 ∧ cm_kd ty ≠ 8) : cm_vl f (cm_al σ t n) (cm_nx σ) j ty = defaultValue ty := by
  cases ty <;> simp [cm_vl, cm_kd, cm_al, cm_I, cm_L, cm_R, cm_u1, defaultValue, cm_tv] at h ⊢
end
/-! the relation kept -/
section
variable {P : cm_P} {G : cm_G} {s : State} {σ σ' : cm_S} {H H' : Heap} {locs locs' : List Loc} {a : Nat}
theorem cm_cell.kept {b : Nat} (h : cm_cell P G s σ b H) (ht : cm_tg σ' b = cm_tg σ b) (hl : cm_ln σ' b = cm_ln σ b) (hv : ∀ j ty, cm_vl (cg_f G) σ' b j ty = cm_vl (cg_f G) σ b j ty) (hH : H'[cg_f G b]? = H[cg_f G b]?) : cm_cell P G s σ' b H' := by
  obtain ⟨cell, h1, h2, h3, h4, h5, h6⟩ := h
  refine ⟨cell, by rw [hH]; exact h1, h2, h3, h4, fun q => ?_, fun q => ?_⟩
  · rw [ht] at q ⊢
    obtain ⟨q1, r, q2, q3⟩ := h5 q
    exact ⟨q1, r, q2, fun k hk => by rw [hv]; exact q3 k hk⟩
  · rw [ht] at q ⊢
    obtain ⟨q0, q1, q2, q3, q4, q5⟩ := h6 q
    exact ⟨q0, q1, q2, by rw [hl]; exact q3, fun j hj => by rw [hv]; exact q4 j (by rw [← hl]; exact hj), fun j hj => by rw [hv]; exact q5 j (by rw [← hl]; exact hj)⟩
theorem cm_J.put (hA : cm_ad P G) (hJ : cm_J P G s σ H locs) (hK : cm_K P ≤ a) (htg : cm_tg σ' = cm_tg σ) (hln : cm_ln σ' = cm_ln σ) (hnx : cm_nx σ' = cm_nx σ) (hvl : ∀ b, b ≠ a → ∀ j ty, cm_vl (cg_f G) σ' b j ty = cm_vl (cg_f G) σ b j ty) (hc : cm_cell P G s σ' a H')
    (hsz : H'.size = H.size) (ho : ∀ q, q ≠ cg_f G a → H'[q]? = H[q]?) (hl : ∀ x ∈ locs', x ∈ locs ∨ x.base = cg_f G a) : cm_J P G s σ' H' locs' := by
  obtain ⟨j1, j2, j3, j4, j5, j6⟩ := hJ
  have hfa : cg_b G ≤ cg_f G a := by rw [hA.1 a hK]; omega
  refine ⟨by rw [hnx]; exact j1, by rw [hsz, hnx]; exact j2, fun b hb => ?_, by rw [hsz]; exact j4, fun q h1 h2 => ?_, fun x hx => ?_⟩
  · rw [htg] at hb
    obtain ⟨b1, b2, b3⟩ := j3 b hb
    refine ⟨b1, by rw [hnx]; exact b2, ?_⟩
    by_cases e : b = a
    · subst e; exact hc
    · exact b3.kept (by rw [htg]) (by rw [hln]) (hvl b e) (ho _ (hA.ne hK e))
  · rw [ho q (fun e => h2 (by rw [e]; exact hfa))]
    exact j5 q h1 h2
  · rcases hl x hx with e | e
    · exact j6 x e
    · rw [e]; exact hfa
theorem cm_J.al {t n : Nat} (hA : cm_ad P G) (hJ : cm_J P G s σ H locs) (ht0 : t ≠ 0) (hz : H'.size = H.size + 1) (ho : ∀ q, q < H.size → H'[q]? = H[q]?) (hc : cm_cell P G s (cm_al σ t n) (cm_nx σ) H') : cm_J P G s (cm_al σ t n) H' locs := by
  obtain ⟨j1, j2, j3, j4, j5, j6⟩ := hJ
  have hn : cm_nx (cm_al σ t n) = cm_nx σ + 1 := rfl
  refine ⟨by omega, by rw [hz, hn]; omega, fun b hb => ?_, by omega, fun q h1 h2 => ?_, j6⟩
  · by_cases e : b = cm_nx σ
    · subst e
      exact ⟨by have := hA.2.2.2.1; omega, by omega, hc⟩
    · have hb' : cm_tg σ b ≠ 0 := by
        intro q; apply hb; simp [cm_al, cm_tg, cm_u1, e]; exact q
      obtain ⟨b1, b2, b3⟩ := j3 b hb'
      refine ⟨b1, by omega, b3.kept (by simp [cm_al, cm_tg, cm_u1, e]) (by simp [cm_al, cm_ln, cm_u1, e]) (fun j ty => cm_vl_al σ t n _ j ty e) (ho _ ?_)⟩
      obtain ⟨cell, h1, -⟩ := b3
      exact (Array.getElem?_eq_some_iff.mp h1).1
  · rw [ho q (by omega)]
    exact j5 q h1 h2
theorem cm_J.new (hA : cm_ad P G) (hJ : cm_J P G s σ H locs) : cg_f G (cm_nx σ) = H.size := by
  rw [hA.1 _ hJ.1, hJ.2.1]
end
/-! locals -/
def cm_lv (L : List Value) (i : Nat) : Option Value := match L[i]? with
  | some (.int x) => some (.int x)
  | some (.ref a) => some (.ref a)
  | some (.long x) => (match L[i + 1]? with
      | some (.retAddr _) => some (.long x)
      | _ => none)
  | _ => none
def cm_prs (f : Nat → Nat) (L : List Value) : List (Nat × Value) := (List.range L.length).filterMap fun i => (cm_lv L i).map fun v => (i, cm_tv f v)
theorem cm_prs_mem {f : Nat → Nat} {L : List Value} {q : Nat × Value} : q ∈ cm_prs f L ↔ ∃ v, cm_lv L q.1 = some v ∧ q.2 = cm_tv f v := by
  obtain ⟨i, w⟩ := q
  simp only [cm_prs, List.mem_filterMap, List.mem_range, Option.map_eq_some_iff, Prod.mk.injEq]
  constructor
  · rintro ⟨j, hj, v, hv, rfl, rfl⟩
    exact ⟨v, hv, rfl⟩
  · rintro ⟨v, hv, rfl⟩
    refine ⟨i, ?_, v, hv, rfl, rfl⟩
    unfold cm_lv at hv
    cases h : L[i]? with
    | none => rw [h] at hv; cases hv
    | some x => exact (List.getElem?_eq_some_iff.mp h).1
def cm_LR (f : Nat → Nat) (nL : Nat) (L : List Value) (ls : Array Slot) : Prop := L.length = nL ∧ lv_has ls nL (cm_prs f L)
theorem cm_LR.at {f : Nat → Nat} {nL : Nat} {L : List Value} {ls : Array Slot} (h : cm_LR f nL L ls) {i : Nat} {v : Value} (hv : cm_lv L i = some v) : ls[i]? = some (.val (cm_tv f v)) := h.2.2.2 (i, cm_tv f v) (cm_prs_mem.mpr ⟨v, hv, rfl⟩)
theorem cm_has_sub {ls : Array Slot} {nL : Nat} {l l' : List (Nat × Value)} (h : lv_has ls nL l) (hs : ∀ q ∈ l', q ∈ l) : lv_has ls nL l' := ⟨h.1, h.2.1, fun q hq => h.2.2 q (hs q hq)⟩
theorem cm_lv_ne {L : List Value} {i j : Nat} {v w : Value} (hv : (∃ x, v = .int x) ∨ ∃ x, v = .ref x) (hj : j ≠ i) (h : cm_lv (L.set i v) j = some w) : cm_lv L j = some w ∧ ¬ (j + 1 = i ∧ w.category = 2) := by
  unfold cm_lv at h ⊢
  rw [List.getElem?_set_ne (Ne.symm hj)] at h
  cases hL : L[j]? with
  | none => rw [hL] at h; cases h
  | some y =>
    rw [hL] at h
    cases y with
    | int x => simp at h ⊢; subst h; simp [Value.category]
    | ref x => simp at h ⊢; subst h; simp [Value.category]
    | long x =>
      dsimp only at h ⊢
      by_cases h1 : j + 1 = i
      · subst h1
        exfalso
        by_cases hl : j + 1 < L.length
        · rw [List.getElem?_set_self hl] at h
          rcases hv with ⟨x, rfl⟩ | ⟨x, rfl⟩ <;> simp at h
        · rw [List.getElem?_eq_none (by simpa using Nat.le_of_not_lt hl)] at h
          simp at h
      · rw [List.getElem?_set_ne (Ne.symm h1)] at h
        exact ⟨h, fun q => h1 q.1⟩
    | _ => simp at h
theorem cm_lv_self {L : List Value} {i : Nat} {v w : Value} (hv : (∃ x, v = .int x) ∨ ∃ x, v = .ref x) (h : cm_lv (L.set i v) i = some w) : w = v := by
  unfold cm_lv at h
  by_cases hl : i < L.length
  · rw [List.getElem?_set_self hl] at h
    rcases hv with ⟨x, rfl⟩ | ⟨x, rfl⟩ <;> simp at h <;> exact h.symm
  · rw [List.getElem?_eq_none (by simpa using Nat.le_of_not_lt hl)] at h
    simp at h
theorem cm_lv_set {f : Nat → Nat} {L : List Value} {i : Nat} {v : Value} (hv : (∃ x, v = .int x) ∨ ∃ x, v = .ref x) (q : Nat × Value) (hq : q ∈ cm_prs f (cm_set L i v)) : q ∈ (i, cm_tv f v) :: (cm_prs f L).filter (fun q => !(q.1 == i) && !(q.1 + 1 == i && q.2.category == 2)) := by
  obtain ⟨w, hw, e⟩ := cm_prs_mem.mp hq
  obtain ⟨j, x⟩ := q
  dsimp only at hw e
  subst e
  by_cases hj : j = i
  · subst hj
    rw [cm_lv_self hv hw]
    exact List.mem_cons_self
  · obtain ⟨h1, h2⟩ := cm_lv_ne hv hj hw
    refine List.mem_cons_of_mem _ (List.mem_filter.mpr ⟨cm_prs_mem.mpr ⟨w, h1, rfl⟩, ?_⟩)
    simp only [cm_tv_cat]
    by_cases h3 : j + 1 = i
    · have h4 : ¬ w.category = 2 := fun q => h2 ⟨h3, q⟩
      simp [hj, h4]
    · simp [hj, h3]
theorem cm_lv_set2 {f : Nat → Nat} {L : List Value} {i : Nat} {v : Int64} (q : Nat × Value) (hq : q ∈ cm_prs f (cm_set2 L i v)) : q ∈ (i, Value.long v) :: (cm_prs f L).filter (fun q => !(q.1 == i) && (!(q.1 == i + 1) && !(q.1 + 1 == i && q.2.category == 2))) := by
  obtain ⟨w, hw, e⟩ := cm_prs_mem.mp hq
  obtain ⟨j, x⟩ := q
  dsimp only at hw e
  subst e
  unfold cm_lv cm_set2 at hw
  by_cases hj1 : j = i + 1
  · exfalso
    subst hj1
    by_cases hl : i + 1 < (L.set i (.long v)).length
    · rw [List.getElem?_set_self hl] at hw
      simp at hw
    · rw [List.getElem?_eq_none (by simpa using Nat.le_of_not_lt hl)] at hw
      simp at hw
  rw [List.getElem?_set_ne (Ne.symm hj1)] at hw
  by_cases hj : j = i
  · subst hj
    by_cases hl : j < L.length
    · rw [List.getElem?_set_self hl] at hw
      dsimp only at hw
      by_cases hl2 : j + 1 < L.length
      · rw [List.getElem?_set_self (by simpa using hl2)] at hw
        simp at hw
        subst hw
        exact List.mem_cons_self
      · rw [List.getElem?_eq_none (by simpa using Nat.le_of_not_lt hl2)] at hw
        simp at hw
    · rw [List.getElem?_eq_none (by simpa using Nat.le_of_not_lt hl)] at hw
      simp at hw
  · rw [List.getElem?_set_ne (Ne.symm hj)] at hw
    have key : cm_lv L j = some w ∧ ¬ (j + 1 = i ∧ w.category = 2) := by
      unfold cm_lv
      cases hL : L[j]? with
      | none => rw [hL] at hw; cases hw
      | some y =>
        rw [hL] at hw
        cases y with
        | int x => simp at hw ⊢; subst hw; simp [Value.category]
        | ref x => simp at hw ⊢; subst hw; simp [Value.category]
        | long x =>
          dsimp only at hw ⊢
          have h0 : j + 1 ≠ i + 1 := fun q => hj (by omega)
          rw [List.getElem?_set_ne (Ne.symm h0)] at hw
          by_cases h1 : j + 1 = i
          · subst h1
            exfalso
            by_cases hl : j + 1 < L.length
            · rw [List.getElem?_set_self hl] at hw
              simp at hw
            · rw [List.getElem?_eq_none (by simpa using Nat.le_of_not_lt hl)] at hw
              simp at hw
          · rw [List.getElem?_set_ne (Ne.symm h1)] at hw
            exact ⟨hw, fun q => h1 q.1⟩
        | _ => simp at hw
    refine List.mem_cons_of_mem _ (List.mem_filter.mpr ⟨cm_prs_mem.mpr ⟨w, key.1, rfl⟩, ?_⟩)
    simp only [cm_tv_cat]
    by_cases h3 : j + 1 = i
    · have h4 : ¬ w.category = 2 := fun q => key.2 ⟨h3, q⟩
      simp [hj, hj1, h4]
    · simp [hj, hj1, h3]
/-! locals at the entry -/
theorem cm_ent_lv (f : Nat → Nat) : ∀ (args pre : List Value) (n : Nat), (∀ v ∈ args, (∃ x, v = .int x) ∨ (∃ x, v = .long x) ∨ ∃ x, v = .ref x) → ∀ i w, pre.length ≤ i → cm_lv (pre ++ cm_ent args ++ List.replicate n .null) i = some w → (i, cm_tv f w) ∈ lv_args pre.length (args.map (cm_tv f)) := by
  intro args
  induction args with
  | nil =>
    intro pre n _ i w hi h
    exfalso
    unfold cm_lv at h
    rw [List.append_assoc, List.getElem?_append_right hi] at h
    simp only [cm_ent, List.nil_append] at h
    rw [List.getElem?_replicate] at h
    by_cases hn : i - pre.length < n
    · rw [if_pos hn] at h; cases h
    · rw [if_neg hn] at h; cases h
  | cons v r ih =>
    intro pre n hv i w hi h
    have hr : ∀ v ∈ r, (∃ x, v = .int x) ∨ (∃ x, v = .long x) ∨ ∃ x, v = .ref x := fun z hz => hv z (List.mem_cons_of_mem _ hz)
    rcases hv v List.mem_cons_self with ⟨x, rfl⟩ | ⟨x, rfl⟩ | ⟨x, rfl⟩
    · have e : pre ++ cm_ent (.int x :: r) ++ List.replicate n .null = (pre ++ [.int x]) ++ cm_ent r ++ List.replicate n .null := by simp [cm_ent]
      by_cases hi0 : i = pre.length
      · subst hi0
        rw [e] at h
        unfold cm_lv at h
        simp at h
        subst h
        simp [lv_args]
      · rw [e] at h
        have h2 := ih (pre ++ [.int x]) n hr i w (by simp; omega) h
        simp only [List.length_append, List.length_cons, List.length_nil, List.map_cons, lv_args] at h2 ⊢
        exact List.mem_cons_of_mem _ (by simpa [cm_tv, Value.category] using h2)
    · have e : pre ++ cm_ent (.long x :: r) ++ List.replicate n .null = (pre ++ [.long x, .retAddr 0]) ++ cm_ent r ++ List.replicate n .null := by simp [cm_ent]
      rw [e] at h
      by_cases hi0 : i = pre.length
      · subst hi0
        unfold cm_lv at h
        simp at h
        subst h
        simp [lv_args]
      · by_cases hi1 : i = pre.length + 1
        · exfalso
          subst hi1
          unfold cm_lv at h
          have e2 : ((pre ++ [Value.long x, .retAddr 0]) ++ cm_ent r ++ List.replicate n .null)[pre.length + 1]? = some (.retAddr 0) := by simp
          rw [e2] at h
          simp at h
        · have h2 := ih (pre ++ [.long x, .retAddr 0]) n hr i w (by simp; omega) h
          simp only [List.length_append, List.length_cons, List.length_nil, List.map_cons, lv_args] at h2 ⊢
          exact List.mem_cons_of_mem _ (by simpa [cm_tv, Value.category] using h2)
    · have e : pre ++ cm_ent (.ref x :: r) ++ List.replicate n .null = (pre ++ [.ref x]) ++ cm_ent r ++ List.replicate n .null := by simp [cm_ent]
      by_cases hi0 : i = pre.length
      · subst hi0
        rw [e] at h
        unfold cm_lv at h
        simp at h
        subst h
        simp [lv_args]
      · rw [e] at h
        have h2 := ih (pre ++ [.ref x]) n hr i w (by simp; omega) h
        simp only [List.length_append, List.length_cons, List.length_nil, List.map_cons, lv_args] at h2 ⊢
        refine List.mem_cons_of_mem _ ?_
        rw [cm_tv_cat]
        simpa [Value.category] using h2
theorem cm_ent_len (f : Nat → Nat) : ∀ args : List Value, (∀ v ∈ args, (∃ x, v = .int x) ∨ (∃ x, v = .long x) ∨ ∃ x, v = .ref x) → (cm_ent args).length = (lg_sl (args.map (cm_tv f))).length := by
  intro args
  induction args with
  | nil => intro _; rfl
  | cons v r ih =>
    intro hv
    have e : lg_sl ((v :: r).map (cm_tv f)) = (if (cm_tv f v).category = 2 then [.val (cm_tv f v), .second] else [.val (cm_tv f v)]) ++ lg_sl (r.map (cm_tv f)) := by simp [lg_sl]
    rw [e, cm_tv_cat]
    have h2 := ih (fun z hz => hv z (List.mem_cons_of_mem _ hz))
    rcases hv v List.mem_cons_self with ⟨x, rfl⟩ | ⟨x, rfl⟩ | ⟨x, rfl⟩ <;> simp [cm_ent, Value.category, h2]
/-- the locals with which a method begins -/
theorem cm_LR_entry (f : Nat → Nat) (args : List Value) (hv : ∀ v ∈ args, (∃ x, v = .int x) ∨ (∃ x, v = .long x) ∨ ∃ x, v = .ref x) {n : Nat} (hn : (cm_ent args).length ≤ n) : cm_LR f n (cm_el n args) ((lg_sl (args.map (cm_tv f)) ++ List.replicate (n - (lg_sl (args.map (cm_tv f))).length) Slot.unset).toArray) := by
  refine ⟨by simp [cm_el]; omega, ?_⟩
  have h := lv_entry (args.map (cm_tv f)) (n := n) (by rw [← cm_ent_len f args hv]; exact hn)
  refine cm_has_sub h fun q hq => ?_
  obtain ⟨v, h1, h2⟩ := cm_prs_mem.mp hq
  obtain ⟨i, w⟩ := q
  dsimp only at h1 h2
  subst h2
  have := cm_ent_lv f args [] (n - (cm_ent args).length) hv i v (Nat.zero_le _) (by simpa [cm_el] using h1)
  simpa using this
