/-! FIXED OBJECTS of engine and twin (by gen/mkknown.py) -/
def en_fs : List (Nat × Nat × Nat) := [(322, 1, 28), (323, 3, 7), (324, 103, 80), (325, 4, 1), (331, 26, 3), (332, 105, 17), (333, 101, 240), (334, 101, 240), (335, 101, 240), (336, 101, 240), (337, 102, 240), (338, 102, 240), (339, 102, 240), (340, 102, 240), (341, 27, 3), (343, 27, 3), (345, 106, 240), (346, 106, 240), (347, 7, 2), (348, 27, 3), (349, 102, 4), (350, 101, 240), (351, 101, 240), (352, 101, 240), (353, 101, 240), (354, 8, 9)]
def en_rs : List (Nat × Nat × Nat) := [(322, 0, 323), (322, 1, 324), (322, 3, 325), (322, 5, 331), (322, 6, 333), (322, 7, 334), (322, 8, 335), (322, 9, 336), (322, 10, 337), (322, 11, 338), (322, 12, 339), (322, 13, 340), (322, 14, 341), (322, 15, 343), (322, 18, 345), (322, 19, 346), (322, 21, 347), (322, 22, 348), (322, 23, 350), (322, 24, 351), (322, 25, 352), (322, 26, 353), (322, 27, 354), (331, 0, 332), (347, 1, 322), (348, 0, 349), (354, 8, 322)]
def en_ok (σ : cm_S) : Prop := 1346 ≤ cm_nx σ ∧ (∀ q ∈ en_fs, cm_tg σ q.1 = q.2.1 ∧ cm_ln σ q.1 = q.2.2) ∧ (∀ q ∈ en_rs, cm_R σ q.1 q.2.1 = q.2.2) ∧
  ∀ k, k < 240 → cm_R σ 345 k = 355 + 4 * k ∧ cm_R σ 346 k = 357 + 4 * k ∧ cm_tg σ (355 + 4 * k) = 27 ∧ cm_tg σ (357 + 4 * k) = 27 ∧ cm_R σ (355 + 4 * k) 0 = 356 + 4 * k ∧ cm_R σ (357 + 4 * k) 0 = 358 + 4 * k ∧ cm_tg σ (356 + 4 * k) = 102 ∧ cm_tg σ (358 + 4 * k) = 102 ∧ cm_ln σ (356 + 4 * k) = 4 ∧ cm_ln σ (358 + 4 * k) = 4
theorem en_t322 {σ : cm_S} (h : en_ok σ) : cm_tg σ 322 = 1 := (h.2.1 _ (List.mem_of_getElem? (i := 0) rfl)).1
theorem en_l322 {σ : cm_S} (h : en_ok σ) : cm_ln σ 322 = 28 := (h.2.1 _ (List.mem_of_getElem? (i := 0) rfl)).2
theorem en_t323 {σ : cm_S} (h : en_ok σ) : cm_tg σ 323 = 3 := (h.2.1 _ (List.mem_of_getElem? (i := 1) rfl)).1
theorem en_l323 {σ : cm_S} (h : en_ok σ) : cm_ln σ 323 = 7 := (h.2.1 _ (List.mem_of_getElem? (i := 1) rfl)).2
theorem en_t324 {σ : cm_S} (h : en_ok σ) : cm_tg σ 324 = 103 := (h.2.1 _ (List.mem_of_getElem? (i := 2) rfl)).1
theorem en_l324 {σ : cm_S} (h : en_ok σ) : cm_ln σ 324 = 80 := (h.2.1 _ (List.mem_of_getElem? (i := 2) rfl)).2
theorem en_t325 {σ : cm_S} (h : en_ok σ) : cm_tg σ 325 = 4 := (h.2.1 _ (List.mem_of_getElem? (i := 3) rfl)).1
theorem en_l325 {σ : cm_S} (h : en_ok σ) : cm_ln σ 325 = 1 := (h.2.1 _ (List.mem_of_getElem? (i := 3) rfl)).2
theorem en_t331 {σ : cm_S} (h : en_ok σ) : cm_tg σ 331 = 26 := (h.2.1 _ (List.mem_of_getElem? (i := 4) rfl)).1
theorem en_l331 {σ : cm_S} (h : en_ok σ) : cm_ln σ 331 = 3 := (h.2.1 _ (List.mem_of_getElem? (i := 4) rfl)).2
theorem en_t332 {σ : cm_S} (h : en_ok σ) : cm_tg σ 332 = 105 := (h.2.1 _ (List.mem_of_getElem? (i := 5) rfl)).1
theorem en_l332 {σ : cm_S} (h : en_ok σ) : cm_ln σ 332 = 17 := (h.2.1 _ (List.mem_of_getElem? (i := 5) rfl)).2
theorem en_t333 {σ : cm_S} (h : en_ok σ) : cm_tg σ 333 = 101 := (h.2.1 _ (List.mem_of_getElem? (i := 6) rfl)).1
theorem en_l333 {σ : cm_S} (h : en_ok σ) : cm_ln σ 333 = 240 := (h.2.1 _ (List.mem_of_getElem? (i := 6) rfl)).2
theorem en_t334 {σ : cm_S} (h : en_ok σ) : cm_tg σ 334 = 101 := (h.2.1 _ (List.mem_of_getElem? (i := 7) rfl)).1
theorem en_l334 {σ : cm_S} (h : en_ok σ) : cm_ln σ 334 = 240 := (h.2.1 _ (List.mem_of_getElem? (i := 7) rfl)).2
theorem en_t335 {σ : cm_S} (h : en_ok σ) : cm_tg σ 335 = 101 := (h.2.1 _ (List.mem_of_getElem? (i := 8) rfl)).1
theorem en_l335 {σ : cm_S} (h : en_ok σ) : cm_ln σ 335 = 240 := (h.2.1 _ (List.mem_of_getElem? (i := 8) rfl)).2
theorem en_t336 {σ : cm_S} (h : en_ok σ) : cm_tg σ 336 = 101 := (h.2.1 _ (List.mem_of_getElem? (i := 9) rfl)).1
theorem en_l336 {σ : cm_S} (h : en_ok σ) : cm_ln σ 336 = 240 := (h.2.1 _ (List.mem_of_getElem? (i := 9) rfl)).2
theorem en_t337 {σ : cm_S} (h : en_ok σ) : cm_tg σ 337 = 102 := (h.2.1 _ (List.mem_of_getElem? (i := 10) rfl)).1
theorem en_l337 {σ : cm_S} (h : en_ok σ) : cm_ln σ 337 = 240 := (h.2.1 _ (List.mem_of_getElem? (i := 10) rfl)).2
theorem en_t338 {σ : cm_S} (h : en_ok σ) : cm_tg σ 338 = 102 := (h.2.1 _ (List.mem_of_getElem? (i := 11) rfl)).1
theorem en_l338 {σ : cm_S} (h : en_ok σ) : cm_ln σ 338 = 240 := (h.2.1 _ (List.mem_of_getElem? (i := 11) rfl)).2
theorem en_t339 {σ : cm_S} (h : en_ok σ) : cm_tg σ 339 = 102 := (h.2.1 _ (List.mem_of_getElem? (i := 12) rfl)).1
theorem en_l339 {σ : cm_S} (h : en_ok σ) : cm_ln σ 339 = 240 := (h.2.1 _ (List.mem_of_getElem? (i := 12) rfl)).2
theorem en_t340 {σ : cm_S} (h : en_ok σ) : cm_tg σ 340 = 102 := (h.2.1 _ (List.mem_of_getElem? (i := 13) rfl)).1
theorem en_l340 {σ : cm_S} (h : en_ok σ) : cm_ln σ 340 = 240 := (h.2.1 _ (List.mem_of_getElem? (i := 13) rfl)).2
theorem en_t341 {σ : cm_S} (h : en_ok σ) : cm_tg σ 341 = 27 := (h.2.1 _ (List.mem_of_getElem? (i := 14) rfl)).1
theorem en_l341 {σ : cm_S} (h : en_ok σ) : cm_ln σ 341 = 3 := (h.2.1 _ (List.mem_of_getElem? (i := 14) rfl)).2
theorem en_t343 {σ : cm_S} (h : en_ok σ) : cm_tg σ 343 = 27 := (h.2.1 _ (List.mem_of_getElem? (i := 15) rfl)).1
theorem en_l343 {σ : cm_S} (h : en_ok σ) : cm_ln σ 343 = 3 := (h.2.1 _ (List.mem_of_getElem? (i := 15) rfl)).2
theorem en_t345 {σ : cm_S} (h : en_ok σ) : cm_tg σ 345 = 106 := (h.2.1 _ (List.mem_of_getElem? (i := 16) rfl)).1
theorem en_l345 {σ : cm_S} (h : en_ok σ) : cm_ln σ 345 = 240 := (h.2.1 _ (List.mem_of_getElem? (i := 16) rfl)).2
theorem en_t346 {σ : cm_S} (h : en_ok σ) : cm_tg σ 346 = 106 := (h.2.1 _ (List.mem_of_getElem? (i := 17) rfl)).1
theorem en_l346 {σ : cm_S} (h : en_ok σ) : cm_ln σ 346 = 240 := (h.2.1 _ (List.mem_of_getElem? (i := 17) rfl)).2
theorem en_t347 {σ : cm_S} (h : en_ok σ) : cm_tg σ 347 = 7 := (h.2.1 _ (List.mem_of_getElem? (i := 18) rfl)).1
theorem en_l347 {σ : cm_S} (h : en_ok σ) : cm_ln σ 347 = 2 := (h.2.1 _ (List.mem_of_getElem? (i := 18) rfl)).2
theorem en_t348 {σ : cm_S} (h : en_ok σ) : cm_tg σ 348 = 27 := (h.2.1 _ (List.mem_of_getElem? (i := 19) rfl)).1
theorem en_l348 {σ : cm_S} (h : en_ok σ) : cm_ln σ 348 = 3 := (h.2.1 _ (List.mem_of_getElem? (i := 19) rfl)).2
theorem en_t349 {σ : cm_S} (h : en_ok σ) : cm_tg σ 349 = 102 := (h.2.1 _ (List.mem_of_getElem? (i := 20) rfl)).1
theorem en_l349 {σ : cm_S} (h : en_ok σ) : cm_ln σ 349 = 4 := (h.2.1 _ (List.mem_of_getElem? (i := 20) rfl)).2
theorem en_t350 {σ : cm_S} (h : en_ok σ) : cm_tg σ 350 = 101 := (h.2.1 _ (List.mem_of_getElem? (i := 21) rfl)).1
theorem en_l350 {σ : cm_S} (h : en_ok σ) : cm_ln σ 350 = 240 := (h.2.1 _ (List.mem_of_getElem? (i := 21) rfl)).2
theorem en_t351 {σ : cm_S} (h : en_ok σ) : cm_tg σ 351 = 101 := (h.2.1 _ (List.mem_of_getElem? (i := 22) rfl)).1
theorem en_l351 {σ : cm_S} (h : en_ok σ) : cm_ln σ 351 = 240 := (h.2.1 _ (List.mem_of_getElem? (i := 22) rfl)).2
theorem en_t352 {σ : cm_S} (h : en_ok σ) : cm_tg σ 352 = 101 := (h.2.1 _ (List.mem_of_getElem? (i := 23) rfl)).1
theorem en_l352 {σ : cm_S} (h : en_ok σ) : cm_ln σ 352 = 240 := (h.2.1 _ (List.mem_of_getElem? (i := 23) rfl)).2
theorem en_t353 {σ : cm_S} (h : en_ok σ) : cm_tg σ 353 = 101 := (h.2.1 _ (List.mem_of_getElem? (i := 24) rfl)).1
theorem en_l353 {σ : cm_S} (h : en_ok σ) : cm_ln σ 353 = 240 := (h.2.1 _ (List.mem_of_getElem? (i := 24) rfl)).2
theorem en_t354 {σ : cm_S} (h : en_ok σ) : cm_tg σ 354 = 8 := (h.2.1 _ (List.mem_of_getElem? (i := 25) rfl)).1
theorem en_l354 {σ : cm_S} (h : en_ok σ) : cm_ln σ 354 = 9 := (h.2.1 _ (List.mem_of_getElem? (i := 25) rfl)).2
theorem en_r322_0 {σ : cm_S} (h : en_ok σ) : cm_R σ 322 0 = 323 := h.2.2.1 _ (List.mem_of_getElem? (i := 0) rfl)
theorem en_r322_1 {σ : cm_S} (h : en_ok σ) : cm_R σ 322 1 = 324 := h.2.2.1 _ (List.mem_of_getElem? (i := 1) rfl)
theorem en_r322_3 {σ : cm_S} (h : en_ok σ) : cm_R σ 322 3 = 325 := h.2.2.1 _ (List.mem_of_getElem? (i := 2) rfl)
theorem en_r322_5 {σ : cm_S} (h : en_ok σ) : cm_R σ 322 5 = 331 := h.2.2.1 _ (List.mem_of_getElem? (i := 3) rfl)
theorem en_r322_6 {σ : cm_S} (h : en_ok σ) : cm_R σ 322 6 = 333 := h.2.2.1 _ (List.mem_of_getElem? (i := 4) rfl)
theorem en_r322_7 {σ : cm_S} (h : en_ok σ) : cm_R σ 322 7 = 334 := h.2.2.1 _ (List.mem_of_getElem? (i := 5) rfl)
theorem en_r322_8 {σ : cm_S} (h : en_ok σ) : cm_R σ 322 8 = 335 := h.2.2.1 _ (List.mem_of_getElem? (i := 6) rfl)
theorem en_r322_9 {σ : cm_S} (h : en_ok σ) : cm_R σ 322 9 = 336 := h.2.2.1 _ (List.mem_of_getElem? (i := 7) rfl)
theorem en_r322_10 {σ : cm_S} (h : en_ok σ) : cm_R σ 322 10 = 337 := h.2.2.1 _ (List.mem_of_getElem? (i := 8) rfl)
theorem en_r322_11 {σ : cm_S} (h : en_ok σ) : cm_R σ 322 11 = 338 := h.2.2.1 _ (List.mem_of_getElem? (i := 9) rfl)
theorem en_r322_12 {σ : cm_S} (h : en_ok σ) : cm_R σ 322 12 = 339 := h.2.2.1 _ (List.mem_of_getElem? (i := 10) rfl)
theorem en_r322_13 {σ : cm_S} (h : en_ok σ) : cm_R σ 322 13 = 340 := h.2.2.1 _ (List.mem_of_getElem? (i := 11) rfl)
theorem en_r322_14 {σ : cm_S} (h : en_ok σ) : cm_R σ 322 14 = 341 := h.2.2.1 _ (List.mem_of_getElem? (i := 12) rfl)
theorem en_r322_15 {σ : cm_S} (h : en_ok σ) : cm_R σ 322 15 = 343 := h.2.2.1 _ (List.mem_of_getElem? (i := 13) rfl)
theorem en_r322_18 {σ : cm_S} (h : en_ok σ) : cm_R σ 322 18 = 345 := h.2.2.1 _ (List.mem_of_getElem? (i := 14) rfl)
theorem en_r322_19 {σ : cm_S} (h : en_ok σ) : cm_R σ 322 19 = 346 := h.2.2.1 _ (List.mem_of_getElem? (i := 15) rfl)
theorem en_r322_21 {σ : cm_S} (h : en_ok σ) : cm_R σ 322 21 = 347 := h.2.2.1 _ (List.mem_of_getElem? (i := 16) rfl)
theorem en_r322_22 {σ : cm_S} (h : en_ok σ) : cm_R σ 322 22 = 348 := h.2.2.1 _ (List.mem_of_getElem? (i := 17) rfl)
theorem en_r322_23 {σ : cm_S} (h : en_ok σ) : cm_R σ 322 23 = 350 := h.2.2.1 _ (List.mem_of_getElem? (i := 18) rfl)
theorem en_r322_24 {σ : cm_S} (h : en_ok σ) : cm_R σ 322 24 = 351 := h.2.2.1 _ (List.mem_of_getElem? (i := 19) rfl)
theorem en_r322_25 {σ : cm_S} (h : en_ok σ) : cm_R σ 322 25 = 352 := h.2.2.1 _ (List.mem_of_getElem? (i := 20) rfl)
theorem en_r322_26 {σ : cm_S} (h : en_ok σ) : cm_R σ 322 26 = 353 := h.2.2.1 _ (List.mem_of_getElem? (i := 21) rfl)
theorem en_r322_27 {σ : cm_S} (h : en_ok σ) : cm_R σ 322 27 = 354 := h.2.2.1 _ (List.mem_of_getElem? (i := 22) rfl)
theorem en_r331_0 {σ : cm_S} (h : en_ok σ) : cm_R σ 331 0 = 332 := h.2.2.1 _ (List.mem_of_getElem? (i := 23) rfl)
theorem en_r347_1 {σ : cm_S} (h : en_ok σ) : cm_R σ 347 1 = 322 := h.2.2.1 _ (List.mem_of_getElem? (i := 24) rfl)
theorem en_r348_0 {σ : cm_S} (h : en_ok σ) : cm_R σ 348 0 = 349 := h.2.2.1 _ (List.mem_of_getElem? (i := 25) rfl)
theorem en_r354_8 {σ : cm_S} (h : en_ok σ) : cm_R σ 354 8 = 322 := h.2.2.1 _ (List.mem_of_getElem? (i := 26) rfl)
theorem cm_in_lt {a : Int32} {n : Nat} (h : cm_in a n = true) : cm_ix a < n := by
  simp only [cm_in, decide_eq_true_eq] at h
  unfold cm_ix
  omega
theorem en_bt345 {σ : cm_S} (h : en_ok σ) {a : Int32} (hi : cm_in a 240 = true) : cm_tg σ (355 + 4 * cm_ix a) = 27 := (h.2.2.2 _ (cm_in_lt hi)).2.2.1
theorem en_bt346 {σ : cm_S} (h : en_ok σ) {a : Int32} (hi : cm_in a 240 = true) : cm_tg σ (357 + 4 * cm_ix a) = 27 := (h.2.2.2 _ (cm_in_lt hi)).2.2.2.1
def en_fix (r i : Nat) : Bool := en_rs.all (fun q => !(q.1 == r && q.2.1 == i)) && !(r == 345) && !(r == 346) && !(Nat.ble 355 r && Nat.blt r 1315)
theorem en_pR {σ : cm_S} (h : en_ok σ) {r i v : Nat} (hf : en_fix r i = true) : en_ok (cm_pR σ r i v) := by
  obtain ⟨h1, h2, h3, h4⟩ := h
  simp only [en_fix, Bool.and_eq_true, Bool.not_eq_true', beq_eq_false_iff_ne, List.all_eq_true, Bool.and_eq_false_iff] at hf
  obtain ⟨⟨⟨f1, f2⟩, f3⟩, f4⟩ := hf
  have f4 : ¬ (355 ≤ r ∧ r < 1315) := fun q => by
    rcases f4 with f | f
    · exact absurd (Nat.ble_eq.mpr q.1) (by rw [f]; decide)
    · exact absurd (Nat.blt_eq.mpr q.2) (by rw [f]; decide)
  refine ⟨h1, h2, fun q hq => ?_, fun k hk => ?_⟩
  · have := f1 q hq
    show (if q.1 = r ∧ q.2.1 = i then v else cm_R σ q.1 q.2.1) = _
    rw [if_neg (fun e => by rcases this with g | g; exact g e.1; exact g e.2)]
    exact h3 q hq
  · obtain ⟨g1, g2, g3, g4, g5, g6, g7, g8, g9, g10⟩ := h4 k hk
    have e : ∀ a j, a ≠ r → cm_R (cm_pR σ r i v) a j = cm_R σ a j := fun a j ha => by
      show (if a = r ∧ j = i then v else cm_R σ a j) = _
      rw [if_neg (fun q => ha q.1)]
    exact ⟨by rw [e _ _ (fun q => f2 q.symm)]; exact g1, by rw [e _ _ (fun q => f3 q.symm)]; exact g2, g3, g4, by rw [e _ _ (by omega)]; exact g5, by rw [e _ _ (by omega)]; exact g6, g7, g8, g9, g10⟩
/-- the addresses whose references are fixed -/
def en_ra (a : Nat) : Prop := a = 322 ∨ a = 331 ∨ a = 347 ∨ a = 348 ∨ a = 354 ∨ a = 345 ∨ a = 346 ∨ ∃ k, k < 240 ∧ (a = 355 + 4 * k ∨ a = 357 + 4 * k)
theorem en_ra_rs : ∀ q ∈ en_rs, en_ra q.1 := by
  intro q hq
  have : (en_rs.all fun q => q.1 == 322 || q.1 == 331 || q.1 == 347 || q.1 == 348 || q.1 == 354) = true := by decide
  have := List.all_eq_true.mp this q hq
  simp only [Bool.or_eq_true, beq_iff_eq] at this
  unfold en_ra
  omega
/-- what en_ok is made of: any state with the same tags, lengths and fixed references below 1346 -/
theorem en_like {σ σ2 : cm_S} (h : en_ok σ) (hn : cm_nx σ ≤ cm_nx σ2) (ht : ∀ a, a < 1346 → cm_tg σ2 a = cm_tg σ a) (hl : ∀ a, a < 1346 → cm_ln σ2 a = cm_ln σ a) (hr : ∀ a, en_ra a → cm_R σ2 a = cm_R σ a) : en_ok σ2 := by
  obtain ⟨h1, h2, h3, h4⟩ := h
  have hfs : (en_fs.all fun q => Nat.blt q.1 1346) = true := by decide
  refine ⟨by omega, fun q hq => ?_, fun q hq => ?_, fun k hk => ?_⟩
  · have := List.all_eq_true.mp hfs q hq
    rw [Nat.blt_eq] at this
    rw [ht _ this, hl _ this]; exact h2 q hq
  · rw [hr _ (en_ra_rs q hq)]; exact h3 q hq
  · obtain ⟨g1, g2, g3, g4, g5, g6, g7, g8, g9, g10⟩ := h4 k hk
    have r1 : en_ra 345 := by unfold en_ra; omega
    have r2 : en_ra 346 := by unfold en_ra; omega
    have r3 : en_ra (355 + 4 * k) := Or.inr (Or.inr (Or.inr (Or.inr (Or.inr (Or.inr (Or.inr ⟨k, hk, Or.inl rfl⟩))))))
    have r4 : en_ra (357 + 4 * k) := Or.inr (Or.inr (Or.inr (Or.inr (Or.inr (Or.inr (Or.inr ⟨k, hk, Or.inr rfl⟩))))))
    exact ⟨by rw [hr _ r1]; exact g1, by rw [hr _ r2]; exact g2, by rw [ht _ (by omega)]; exact g3, by rw [ht _ (by omega)]; exact g4, by rw [hr _ r3]; exact g5, by rw [hr _ r4]; exact g6, by rw [ht _ (by omega)]; exact g7, by rw [ht _ (by omega)]; exact g8, by rw [hl _ (by omega)]; exact g9, by rw [hl _ (by omega)]; exact g10⟩
theorem en_pR' {σ : cm_S} (h : en_ok σ) {r i v : Nat} (hf : ∀ a, en_ra a → a ≠ r) : en_ok (cm_pR σ r i v) :=
  en_like h (Nat.le_refl _) (fun _ _ => rfl) (fun _ _ => rfl) (fun a ha => by
    funext j
    show (if a = r ∧ j = i then v else cm_R σ a j) = _
    rw [if_neg (fun q => hf a ha q.1)])
theorem en_al {σ : cm_S} (h : en_ok σ) {t n : Nat} : en_ok (cm_al σ t n) := by
  have hn := h.1
  refine en_like h (Nat.le_succ _) (fun a ha => ?_) (fun a ha => ?_) (fun a ha => ?_)
  · show cm_u1 _ _ _ a = _; unfold cm_u1; rw [if_neg (by omega)]; rfl
  · show cm_u1 _ _ _ a = _; unfold cm_u1; rw [if_neg (by omega)]; rfl
  · have : a < 1346 := by unfold en_ra at ha; omega
    show cm_u1 _ _ _ a = _; unfold cm_u1; rw [if_neg (by omega)]; rfl
/-- a write to an object of another class than the fixed ones -/
def en_otg (t : Nat) : Bool := !(t == 1) && !(t == 7) && !(t == 8) && !(t == 26) && !(t == 27) && !(t == 106)
theorem en_pRt {σ : cm_S} (h : en_ok σ) {r i v t : Nat} (ht : cm_tg σ r = t) (hf : en_otg t = true) : en_ok (cm_pR σ r i v) := by
  simp only [en_otg, Bool.and_eq_true, Bool.not_eq_true', beq_eq_false_iff_ne] at hf
  obtain ⟨⟨⟨⟨⟨f1, f2⟩, f3⟩, f4⟩, f5⟩, f6⟩ := hf
  have hne : ∀ a, cm_tg σ a ≠ t → a ≠ r := fun a ha e => ha (by rw [e]; exact ht)
  refine en_pR' h (fun a ha => hne a ?_)
  rcases ha with ha | ha | ha | ha | ha | ha | ha | ⟨k, hk, ha⟩
  · rw [ha, en_t322 h]; exact Ne.symm f1
  · rw [ha, en_t331 h]; exact Ne.symm f4
  · rw [ha, en_t347 h]; exact Ne.symm f2
  · rw [ha, en_t348 h]; exact Ne.symm f5
  · rw [ha, en_t354 h]; exact Ne.symm f3
  · rw [ha, en_t345 h]; exact Ne.symm f6
  · rw [ha, en_t346 h]; exact Ne.symm f6
  · rcases ha with ha | ha
    · rw [ha, (h.2.2.2 k hk).2.2.1]; exact Ne.symm f5
    · rw [ha, (h.2.2.2 k hk).2.2.2.1]; exact Ne.symm f5
section
variable {d m pc n len x y z : Nat} {v : Value} {L L2 st : List Value} {σ : cm_S} {Q : cm_O → Prop} {a b : Int32} {p q : Int64} {r s : Nat} {u w : Value}
theorem wg_gfR {k : Nat} (h : cm_at cp m pc = some (.getfield k, len, x, y, 2, v)) (hn : pc + 3 = n) (hx : x ≠ 0) (ht : cm_tg σ r = x) (hr : cm_R σ r y = s) (K : wp_r d m (n, L, .ref s :: st, σ) Q) : wp_r d m (pc, L, .ref r :: st, σ) Q := by
  subst hr
  exact wr_gfR h hn hx ht K
theorem wg_iaload (h : cm_at cp m pc = some (.iaload, len, x, y, z, v)) {n0 : Nat} (hn : pc + 1 = n) (ht : cm_tg σ r = 101) (hl : cm_ln σ r = n0) (hi : cm_in a n0 = true) (K : wp_r d m (n, L, .int (cm_I σ r (cm_ix a)) :: st, σ) Q) : wp_r d m (pc, L, .int a :: .ref r :: st, σ) Q := wr_iaload h hn ht (by rw [hl]; exact hi) K
theorem wg_laload (h : cm_at cp m pc = some (.laload, len, x, y, z, v)) {n0 : Nat} (hn : pc + 1 = n) (ht : cm_tg σ r = 102) (hl : cm_ln σ r = n0) (hi : cm_in a n0 = true) (K : wp_r d m (n, L, .long (cm_L σ r (cm_ix a)) :: st, σ) Q) : wp_r d m (pc, L, .int a :: .ref r :: st, σ) Q := wr_laload h hn ht (by rw [hl]; exact hi) K
theorem wg_baload (h : cm_at cp m pc = some (.baload, len, x, y, z, v)) {n0 : Nat} (hn : pc + 1 = n) (ht : cm_tg σ r = 103) (hl : cm_ln σ r = n0) (hi : cm_in a n0 = true) (K : wp_r d m (n, L, .int (cm_I σ r (cm_ix a)) :: st, σ) Q) : wp_r d m (pc, L, .int a :: .ref r :: st, σ) Q := wr_baload h hn (Or.inl ht) (by rw [hl]; exact hi) K
theorem wg_aaload (h : cm_at cp m pc = some (.aaload, len, x, y, z, v)) {n0 t0 : Nat} (hn : pc + 1 = n) (ht : cm_tg σ r = t0) (hl : cm_ln σ r = n0) (h4 : Nat.blt 104 t0 = true) (hi : cm_in a n0 = true) (K : wp_r d m (n, L, .ref (cm_R σ r (cm_ix a)) :: st, σ) Q) : wp_r d m (pc, L, .int a :: .ref r :: st, σ) Q := wr_aaload h hn (by rw [ht]; simpa [Nat.blt_eq] using h4) (by rw [hl]; exact hi) K
theorem wg_iastore (h : cm_at cp m pc = some (.iastore, len, x, y, z, v)) {n0 : Nat} (hn : pc + 1 = n) (ht : cm_tg σ r = 101) (hl : cm_ln σ r = n0) (hi : cm_in a n0 = true) (hk : cm_K cp ≤ r) (K : wp_r d m (n, L, st, cm_pI σ r (cm_ix a) b) Q) : wp_r d m (pc, L, .int b :: .int a :: .ref r :: st, σ) Q := wr_iastore h hn ht (by rw [hl]; exact hi) hk K
theorem wg_lastore (h : cm_at cp m pc = some (.lastore, len, x, y, z, v)) {n0 : Nat} (hn : pc + 1 = n) (ht : cm_tg σ r = 102) (hl : cm_ln σ r = n0) (hi : cm_in a n0 = true) (hk : cm_K cp ≤ r) (K : wp_r d m (n, L, st, cm_pL σ r (cm_ix a) p) Q) : wp_r d m (pc, L, .long p :: .int a :: .ref r :: st, σ) Q := wr_lastore h hn ht (by rw [hl]; exact hi) hk K
theorem wg_bastore (h : cm_at cp m pc = some (.bastore, len, x, y, z, v)) {n0 : Nat} (hn : pc + 1 = n) (ht : cm_tg σ r = 103) (hl : cm_ln σ r = n0) (hi : cm_in a n0 = true) (hk : cm_K cp ≤ r) (K : wp_r d m (n, L, st, cm_pI σ r (cm_ix a) b.toInt8.toInt32) Q) : wp_r d m (pc, L, .int b :: .int a :: .ref r :: st, σ) Q := wr_bastoreB h hn ht (by rw [hl]; exact hi) hk K
theorem wg_alen (h : cm_at cp m pc = some (.arraylength, len, x, y, z, v)) {n0 t0 : Nat} (hn : pc + 1 = n) (ht : cm_tg σ r = t0) (hl : cm_ln σ r = n0) (h1 : Nat.blt 100 t0 = true) (he : Int32.ofNat n0 = a) (K : wp_r d m (n, L, .int a :: st, σ) Q) : wp_r d m (pc, L, .ref r :: st, σ) Q := by
  subst he
  subst hl
  exact wr_arraylength h hn (by rw [ht]; simpa [Nat.blt_eq] using h1) K
theorem wg_bits345 (h : cm_at cp m pc = some (.aaload, len, x, y, z, v)) (hn : pc + 1 = n) (hE : en_ok σ) (hi : cm_in a 240 = true) (K : wp_r d m (n, L, .ref (355 + 4 * cm_ix a) :: st, σ) Q) : wp_r d m (pc, L, .int a :: .ref 345 :: st, σ) Q := wr_aaload h hn (by rw [en_t345 hE]; decide) (by rw [en_l345 hE]; exact hi) (by rw [(hE.2.2.2 _ (cm_in_lt hi)).1]; exact K)
theorem wg_bits346 (h : cm_at cp m pc = some (.aaload, len, x, y, z, v)) (hn : pc + 1 = n) (hE : en_ok σ) (hi : cm_in a 240 = true) (K : wp_r d m (n, L, .ref (357 + 4 * cm_ix a) :: st, σ) Q) : wp_r d m (pc, L, .int a :: .ref 346 :: st, σ) Q := wr_aaload h hn (by rw [en_t346 hE]; decide) (by rw [en_l346 hE]; exact hi) (by rw [(hE.2.2.2 _ (cm_in_lt hi)).2.1]; exact K)
theorem wg_copyI {k : Nat} {c : Int32} {n0 n1 : Nat} (h : cm_at cp m pc = some (.invokestatic k, len, x, y, 1, v)) (hd : 1 ≤ d) (hn : pc + 3 = n) (hw : Nat.ble (cm_wd st) 8 = true) (hr : cm_tg σ r = 101) (hs : cm_tg σ s = 101) (lr : cm_ln σ r = n0) (ls : cm_ln σ s = n1) (hk : cm_K cp ≤ s) (hc : 0 ≤ a.toInt ∧ 0 ≤ b.toInt ∧ 0 ≤ c.toInt ∧ a.toInt + c.toInt ≤ (n0 : Int) ∧ b.toInt + c.toInt ≤ (n1 : Int)) (K : wp_r d m (n, L, st, cm_wI σ s (cm_cpy (cm_I σ r) (cm_I σ s) (cm_ix a) (cm_ix b) (cm_ix c))) Q) : wp_r d m (pc, L, .int c :: .int b :: .ref s :: .int a :: .ref r :: st, σ) Q := by
  refine wr_arraycopy h hd hn hw ⟨⟨by rw [hr, hs], hk, hc.1, hc.2.1, hc.2.2.1, by rw [lr]; exact hc.2.2.2.1, by rw [ls]; exact hc.2.2.2.2⟩, ?_⟩
  rw [hs, if_neg (by decide), if_pos (Or.inl rfl)]; exact K
theorem wg_copyL {k : Nat} {c : Int32} {n0 n1 : Nat} (h : cm_at cp m pc = some (.invokestatic k, len, x, y, 1, v)) (hd : 1 ≤ d) (hn : pc + 3 = n) (hw : Nat.ble (cm_wd st) 8 = true) (hr : cm_tg σ r = 102) (hs : cm_tg σ s = 102) (lr : cm_ln σ r = n0) (ls : cm_ln σ s = n1) (hk : cm_K cp ≤ s) (hc : 0 ≤ a.toInt ∧ 0 ≤ b.toInt ∧ 0 ≤ c.toInt ∧ a.toInt + c.toInt ≤ (n0 : Int) ∧ b.toInt + c.toInt ≤ (n1 : Int)) (K : wp_r d m (n, L, st, cm_wL σ s (cm_cpy (cm_L σ r) (cm_L σ s) (cm_ix a) (cm_ix b) (cm_ix c))) Q) : wp_r d m (pc, L, .int c :: .int b :: .ref s :: .int a :: .ref r :: st, σ) Q := by
  refine wr_arraycopy h hd hn hw ⟨⟨by rw [hr, hs], hk, hc.1, hc.2.1, hc.2.2.1, by rw [lr]; exact hc.2.2.2.1, by rw [ls]; exact hc.2.2.2.2⟩, ?_⟩
  rw [hs, if_pos rfl]; exact K
end
/-! THE TWIN: its states differ in ints and longs alone -/
abbrev tw_K : Type := (Nat → Nat) × (Nat → Nat) × (Nat → Nat → Nat) × Nat × Nat × (Nat → Nat → Int32) × (Nat → Nat → Int64)
abbrev tw_I : Type := Nat → Nat → Int32
abbrev tw_L : Type := Nat → Nat → Int64
def tw (τ : tw_K) (I : tw_I) (L : tw_L) : cm_S := (τ.1, τ.2.1, I, L, τ.2.2.1, τ.2.2.2.1, τ.2.2.2.2.1)
def tw_R (τ : tw_K) : Nat → Nat → Nat := τ.2.2.1
def tw_fs : List (Nat × Nat × Nat × Nat) := [(0, 1316, 101, 2400), (1, 1317, 102, 2400), (2, 1318, 101, 2400), (3, 1319, 102, 192000), (4, 1320, 101, 10), (5, 1321, 102, 100), (6, 1322, 101, 100), (7, 1323, 101, 100), (9, 1324, 101, 240), (10, 1325, 102, 240), (11, 1326, 101, 240), (12, 1327, 102, 240), (13, 1328, 104, 240), (14, 1329, 104, 240), (17, 1330, 101, 80), (27, 1331, 102, 80), (28, 1332, 109, 9), (36, 1333, 102, 960), (37, 1334, 102, 960), (42, 1335, 102, 4), (50, 1336, 101, 240), (51, 1337, 102, 240), (52, 1338, 101, 240), (53, 1339, 102, 240), (54, 1340, 104, 240), (55, 1341, 104, 240), (57, 1342, 101, 240), (58, 1343, 102, 240), (62, 1344, 101, 240), (63, 1345, 101, 240)]
def tw_ok (τ : tw_K) : Prop := τ.1 1315 = 2 ∧ (∀ q ∈ tw_fs, τ.2.2.1 1315 q.1 = q.2.1 ∧ τ.1 q.2.1 = q.2.2.1 ∧ τ.2.1 q.2.1 = q.2.2.2)
theorem tw_r0 {τ : tw_K} (h : tw_ok τ) : τ.2.2.1 1315 0 = 1316 := (h.2 _ (List.mem_of_getElem? (i := 0) rfl)).1
theorem tw_t0 {τ : tw_K} (h : tw_ok τ) : τ.1 1316 = 101 := (h.2 _ (List.mem_of_getElem? (i := 0) rfl)).2.1
theorem tw_l0 {τ : tw_K} (h : tw_ok τ) : τ.2.1 1316 = 2400 := (h.2 _ (List.mem_of_getElem? (i := 0) rfl)).2.2
theorem tw_r1 {τ : tw_K} (h : tw_ok τ) : τ.2.2.1 1315 1 = 1317 := (h.2 _ (List.mem_of_getElem? (i := 1) rfl)).1
theorem tw_t1 {τ : tw_K} (h : tw_ok τ) : τ.1 1317 = 102 := (h.2 _ (List.mem_of_getElem? (i := 1) rfl)).2.1
theorem tw_l1 {τ : tw_K} (h : tw_ok τ) : τ.2.1 1317 = 2400 := (h.2 _ (List.mem_of_getElem? (i := 1) rfl)).2.2
theorem tw_r2 {τ : tw_K} (h : tw_ok τ) : τ.2.2.1 1315 2 = 1318 := (h.2 _ (List.mem_of_getElem? (i := 2) rfl)).1
theorem tw_t2 {τ : tw_K} (h : tw_ok τ) : τ.1 1318 = 101 := (h.2 _ (List.mem_of_getElem? (i := 2) rfl)).2.1
theorem tw_l2 {τ : tw_K} (h : tw_ok τ) : τ.2.1 1318 = 2400 := (h.2 _ (List.mem_of_getElem? (i := 2) rfl)).2.2
theorem tw_r3 {τ : tw_K} (h : tw_ok τ) : τ.2.2.1 1315 3 = 1319 := (h.2 _ (List.mem_of_getElem? (i := 3) rfl)).1
theorem tw_t3 {τ : tw_K} (h : tw_ok τ) : τ.1 1319 = 102 := (h.2 _ (List.mem_of_getElem? (i := 3) rfl)).2.1
theorem tw_l3 {τ : tw_K} (h : tw_ok τ) : τ.2.1 1319 = 192000 := (h.2 _ (List.mem_of_getElem? (i := 3) rfl)).2.2
theorem tw_r4 {τ : tw_K} (h : tw_ok τ) : τ.2.2.1 1315 4 = 1320 := (h.2 _ (List.mem_of_getElem? (i := 4) rfl)).1
theorem tw_t4 {τ : tw_K} (h : tw_ok τ) : τ.1 1320 = 101 := (h.2 _ (List.mem_of_getElem? (i := 4) rfl)).2.1
theorem tw_l4 {τ : tw_K} (h : tw_ok τ) : τ.2.1 1320 = 10 := (h.2 _ (List.mem_of_getElem? (i := 4) rfl)).2.2
theorem tw_r5 {τ : tw_K} (h : tw_ok τ) : τ.2.2.1 1315 5 = 1321 := (h.2 _ (List.mem_of_getElem? (i := 5) rfl)).1
theorem tw_t5 {τ : tw_K} (h : tw_ok τ) : τ.1 1321 = 102 := (h.2 _ (List.mem_of_getElem? (i := 5) rfl)).2.1
theorem tw_l5 {τ : tw_K} (h : tw_ok τ) : τ.2.1 1321 = 100 := (h.2 _ (List.mem_of_getElem? (i := 5) rfl)).2.2
theorem tw_r6 {τ : tw_K} (h : tw_ok τ) : τ.2.2.1 1315 6 = 1322 := (h.2 _ (List.mem_of_getElem? (i := 6) rfl)).1
theorem tw_t6 {τ : tw_K} (h : tw_ok τ) : τ.1 1322 = 101 := (h.2 _ (List.mem_of_getElem? (i := 6) rfl)).2.1
theorem tw_l6 {τ : tw_K} (h : tw_ok τ) : τ.2.1 1322 = 100 := (h.2 _ (List.mem_of_getElem? (i := 6) rfl)).2.2
theorem tw_r7 {τ : tw_K} (h : tw_ok τ) : τ.2.2.1 1315 7 = 1323 := (h.2 _ (List.mem_of_getElem? (i := 7) rfl)).1
theorem tw_t7 {τ : tw_K} (h : tw_ok τ) : τ.1 1323 = 101 := (h.2 _ (List.mem_of_getElem? (i := 7) rfl)).2.1
theorem tw_l7 {τ : tw_K} (h : tw_ok τ) : τ.2.1 1323 = 100 := (h.2 _ (List.mem_of_getElem? (i := 7) rfl)).2.2
theorem tw_r9 {τ : tw_K} (h : tw_ok τ) : τ.2.2.1 1315 9 = 1324 := (h.2 _ (List.mem_of_getElem? (i := 8) rfl)).1
theorem tw_t9 {τ : tw_K} (h : tw_ok τ) : τ.1 1324 = 101 := (h.2 _ (List.mem_of_getElem? (i := 8) rfl)).2.1
theorem tw_l9 {τ : tw_K} (h : tw_ok τ) : τ.2.1 1324 = 240 := (h.2 _ (List.mem_of_getElem? (i := 8) rfl)).2.2
theorem tw_r10 {τ : tw_K} (h : tw_ok τ) : τ.2.2.1 1315 10 = 1325 := (h.2 _ (List.mem_of_getElem? (i := 9) rfl)).1
theorem tw_t10 {τ : tw_K} (h : tw_ok τ) : τ.1 1325 = 102 := (h.2 _ (List.mem_of_getElem? (i := 9) rfl)).2.1
theorem tw_l10 {τ : tw_K} (h : tw_ok τ) : τ.2.1 1325 = 240 := (h.2 _ (List.mem_of_getElem? (i := 9) rfl)).2.2
theorem tw_r11 {τ : tw_K} (h : tw_ok τ) : τ.2.2.1 1315 11 = 1326 := (h.2 _ (List.mem_of_getElem? (i := 10) rfl)).1
theorem tw_t11 {τ : tw_K} (h : tw_ok τ) : τ.1 1326 = 101 := (h.2 _ (List.mem_of_getElem? (i := 10) rfl)).2.1
theorem tw_l11 {τ : tw_K} (h : tw_ok τ) : τ.2.1 1326 = 240 := (h.2 _ (List.mem_of_getElem? (i := 10) rfl)).2.2
theorem tw_r12 {τ : tw_K} (h : tw_ok τ) : τ.2.2.1 1315 12 = 1327 := (h.2 _ (List.mem_of_getElem? (i := 11) rfl)).1
theorem tw_t12 {τ : tw_K} (h : tw_ok τ) : τ.1 1327 = 102 := (h.2 _ (List.mem_of_getElem? (i := 11) rfl)).2.1
theorem tw_l12 {τ : tw_K} (h : tw_ok τ) : τ.2.1 1327 = 240 := (h.2 _ (List.mem_of_getElem? (i := 11) rfl)).2.2
theorem tw_r13 {τ : tw_K} (h : tw_ok τ) : τ.2.2.1 1315 13 = 1328 := (h.2 _ (List.mem_of_getElem? (i := 12) rfl)).1
theorem tw_t13 {τ : tw_K} (h : tw_ok τ) : τ.1 1328 = 104 := (h.2 _ (List.mem_of_getElem? (i := 12) rfl)).2.1
theorem tw_l13 {τ : tw_K} (h : tw_ok τ) : τ.2.1 1328 = 240 := (h.2 _ (List.mem_of_getElem? (i := 12) rfl)).2.2
theorem tw_r14 {τ : tw_K} (h : tw_ok τ) : τ.2.2.1 1315 14 = 1329 := (h.2 _ (List.mem_of_getElem? (i := 13) rfl)).1
theorem tw_t14 {τ : tw_K} (h : tw_ok τ) : τ.1 1329 = 104 := (h.2 _ (List.mem_of_getElem? (i := 13) rfl)).2.1
theorem tw_l14 {τ : tw_K} (h : tw_ok τ) : τ.2.1 1329 = 240 := (h.2 _ (List.mem_of_getElem? (i := 13) rfl)).2.2
theorem tw_r17 {τ : tw_K} (h : tw_ok τ) : τ.2.2.1 1315 17 = 1330 := (h.2 _ (List.mem_of_getElem? (i := 14) rfl)).1
theorem tw_t17 {τ : tw_K} (h : tw_ok τ) : τ.1 1330 = 101 := (h.2 _ (List.mem_of_getElem? (i := 14) rfl)).2.1
theorem tw_l17 {τ : tw_K} (h : tw_ok τ) : τ.2.1 1330 = 80 := (h.2 _ (List.mem_of_getElem? (i := 14) rfl)).2.2
theorem tw_r27 {τ : tw_K} (h : tw_ok τ) : τ.2.2.1 1315 27 = 1331 := (h.2 _ (List.mem_of_getElem? (i := 15) rfl)).1
theorem tw_t27 {τ : tw_K} (h : tw_ok τ) : τ.1 1331 = 102 := (h.2 _ (List.mem_of_getElem? (i := 15) rfl)).2.1
theorem tw_l27 {τ : tw_K} (h : tw_ok τ) : τ.2.1 1331 = 80 := (h.2 _ (List.mem_of_getElem? (i := 15) rfl)).2.2
theorem tw_r28 {τ : tw_K} (h : tw_ok τ) : τ.2.2.1 1315 28 = 1332 := (h.2 _ (List.mem_of_getElem? (i := 16) rfl)).1
theorem tw_t28 {τ : tw_K} (h : tw_ok τ) : τ.1 1332 = 109 := (h.2 _ (List.mem_of_getElem? (i := 16) rfl)).2.1
theorem tw_l28 {τ : tw_K} (h : tw_ok τ) : τ.2.1 1332 = 9 := (h.2 _ (List.mem_of_getElem? (i := 16) rfl)).2.2
theorem tw_r36 {τ : tw_K} (h : tw_ok τ) : τ.2.2.1 1315 36 = 1333 := (h.2 _ (List.mem_of_getElem? (i := 17) rfl)).1
theorem tw_t36 {τ : tw_K} (h : tw_ok τ) : τ.1 1333 = 102 := (h.2 _ (List.mem_of_getElem? (i := 17) rfl)).2.1
theorem tw_l36 {τ : tw_K} (h : tw_ok τ) : τ.2.1 1333 = 960 := (h.2 _ (List.mem_of_getElem? (i := 17) rfl)).2.2
theorem tw_r37 {τ : tw_K} (h : tw_ok τ) : τ.2.2.1 1315 37 = 1334 := (h.2 _ (List.mem_of_getElem? (i := 18) rfl)).1
theorem tw_t37 {τ : tw_K} (h : tw_ok τ) : τ.1 1334 = 102 := (h.2 _ (List.mem_of_getElem? (i := 18) rfl)).2.1
theorem tw_l37 {τ : tw_K} (h : tw_ok τ) : τ.2.1 1334 = 960 := (h.2 _ (List.mem_of_getElem? (i := 18) rfl)).2.2
theorem tw_r42 {τ : tw_K} (h : tw_ok τ) : τ.2.2.1 1315 42 = 1335 := (h.2 _ (List.mem_of_getElem? (i := 19) rfl)).1
theorem tw_t42 {τ : tw_K} (h : tw_ok τ) : τ.1 1335 = 102 := (h.2 _ (List.mem_of_getElem? (i := 19) rfl)).2.1
theorem tw_l42 {τ : tw_K} (h : tw_ok τ) : τ.2.1 1335 = 4 := (h.2 _ (List.mem_of_getElem? (i := 19) rfl)).2.2
theorem tw_r50 {τ : tw_K} (h : tw_ok τ) : τ.2.2.1 1315 50 = 1336 := (h.2 _ (List.mem_of_getElem? (i := 20) rfl)).1
theorem tw_t50 {τ : tw_K} (h : tw_ok τ) : τ.1 1336 = 101 := (h.2 _ (List.mem_of_getElem? (i := 20) rfl)).2.1
theorem tw_l50 {τ : tw_K} (h : tw_ok τ) : τ.2.1 1336 = 240 := (h.2 _ (List.mem_of_getElem? (i := 20) rfl)).2.2
theorem tw_r51 {τ : tw_K} (h : tw_ok τ) : τ.2.2.1 1315 51 = 1337 := (h.2 _ (List.mem_of_getElem? (i := 21) rfl)).1
theorem tw_t51 {τ : tw_K} (h : tw_ok τ) : τ.1 1337 = 102 := (h.2 _ (List.mem_of_getElem? (i := 21) rfl)).2.1
theorem tw_l51 {τ : tw_K} (h : tw_ok τ) : τ.2.1 1337 = 240 := (h.2 _ (List.mem_of_getElem? (i := 21) rfl)).2.2
theorem tw_r52 {τ : tw_K} (h : tw_ok τ) : τ.2.2.1 1315 52 = 1338 := (h.2 _ (List.mem_of_getElem? (i := 22) rfl)).1
theorem tw_t52 {τ : tw_K} (h : tw_ok τ) : τ.1 1338 = 101 := (h.2 _ (List.mem_of_getElem? (i := 22) rfl)).2.1
theorem tw_l52 {τ : tw_K} (h : tw_ok τ) : τ.2.1 1338 = 240 := (h.2 _ (List.mem_of_getElem? (i := 22) rfl)).2.2
theorem tw_r53 {τ : tw_K} (h : tw_ok τ) : τ.2.2.1 1315 53 = 1339 := (h.2 _ (List.mem_of_getElem? (i := 23) rfl)).1
theorem tw_t53 {τ : tw_K} (h : tw_ok τ) : τ.1 1339 = 102 := (h.2 _ (List.mem_of_getElem? (i := 23) rfl)).2.1
theorem tw_l53 {τ : tw_K} (h : tw_ok τ) : τ.2.1 1339 = 240 := (h.2 _ (List.mem_of_getElem? (i := 23) rfl)).2.2
theorem tw_r54 {τ : tw_K} (h : tw_ok τ) : τ.2.2.1 1315 54 = 1340 := (h.2 _ (List.mem_of_getElem? (i := 24) rfl)).1
theorem tw_t54 {τ : tw_K} (h : tw_ok τ) : τ.1 1340 = 104 := (h.2 _ (List.mem_of_getElem? (i := 24) rfl)).2.1
theorem tw_l54 {τ : tw_K} (h : tw_ok τ) : τ.2.1 1340 = 240 := (h.2 _ (List.mem_of_getElem? (i := 24) rfl)).2.2
theorem tw_r55 {τ : tw_K} (h : tw_ok τ) : τ.2.2.1 1315 55 = 1341 := (h.2 _ (List.mem_of_getElem? (i := 25) rfl)).1
theorem tw_t55 {τ : tw_K} (h : tw_ok τ) : τ.1 1341 = 104 := (h.2 _ (List.mem_of_getElem? (i := 25) rfl)).2.1
theorem tw_l55 {τ : tw_K} (h : tw_ok τ) : τ.2.1 1341 = 240 := (h.2 _ (List.mem_of_getElem? (i := 25) rfl)).2.2
theorem tw_r57 {τ : tw_K} (h : tw_ok τ) : τ.2.2.1 1315 57 = 1342 := (h.2 _ (List.mem_of_getElem? (i := 26) rfl)).1
theorem tw_t57 {τ : tw_K} (h : tw_ok τ) : τ.1 1342 = 101 := (h.2 _ (List.mem_of_getElem? (i := 26) rfl)).2.1
theorem tw_l57 {τ : tw_K} (h : tw_ok τ) : τ.2.1 1342 = 240 := (h.2 _ (List.mem_of_getElem? (i := 26) rfl)).2.2
theorem tw_r58 {τ : tw_K} (h : tw_ok τ) : τ.2.2.1 1315 58 = 1343 := (h.2 _ (List.mem_of_getElem? (i := 27) rfl)).1
theorem tw_t58 {τ : tw_K} (h : tw_ok τ) : τ.1 1343 = 102 := (h.2 _ (List.mem_of_getElem? (i := 27) rfl)).2.1
theorem tw_l58 {τ : tw_K} (h : tw_ok τ) : τ.2.1 1343 = 240 := (h.2 _ (List.mem_of_getElem? (i := 27) rfl)).2.2
theorem tw_r62 {τ : tw_K} (h : tw_ok τ) : τ.2.2.1 1315 62 = 1344 := (h.2 _ (List.mem_of_getElem? (i := 28) rfl)).1
theorem tw_t62 {τ : tw_K} (h : tw_ok τ) : τ.1 1344 = 101 := (h.2 _ (List.mem_of_getElem? (i := 28) rfl)).2.1
theorem tw_l62 {τ : tw_K} (h : tw_ok τ) : τ.2.1 1344 = 240 := (h.2 _ (List.mem_of_getElem? (i := 28) rfl)).2.2
theorem tw_r63 {τ : tw_K} (h : tw_ok τ) : τ.2.2.1 1315 63 = 1345 := (h.2 _ (List.mem_of_getElem? (i := 29) rfl)).1
theorem tw_t63 {τ : tw_K} (h : tw_ok τ) : τ.1 1345 = 101 := (h.2 _ (List.mem_of_getElem? (i := 29) rfl)).2.1
theorem tw_l63 {τ : tw_K} (h : tw_ok τ) : τ.2.1 1345 = 240 := (h.2 _ (List.mem_of_getElem? (i := 29) rfl)).2.2
def tv (τ : tw_K) (Q : tw_I → tw_L → Prop) : cm_O → Prop := fun o => o.1 = false ∧ ∃ I L, o.2.2 = tw τ I L ∧ Q I L
def ti (τ : tw_K) (Q : Int32 → tw_I → tw_L → Prop) : cm_O → Prop := fun o => ∃ x I L, o = (false, .int x, tw τ I L) ∧ Q x I L
def tl (τ : tw_K) (Q : Int64 → tw_I → tw_L → Prop) : cm_O → Prop := fun o => ∃ x I L, o = (false, .long x, tw τ I L) ∧ Q x I L
def tr (τ : tw_K) (Q : Nat → tw_I → tw_L → Prop) : cm_O → Prop := fun o => ∃ x I L, o = (false, .ref x, tw τ I L) ∧ Q x I L
section
variable {τ : tw_K} {I : tw_I} {L : tw_L} {d mm : Nat} {as : List Value} {σ : cm_S}
theorem tv_k {Q : tw_I → tw_L → Prop} {v : Value} (h : Q I L) : tv τ Q (false, v, tw τ I L) := ⟨rfl, I, L, rfl, h⟩
theorem ti_k {Q : Int32 → tw_I → tw_L → Prop} {x : Int32} (h : Q x I L) : ti τ Q (false, .int x, tw τ I L) := ⟨x, I, L, rfl, h⟩
theorem tl_k {Q : Int64 → tw_I → tw_L → Prop} {x : Int64} (h : Q x I L) : tl τ Q (false, .long x, tw τ I L) := ⟨x, I, L, rfl, h⟩
theorem tr_k {Q : Nat → tw_I → tw_L → Prop} {x : Nat} (h : Q x I L) : tr τ Q (false, .ref x, tw τ I L) := ⟨x, I, L, rfl, h⟩
theorem wt_mv {P : tw_I → tw_L → Prop} {R : cm_S → Prop} (h : wp_c d mm as σ (tv τ P)) (k : ∀ I L, P I L → R (tw τ I L)) : wp_c d mm as σ (qv R) := h.mono fun o ⟨e, I, L, e2, q⟩ => ⟨e, by rw [e2]; exact k I L q⟩
theorem wt_mi {P : Int32 → tw_I → tw_L → Prop} {R : Int32 → cm_S → Prop} (h : wp_c d mm as σ (ti τ P)) (k : ∀ x I L, P x I L → R x (tw τ I L)) : wp_c d mm as σ (qi R) := h.mono fun o ⟨x, I, L, e, q⟩ => ⟨x, _, e, k x I L q⟩
theorem wt_ml {P : Int64 → tw_I → tw_L → Prop} {R : Int64 → cm_S → Prop} (h : wp_c d mm as σ (tl τ P)) (k : ∀ x I L, P x I L → R x (tw τ I L)) : wp_c d mm as σ (ql R) := h.mono fun o ⟨x, I, L, e, q⟩ => ⟨x, _, e, k x I L q⟩
theorem wt_mr {P : Nat → tw_I → tw_L → Prop} {R : Nat → cm_S → Prop} (h : wp_c d mm as σ (tr τ P)) (k : ∀ x I L, P x I L → R x (tw τ I L)) : wp_c d mm as σ (qr R) := h.mono fun o ⟨x, I, L, e, q⟩ => ⟨x, _, e, k x I L q⟩
theorem wt_v {P Q : tw_I → tw_L → Prop} (h : wp_c d mm as σ (tv τ P)) (k : ∀ I L, P I L → Q I L) : wp_c d mm as σ (tv τ Q) := h.mono fun o ⟨e, I, L, e2, q⟩ => ⟨e, I, L, e2, k I L q⟩
theorem wt_i {P Q : Int32 → tw_I → tw_L → Prop} (h : wp_c d mm as σ (ti τ P)) (k : ∀ x I L, P x I L → Q x I L) : wp_c d mm as σ (ti τ Q) := h.mono fun o ⟨x, I, L, e, q⟩ => ⟨x, I, L, e, k x I L q⟩
theorem wt_l {P Q : Int64 → tw_I → tw_L → Prop} (h : wp_c d mm as σ (tl τ P)) (k : ∀ x I L, P x I L → Q x I L) : wp_c d mm as σ (tl τ Q) := h.mono fun o ⟨x, I, L, e, q⟩ => ⟨x, I, L, e, k x I L q⟩
end
section
variable {d m pc n len x y z : Nat} {v : Value} {S st : List Value} {τ : tw_K} {I : tw_I} {L : tw_L} {Q : cm_O → Prop} {a b : Int32} {p q : Int64} {r s : Nat} {u w : Value}
theorem wt_gfI {k : Nat} (h : cm_at cp m pc = some (.getfield k, len, x, y, z, v)) (hn : pc + 3 = n) (hz : z ≠ 1 ∧ z ≠ 2) (ht : τ.1 r = x) (K : wp_r d m (n, S, .int (I r y) :: st, tw τ I L) Q) (hx : x ≠ 0 := by decide) : wp_r d m (pc, S, .ref r :: st, tw τ I L) Q := wr_gfI h hn hx hz ht K
theorem wt_pfI {k : Nat} (h : cm_at cp m pc = some (.putfield k, len, x, y, z, v)) (hn : pc + 3 = n) (hz : z ≠ 1 ∧ z ≠ 2) (ht : τ.1 r = x) (hk : cm_K cp ≤ r) (hf : cm_fit z a = true) (K : wp_r d m (n, S, st, tw τ (cm_u2 I r y a) L) Q) (hx : x ≠ 0 := by decide) : wp_r d m (pc, S, .int a :: .ref r :: st, tw τ I L) Q := wr_pfI h hn hx hz ht hk hf K
theorem wt_gfL {k : Nat} (h : cm_at cp m pc = some (.getfield k, len, x, y, 1, v)) (hn : pc + 3 = n) (ht : τ.1 r = x) (K : wp_r d m (n, S, .long (L r y) :: st, tw τ I L) Q) (hx : x ≠ 0 := by decide) : wp_r d m (pc, S, .ref r :: st, tw τ I L) Q := wr_gfL h hn hx ht K
theorem wt_pfL {k : Nat} (h : cm_at cp m pc = some (.putfield k, len, x, y, 1, v)) (hn : pc + 3 = n) (ht : τ.1 r = x) (hk : cm_K cp ≤ r) (K : wp_r d m (n, S, st, tw τ I (cm_u2 L r y p)) Q) (hx : x ≠ 0 := by decide) : wp_r d m (pc, S, .long p :: .ref r :: st, tw τ I L) Q := wr_pfL h hn hx ht hk K
theorem wt_gfR {k : Nat} (h : cm_at cp m pc = some (.getfield k, len, x, y, 2, v)) (hn : pc + 3 = n) (ht : τ.1 r = x) (hr : τ.2.2.1 r y = s) (K : wp_r d m (n, S, .ref s :: st, tw τ I L) Q) (hx : x ≠ 0 := by decide) : wp_r d m (pc, S, .ref r :: st, tw τ I L) Q := wg_gfR h hn hx ht hr K
theorem wt_iaload (h : cm_at cp m pc = some (.iaload, len, x, y, z, v)) {n0 : Nat} (hn : pc + 1 = n) (ht : τ.1 r = 101) (hl : τ.2.1 r = n0) (hi : cm_in a n0 = true) (K : wp_r d m (n, S, .int (I r (cm_ix a)) :: st, tw τ I L) Q) : wp_r d m (pc, S, .int a :: .ref r :: st, tw τ I L) Q := wr_iaload h hn ht (show cm_in a (τ.2.1 r) = true by rw [hl]; exact hi) K
theorem wt_laload (h : cm_at cp m pc = some (.laload, len, x, y, z, v)) {n0 : Nat} (hn : pc + 1 = n) (ht : τ.1 r = 102) (hl : τ.2.1 r = n0) (hi : cm_in a n0 = true) (K : wp_r d m (n, S, .long (L r (cm_ix a)) :: st, tw τ I L) Q) : wp_r d m (pc, S, .int a :: .ref r :: st, tw τ I L) Q := wr_laload h hn ht (show cm_in a (τ.2.1 r) = true by rw [hl]; exact hi) K
theorem wt_baload (h : cm_at cp m pc = some (.baload, len, x, y, z, v)) {n0 : Nat} (hn : pc + 1 = n) (ht : τ.1 r = 104) (hl : τ.2.1 r = n0) (hi : cm_in a n0 = true) (K : wp_r d m (n, S, .int (I r (cm_ix a)) :: st, tw τ I L) Q) : wp_r d m (pc, S, .int a :: .ref r :: st, tw τ I L) Q := wr_baload h hn (Or.inr ht) (show cm_in a (τ.2.1 r) = true by rw [hl]; exact hi) K
theorem wt_aaload (h : cm_at cp m pc = some (.aaload, len, x, y, z, v)) {n0 t0 : Nat} (hn : pc + 1 = n) (ht : τ.1 r = t0) (hl : τ.2.1 r = n0) (hi : cm_in a n0 = true) (K : wp_r d m (n, S, .ref (tw_R τ r (cm_ix a)) :: st, tw τ I L) Q) (h4 : Nat.blt 104 t0 = true := by decide) : wp_r d m (pc, S, .int a :: .ref r :: st, tw τ I L) Q := wr_aaload h hn (show 104 < τ.1 r by rw [ht]; simpa [Nat.blt_eq] using h4) (show cm_in a (τ.2.1 r) = true by rw [hl]; exact hi) K
theorem wt_iastore (h : cm_at cp m pc = some (.iastore, len, x, y, z, v)) {n0 : Nat} (hn : pc + 1 = n) (ht : τ.1 r = 101) (hl : τ.2.1 r = n0) (hi : cm_in a n0 = true) (hk : cm_K cp ≤ r) (K : wp_r d m (n, S, st, tw τ (cm_u2 I r (cm_ix a) b) L) Q) : wp_r d m (pc, S, .int b :: .int a :: .ref r :: st, tw τ I L) Q := wr_iastore h hn ht (show cm_in a (τ.2.1 r) = true by rw [hl]; exact hi) hk K
theorem wt_lastore (h : cm_at cp m pc = some (.lastore, len, x, y, z, v)) {n0 : Nat} (hn : pc + 1 = n) (ht : τ.1 r = 102) (hl : τ.2.1 r = n0) (hi : cm_in a n0 = true) (hk : cm_K cp ≤ r) (K : wp_r d m (n, S, st, tw τ I (cm_u2 L r (cm_ix a) p)) Q) : wp_r d m (pc, S, .long p :: .int a :: .ref r :: st, tw τ I L) Q := wr_lastore h hn ht (show cm_in a (τ.2.1 r) = true by rw [hl]; exact hi) hk K
theorem wt_bastore (h : cm_at cp m pc = some (.bastore, len, x, y, z, v)) {n0 : Nat} (hn : pc + 1 = n) (ht : τ.1 r = 104) (hl : τ.2.1 r = n0) (hi : cm_in a n0 = true) (hk : cm_K cp ≤ r) (hb : b = 0 ∨ b = 1) (K : wp_r d m (n, S, st, tw τ (cm_u2 I r (cm_ix a) b) L) Q) : wp_r d m (pc, S, .int b :: .int a :: .ref r :: st, tw τ I L) Q := wr_bastore h hn (Or.inr ⟨ht, hb⟩) (show cm_in a (τ.2.1 r) = true by rw [hl]; exact hi) hk (by rw [if_neg (show ¬ cm_tg (tw τ I L) r = 103 from fun e => by have : τ.1 r = 103 := e; rw [ht] at this; exact absurd this (by decide))]; exact K)
theorem wt_alen (h : cm_at cp m pc = some (.arraylength, len, x, y, z, v)) {n0 t0 : Nat} (hn : pc + 1 = n) (ht : τ.1 r = t0) (hl : τ.2.1 r = n0) (h1 : Nat.blt 100 t0 = true) (he : Int32.ofNat n0 = a) (K : wp_r d m (n, S, .int a :: st, tw τ I L) Q) : wp_r d m (pc, S, .ref r :: st, tw τ I L) Q := wg_alen h hn ht hl h1 he K
end
