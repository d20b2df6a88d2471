/-! SOUNDNESS: fields, arrays, new, casts, constants, switches -/
section
variable {p : Program} {l : Launch} {e : Env} {R : Room} {s : State} {m : MethodId} {args : Array Value} {below : List Frame} {meth : Method} {c : Code} {H : Heap} {locs : List Loc} {cells slots : Nat} {Q : State → Prop} {cc : ByteArray} {P : cm_P} {G : cm_G} {N : cm_N} {d : Nat} {calls : Nat → List Value → cm_S → Option cm_O} {mi pc pc2 nL x y z len : Nat} {v : Value} {ls : Array Slot} {L L2 st st2 : List Value} {σ σ2 : cm_S} {own : String}
def cm_Pok (P : cm_P) : Prop := (∀ ta tv, cm_asg P ta tv = true → tv ≠ 0 ∧ (tv < 100 ∨ 104 < tv)) ∧ (∀ x t b, cm_cast P x t = some b → t ≠ 0 ∧ (t < 100 ∨ 104 < t))
theorem cm_arr_get (hJ : cm_J P G s σ H locs) (hak : cg_ak G = cm_ak) {a t : Nat} (hta : cm_tg σ a = t) (ht : 100 < t) : 0 < a ∧ t < 110 ∧ ∃ cell : Cell, H[cg_f G a]? = some cell ∧ cell.vm.isStatics = false ∧ cell.vm ≠ .unknown ∧ (cm_K P ≤ a → cell.vm = .none) ∧ s.isArrayOf cell (cm_ak t) ∧ ((cm_K P ≤ a ∨ 104 < t) → cell.cls = cg_dA G t) ∧ cell.slots.size = cm_ln σ a ∧ (∀ j, j < cm_ln σ a → cell.slots[j]? = some (cm_vl (cg_f G) σ a j (cm_ak t))) ∧ ∀ j, j < cm_ln σ a → fits (cm_ak t) (cm_vl (cg_f G) σ a j (cm_ak t)) = true := by
  obtain ⟨h0, -, cell, c1, c2, c3, c4, -, c6⟩ := hJ.2.2.1 a (by omega)
  obtain ⟨q0, q1, q2, q3, q4, q5⟩ := c6 (by omega)
  rw [hta] at q0 q1 q2 q4 q5
  rw [hak] at q1 q4 q5
  exact ⟨h0, q0.2, cell, c1, c2, c3, c4, q1, q2, q3, q4, q5⟩
theorem cm_in_of {j : Int32} {n : Nat} (h : cm_in j n = true) : ¬ (j < 0 ∨ n ≤ j.toNatClampNeg) ∧ cm_ix j < n := by
  have h1 : 0 ≤ j.toInt ∧ j.toInt < (n : Int) := by simpa [cm_in] using h
  refine ⟨vp_in_iff.mpr h1, ?_⟩
  show j.toInt.toNat < n
  omega
/-- an element written -/
theorem cm_astJ (hA : cm_ad P G) (hJ : cm_J P G s σ H locs) (hak : cg_ak G = cm_ak) {a t i : Nat} {w : Value} {cell : Cell} {H2 : Heap} (hta : cm_tg σ a = t) (ht : 100 < t) (haK : cm_K P ≤ a) (hi : i < cm_ln σ a) (hc : H[cg_f G a]? = some cell) (hfw : fits (cm_ak t) w = true) (htg : cm_tg σ2 = cm_tg σ) (hln : cm_ln σ2 = cm_ln σ) (hnx : cm_nx σ2 = cm_nx σ)
    (hvl : ∀ b, b ≠ a → ∀ j ty, cm_vl (cg_f G) σ2 b j ty = cm_vl (cg_f G) σ b j ty) (hva : ∀ j, cm_vl (cg_f G) σ2 a j (cm_ak t) = if j = i then w else cm_vl (cg_f G) σ a j (cm_ak t)) (e1 : H2[cg_f G a]? = some (cell.setSlot i w)) (e2 : H2.size = H.size) (e3 : ∀ q, q ≠ cg_f G a → H2[q]? = H[q]?) : cm_J P G s σ2 H2 (locs ++ [⟨cg_f G a, i⟩]) := by
  obtain ⟨h0, h110, cell', c1, c2, c3, c4, c5, c6, c7, c8, c9f⟩ := cm_arr_get hJ hak hta ht
  cases Option.some.inj (c1.symm.trans hc)
  refine cm_J.put (a := a) hA hJ haK htg hln hnx hvl ?_ e2 e3 ?_
  · refine ⟨_, e1, c2, c3, c4, fun q => ?_, fun _ => ?_⟩
    · exfalso; rw [htg, hta] at q; omega
    · rw [htg, hta]
      refine ⟨⟨ht, h110⟩, by rw [hak]; exact c5, c6, by rw [hln, k2_slotsz]; exact c7, fun j hj => ?_, fun j hj => ?_⟩
      · rw [hln] at hj
        rw [hak, hva j]
        simp only [Cell.setSlot]
        rw [Array.getElem?_setIfInBounds]
        by_cases e : j = i
        · subst e; simp [c7, hi]
        · rw [if_neg (Ne.symm e), if_neg e]; exact c8 j hj
      · rw [hln] at hj
        rw [hak, hva j]
        by_cases e : j = i
        · rw [if_pos e]; exact hfw
        · rw [if_neg e]; exact c9f j hj
  · intro q hq
    rcases List.mem_append.mp hq with h1 | h1
    · exact Or.inl h1
    · simp only [List.mem_singleton] at h1; subst h1; exact Or.inr rfl
theorem cs_iaload (hx : p.tables.exec = Jvm.exec) (hb : c.code = cc)  (hd : decode cc pc = .ok (.iaload, 1)) (hL : cm_LR (cg_f G) nL L ls) (hA : cm_ad P G) (hJ : cm_J P G s σ H locs) (hak : cg_ak G = cm_ak) (h : cm_step P d calls mi pc (.iaload, len, x, y, z, v) L st σ = some (.inl (pc2, L2, st2, σ2))) (k : ∀ ls2, cm_LR (cg_f G) nL L2 ls2 → W p l e R s m args below meth c H locs cells slots Q (F0 m pc2 ls2 (st2.map (cm_tv (cg_f G))))) : σ2 = σ ∧ W p l e R s m args below meth c H locs cells slots Q (F0 m pc ls (st.map (cm_tv (cg_f G)))) := by
  obtain ⟨j, r, rfl, g0⟩ := cm_pi_some h
  clear h
  obtain ⟨a, r, rfl, g⟩ := cm_pr_some g0
  clear g0
  obtain ⟨⟨hta, hin⟩, g⟩ := cm_if_some g
  obtain ⟨h0, -, cell, c1, c2, c3, c4, c5, c6, c7, c8, c9f⟩ := cm_arr_get hJ hak hta (by decide)
  obtain ⟨i1, i2⟩ := cm_in_of hin
  obtain ⟨rfl, rfl, rfl, rfl⟩ := cm_go_inj g
  rw [List.map_cons, List.map_cons, cm_tv_ref (Nat.pos_iff_ne_zero.mp h0)]
  exact ⟨rfl, W.iald hx hb c1 c5 c3 (by rw [c7]; exact i1) (c8 _ i2) rfl rfl hd (k ls hL)⟩
theorem cs_laload (hx : p.tables.exec = Jvm.exec) (hb : c.code = cc)  (hd : decode cc pc = .ok (.laload, 1)) (hL : cm_LR (cg_f G) nL L ls) (hA : cm_ad P G) (hJ : cm_J P G s σ H locs) (hak : cg_ak G = cm_ak) (h : cm_step P d calls mi pc (.laload, len, x, y, z, v) L st σ = some (.inl (pc2, L2, st2, σ2))) (k : ∀ ls2, cm_LR (cg_f G) nL L2 ls2 → W p l e R s m args below meth c H locs cells slots Q (F0 m pc2 ls2 (st2.map (cm_tv (cg_f G))))) : σ2 = σ ∧ W p l e R s m args below meth c H locs cells slots Q (F0 m pc ls (st.map (cm_tv (cg_f G)))) := by
  obtain ⟨j, r, rfl, g0⟩ := cm_pi_some h
  clear h
  obtain ⟨a, r, rfl, g⟩ := cm_pr_some g0
  clear g0
  obtain ⟨⟨hta, hin⟩, g⟩ := cm_if_some g
  obtain ⟨h0, -, cell, c1, c2, c3, c4, c5, c6, c7, c8, c9f⟩ := cm_arr_get hJ hak hta (by decide)
  obtain ⟨i1, i2⟩ := cm_in_of hin
  obtain ⟨rfl, rfl, rfl, rfl⟩ := cm_go_inj g
  rw [List.map_cons, List.map_cons, cm_tv_ref (Nat.pos_iff_ne_zero.mp h0)]
  exact ⟨rfl, W.lald hx hb c1 c5 c3 (by rw [c7]; exact i1) (c8 _ i2) rfl rfl hd (k ls hL)⟩
theorem cs_baload (hx : p.tables.exec = Jvm.exec) (hb : c.code = cc)  (hd : decode cc pc = .ok (.baload, 1)) (hL : cm_LR (cg_f G) nL L ls) (hA : cm_ad P G) (hJ : cm_J P G s σ H locs) (hak : cg_ak G = cm_ak) (h : cm_step P d calls mi pc (.baload, len, x, y, z, v) L st σ = some (.inl (pc2, L2, st2, σ2))) (k : ∀ ls2, cm_LR (cg_f G) nL L2 ls2 → W p l e R s m args below meth c H locs cells slots Q (F0 m pc2 ls2 (st2.map (cm_tv (cg_f G))))) : σ2 = σ ∧ W p l e R s m args below meth c H locs cells slots Q (F0 m pc ls (st.map (cm_tv (cg_f G)))) := by
  obtain ⟨j, r, rfl, g0⟩ := cm_pi_some h
  clear h
  obtain ⟨a, r, rfl, g⟩ := cm_pr_some g0
  clear g0
  obtain ⟨⟨hta, hin⟩, g⟩ := cm_if_some g
  obtain ⟨i1, i2⟩ := cm_in_of hin
  obtain ⟨rfl, rfl, rfl, rfl⟩ := cm_go_inj g
  rcases hta with hta | hta
  · obtain ⟨h0, -, cell, c1, c2, c3, c4, c5, c6, c7, c8, c9f⟩ := cm_arr_get hJ hak hta (by decide)
    rw [List.map_cons, List.map_cons, cm_tv_ref (Nat.pos_iff_ne_zero.mp h0)]
    exact ⟨rfl, W.bald hx hb c1 c5 c3 (by rw [c7]; exact i1) (c8 _ i2) rfl rfl hd (k ls hL)⟩
  · obtain ⟨h0, -, cell, c1, c2, c3, c4, c5, c6, c7, c8, c9f⟩ := cm_arr_get hJ hak hta (by decide)
    rw [List.map_cons, List.map_cons, cm_tv_ref (Nat.pos_iff_ne_zero.mp h0)]
    exact ⟨rfl, W.zald hx hb c1 c5 c3 (by rw [c7]; exact i1) (c8 _ i2) rfl rfl hd (k ls hL)⟩
theorem cm_ak_ref {t : Nat} (h : 104 < t) : ∃ C, cm_ak t = .object C := by
  unfold cm_ak
  split <;> first | omega | exact ⟨_, rfl⟩
theorem cm_vl_ref {f : Nat → Nat} {a j t : Nat} (h : 104 < t) : cm_vl f σ a j (cm_ak t) = cm_tv f (.ref (cm_R σ a j)) := by
  obtain ⟨C, e⟩ := cm_ak_ref h
  rw [e]; rfl
theorem cs_aaload (hx : p.tables.exec = Jvm.exec) (hb : c.code = cc)  (hd : decode cc pc = .ok (.aaload, 1)) (hL : cm_LR (cg_f G) nL L ls) (hA : cm_ad P G) (hJ : cm_J P G s σ H locs) (hak : cg_ak G = cm_ak) (h : cm_step P d calls mi pc (.aaload, len, x, y, z, v) L st σ = some (.inl (pc2, L2, st2, σ2))) (k : ∀ ls2, cm_LR (cg_f G) nL L2 ls2 → W p l e R s m args below meth c H locs cells slots Q (F0 m pc2 ls2 (st2.map (cm_tv (cg_f G))))) : σ2 = σ ∧ W p l e R s m args below meth c H locs cells slots Q (F0 m pc ls (st.map (cm_tv (cg_f G)))) := by
  obtain ⟨j, r, rfl, g0⟩ := cm_pi_some h
  clear h
  obtain ⟨a, r, rfl, g⟩ := cm_pr_some g0
  clear g0
  obtain ⟨⟨hta, hin⟩, g⟩ := cm_if_some g
  obtain ⟨h0, -, cell, c1, c2, c3, c4, c5, c6, c7, c8, c9f⟩ := cm_arr_get hJ hak rfl (show 100 < cm_tg σ a by omega)
  obtain ⟨i1, i2⟩ := cm_in_of hin
  obtain ⟨rfl, rfl, rfl, rfl⟩ := cm_go_inj g
  obtain ⟨C, hC⟩ := cm_ak_ref hta
  have c9 := c8 _ i2
  rw [cm_vl_ref hta] at c9
  rw [List.map_cons, List.map_cons, cm_tv_ref (Nat.pos_iff_ne_zero.mp h0)]
  exact ⟨rfl, W.aald hx hb c1 c5 (by rw [hC]; rfl) c3 (by rw [c7]; exact i1) c9 rfl rfl hd (k ls hL)⟩
theorem cs_arraylength (hx : p.tables.exec = Jvm.exec) (hb : c.code = cc)  (hd : decode cc pc = .ok (.arraylength, 1)) (hL : cm_LR (cg_f G) nL L ls) (hA : cm_ad P G) (hJ : cm_J P G s σ H locs) (hak : cg_ak G = cm_ak) (h : cm_step P d calls mi pc (.arraylength, len, x, y, z, v) L st σ = some (.inl (pc2, L2, st2, σ2))) (k : ∀ ls2, cm_LR (cg_f G) nL L2 ls2 → W p l e R s m args below meth c H locs cells slots Q (F0 m pc2 ls2 (st2.map (cm_tv (cg_f G))))) : σ2 = σ ∧ W p l e R s m args below meth c H locs cells slots Q (F0 m pc ls (st.map (cm_tv (cg_f G)))) := by
  obtain ⟨a, r, rfl, g⟩ := cm_pr_some h
  clear h
  obtain ⟨hta, g⟩ := cm_if_some g
  obtain ⟨h0, -, cell, c1, c2, c3, c4, c5, c6, c7, c8, c9f⟩ := cm_arr_get hJ hak rfl hta
  obtain ⟨rfl, rfl, rfl, rfl⟩ := cm_go_inj g
  rw [List.map_cons, cm_tv_ref (Nat.pos_iff_ne_zero.mp h0)]
  exact ⟨rfl, W.alen (n := Int32.ofNat (cm_ln σ2 a)) hx hb c1 c5 (by rw [c7]) rfl rfl hd (k ls hL)⟩
theorem cs_iastore (hx : p.tables.exec = Jvm.exec) (hb : c.code = cc)  (hd : decode cc pc = .ok (.iastore, 1)) (hL : cm_LR (cg_f G) nL L ls) (hA : cm_ad P G) (hJ : cm_J P G s σ H locs) (hak : cg_ak G = cm_ak) (h : cm_step P d calls mi pc (.iastore, len, x, y, z, v) L st σ = some (.inl (pc2, L2, st2, σ2))) (k : ∀ H2 locs2 ls2, cm_J P G s σ2 H2 locs2 → cm_LR (cg_f G) nL L2 ls2 → W p l e R s m args below meth c H2 locs2 cells slots Q (F0 m pc2 ls2 (st2.map (cm_tv (cg_f G))))) : W p l e R s m args below meth c H locs cells slots Q (F0 m pc ls (st.map (cm_tv (cg_f G)))) := by
  obtain ⟨w, r, rfl, g1⟩ := cm_pi_some h
  clear h
  obtain ⟨j, r, rfl, g0⟩ := cm_pi_some g1
  clear g1
  obtain ⟨a, r, rfl, g⟩ := cm_pr_some g0
  clear g0
  obtain ⟨⟨hta, hin, haK⟩, g⟩ := cm_if_some g
  obtain ⟨h0, -, cell, c1, c2, c3, c4, c5, c6, c7, c8, c9f⟩ := cm_arr_get hJ hak hta (by decide)
  obtain ⟨i1, i2⟩ := cm_in_of hin
  obtain ⟨rfl, rfl, rfl, rfl⟩ := cm_go_inj g
  rw [List.map_cons, List.map_cons, List.map_cons, cm_tv_ref (Nat.pos_iff_ne_zero.mp h0)]
  refine W.iast hx hb c1 c5 c3 (by rw [c7]; exact i1) rfl rfl hd fun H2 e1 e2 e3 => ?_
  exact k _ _ ls (cm_astJ (σ2 := cm_pI σ a (cm_ix j) w) hA hJ hak hta (by decide) haK i2 c1 rfl rfl rfl rfl (fun b hb2 i ty => cm_vl_pI σ a _ _ w i ty hb2) (fun i => cm_vl_pI_at σ a _ _ w i _ (by decide)) e1 e2 e3) hL
theorem cs_lastore (hx : p.tables.exec = Jvm.exec) (hb : c.code = cc)  (hd : decode cc pc = .ok (.lastore, 1)) (hL : cm_LR (cg_f G) nL L ls) (hA : cm_ad P G) (hJ : cm_J P G s σ H locs) (hak : cg_ak G = cm_ak) (h : cm_step P d calls mi pc (.lastore, len, x, y, z, v) L st σ = some (.inl (pc2, L2, st2, σ2))) (k : ∀ H2 locs2 ls2, cm_J P G s σ2 H2 locs2 → cm_LR (cg_f G) nL L2 ls2 → W p l e R s m args below meth c H2 locs2 cells slots Q (F0 m pc2 ls2 (st2.map (cm_tv (cg_f G))))) : W p l e R s m args below meth c H locs cells slots Q (F0 m pc ls (st.map (cm_tv (cg_f G)))) := by
  obtain ⟨w, r, rfl, g1⟩ := cm_pl_some h
  clear h
  obtain ⟨j, r, rfl, g0⟩ := cm_pi_some g1
  clear g1
  obtain ⟨a, r, rfl, g⟩ := cm_pr_some g0
  clear g0
  obtain ⟨⟨hta, hin, haK⟩, g⟩ := cm_if_some g
  obtain ⟨h0, -, cell, c1, c2, c3, c4, c5, c6, c7, c8, c9f⟩ := cm_arr_get hJ hak hta (by decide)
  obtain ⟨i1, i2⟩ := cm_in_of hin
  obtain ⟨rfl, rfl, rfl, rfl⟩ := cm_go_inj g
  rw [List.map_cons, List.map_cons, List.map_cons, cm_tv_ref (Nat.pos_iff_ne_zero.mp h0)]
  refine W.last hx hb c1 c5 c3 (by rw [c7]; exact i1) rfl rfl hd fun H2 e1 e2 e3 => ?_
  exact k _ _ ls (cm_astJ (σ2 := cm_pL σ a (cm_ix j) w) hA hJ hak hta (by decide) haK i2 c1 rfl rfl rfl rfl (fun b hb2 i ty => cm_vl_pL σ a _ _ w i ty hb2) (fun i => cm_vl_pL_at σ a _ _ w i _ rfl) e1 e2 e3) hL
theorem cs_bastore (hx : p.tables.exec = Jvm.exec) (hb : c.code = cc)  (hd : decode cc pc = .ok (.bastore, 1)) (hL : cm_LR (cg_f G) nL L ls) (hA : cm_ad P G) (hJ : cm_J P G s σ H locs) (hak : cg_ak G = cm_ak) (h : cm_step P d calls mi pc (.bastore, len, x, y, z, v) L st σ = some (.inl (pc2, L2, st2, σ2))) (k : ∀ H2 locs2 ls2, cm_J P G s σ2 H2 locs2 → cm_LR (cg_f G) nL L2 ls2 → W p l e R s m args below meth c H2 locs2 cells slots Q (F0 m pc2 ls2 (st2.map (cm_tv (cg_f G))))) : W p l e R s m args below meth c H locs cells slots Q (F0 m pc ls (st.map (cm_tv (cg_f G)))) := by
  obtain ⟨w, r, rfl, g1⟩ := cm_pi_some h
  clear h
  obtain ⟨j, r, rfl, g0⟩ := cm_pi_some g1
  clear g1
  obtain ⟨a, r, rfl, g⟩ := cm_pr_some g0
  clear g0
  obtain ⟨⟨hta, hin, haK⟩, g⟩ := cm_if_some g
  obtain ⟨i1, i2⟩ := cm_in_of hin
  obtain ⟨rfl, rfl, rfl, rfl⟩ := cm_go_inj g
  rcases hta with hta | ⟨hta, hw⟩
  · obtain ⟨h0, -, cell, c1, c2, c3, c4, c5, c6, c7, c8, c9f⟩ := cm_arr_get hJ hak hta (by decide)
    rw [if_pos hta] at k
    rw [List.map_cons, List.map_cons, List.map_cons, cm_tv_ref (Nat.pos_iff_ne_zero.mp h0)]
    refine W.bast hx hb c1 c5 c3 (by rw [c7]; exact i1) rfl rfl hd fun H2 e1 e2 e3 => ?_
    exact k _ _ ls (cm_astJ (σ2 := cm_pI σ a (cm_ix j) w.toInt8.toInt32) hA hJ hak hta (by decide) haK i2 c1 (pk_fb w) rfl rfl rfl (fun b hb2 i ty => cm_vl_pI σ a _ _ _ i ty hb2) (fun i => cm_vl_pI_at σ a _ _ _ i _ (by decide)) e1 e2 e3) hL
  · obtain ⟨h0, -, cell, c1, c2, c3, c4, c5, c6, c7, c8, c9f⟩ := cm_arr_get hJ hak hta (by decide)
    rw [if_neg (by omega)] at k
    rw [List.map_cons, List.map_cons, List.map_cons, cm_tv_ref (Nat.pos_iff_ne_zero.mp h0)]
    refine W.zast hx hb c1 c5 c3 (by rw [c7]; exact i1) rfl rfl hd fun H2 e1 e2 e3 => ?_
    rw [show narrow .boolean (.int w) = .int w by rcases hw with rfl | rfl <;> rfl] at e1
    exact k _ _ ls (cm_astJ (σ2 := cm_pI σ a (cm_ix j) w) hA hJ hak hta (by decide) haK i2 c1 (by rcases hw with rfl | rfl <;> rfl) rfl rfl rfl (fun b hb2 i ty => cm_vl_pI σ a _ _ _ i ty hb2) (fun i => cm_vl_pI_at σ a _ _ _ i _ (by decide)) e1 e2 e3) hL
theorem cs_aastore (hx : p.tables.exec = Jvm.exec) (hb : c.code = cc)  (hd : decode cc pc = .ok (.aastore, 1)) (hL : cm_LR (cg_f G) nL L ls) (hA : cm_ad P G) (hJ : cm_J P G s σ H locs) (hak : cg_ak G = cm_ak) (hE : ce_asg P G s) (hR : ce_arr G s) (hC1 : ce_cls G s) (hz : cm_Pok P) (h : cm_step P d calls mi pc (.aastore, len, x, y, z, v) L st σ = some (.inl (pc2, L2, st2, σ2))) (k : ∀ H2 locs2 ls2, cm_J P G s σ2 H2 locs2 → cm_LR (cg_f G) nL L2 ls2 → W p l e R s m args below meth c H2 locs2 cells slots Q (F0 m pc2 ls2 (st2.map (cm_tv (cg_f G))))) : W p l e R s m args below meth c H locs cells slots Q (F0 m pc ls (st.map (cm_tv (cg_f G)))) := by
  obtain ⟨w, r, rfl, g1⟩ := cm_pr_some h
  clear h
  obtain ⟨j, r, rfl, g0⟩ := cm_pi_some g1
  clear g1
  obtain ⟨a, r, rfl, g⟩ := cm_pr_some g0
  clear g0
  obtain ⟨⟨hta, hin, haK, hw⟩, g⟩ := cm_if_some g
  obtain ⟨h0, h110, cell, c1, c2, c3, c4, c5, c6, c7, c8, c9f⟩ := cm_arr_get hJ hak rfl (show 100 < cm_tg σ a by omega)
  obtain ⟨i1, i2⟩ := cm_in_of hin
  obtain ⟨rfl, rfl, rfl, rfl⟩ := cm_go_inj g
  obtain ⟨C, hC⟩ := cm_ak_ref hta
  rw [List.map_cons, List.map_cons, List.map_cons, cm_tv_ref (Nat.pos_iff_ne_zero.mp h0)]
  have fin : ∀ H2 : Heap, H2[cg_f G a]? = some (cell.setSlot (cm_ix j) (cm_tv (cg_f G) (.ref w))) → H2.size = H.size → (∀ q, q ≠ cg_f G a → H2[q]? = H[q]?) → W p l e R s m args below meth c H2 (locs ++ [⟨cg_f G a, cm_ix j⟩]) cells slots Q (F0 m (pc + 1) ls (st2.map (cm_tv (cg_f G)))) := fun H2 e1 e2 e3 => k _ _ ls (cm_astJ (σ2 := cm_pR σ a (cm_ix j) w) hA hJ hak rfl (by omega) haK i2 c1 (cm_narrow_ref _ (by rw [hC]; rfl) _ _).2 rfl rfl rfl (fun b hb2 i ty => cm_vl_pR σ a _ _ _ i ty hb2) (fun i => cm_vl_pR_at σ a _ _ _ i _ (by rw [hC]; rfl)) e1 e2 e3) hL
  by_cases hw0 : w = 0
  · subst hw0
    rw [cm_tv_0] at fin ⊢
    rw [hC] at c5
    exact va_WaastN hx hb c1 c5 c3 (by rw [c7]; exact i1) rfl rfl hd fin
  · rw [cm_tv_ref hw0] at fin ⊢
    have hasg := hw.resolve_left hw0
    obtain ⟨C2, hC2, has⟩ := hE _ _ hasg
    rw [hC] at hC2
    cases hC2
    obtain ⟨-, -, hra⟩ := hR _ (by omega) h110
    rw [hC] at hra
    obtain ⟨kA, comp, k1, k2, k3, -⟩ := hra
    obtain ⟨kE, hkE, -⟩ := Vm.findClass_spec k3
    have hcls := c6 (Or.inl haK)
    have hwt : cm_tg σ w ≠ 0 := fun q => by
      exact (hz.1 _ _ hasg).1 q
    obtain ⟨w0, -, cv, d1, d2, d3, d4, d5, d6⟩ := hJ.2.2.1 w hwt
    have hcv : cv.cls = cm_co G (cm_tg σ w) ∧ ∃ kv, s.vm.classes[cv.cls]? = some kv := by
      unfold cm_co
      by_cases h100 : cm_tg σ w < 100
      · rw [if_pos h100]
        obtain ⟨f1, rr, f2, -⟩ := d5 h100
        obtain ⟨kC, hkC, -⟩ := Vm.findClass_spec (hC1 _ _ f2).2.1
        exact ⟨f1, kC, by rw [f1]; exact hkC⟩
      · rw [if_neg h100]
        obtain ⟨f0, f1, f2, -⟩ := d6 (by omega)
        obtain ⟨-, kk, hkk, -⟩ := f1
        exact ⟨f2 (Or.inr (by have := (hz.1 _ _ hasg).2; omega)), kk, hkk⟩
    obtain ⟨kv, hkv⟩ := hcv.2
    exact W.aast hx hb c1 (fun q h => by rw [h] at c2; cases c2) c3 (by rw [hcls]; exact k1) k2 rfl hkE ⟨fun q => i1 (Or.inl q), by rw [c7]; exact i2⟩ d1 (fun q h => by rw [h] at d2; cases d2) hkv (by rw [hcv.1]; exact has _ k3) rfl rfl hd fin
theorem cs_putfield (hx : p.tables.exec = Jvm.exec) (hb : c.code = cc) {n : Nat} (hd : decode cc pc = .ok (.putfield n, 3)) (hL : cm_LR (cg_f G) nL L ls) (hA : cm_ad P G) (hJ : cm_J P G s σ H locs) (hak : cg_ak G = cm_ak) (hown : s.vm.findClass own = some m.cls) (hts : ∀ w ∈ lw_all, w.before args s = true) (hC : ce_cls G s) (hT : ce_tbl s) (hK : cm_clok G) (ho : cm_fok G own n x y z) (hf : cm_fin G own meth.name x y) (h : cm_step P d calls mi pc (.putfield n, len, x, y, z, v) L st σ = some (.inl (pc2, L2, st2, σ2))) (k : ∀ H2 locs2 ls2, cm_J P G s σ2 H2 locs2 → cm_LR (cg_f G) nL L2 ls2 → W p l e R s m args below meth c H2 locs2 cells slots Q (F0 m pc2 ls2 (st2.map (cm_tv (cg_f G))))) : W p l e R s m args below meth c H locs cells slots Q (F0 m pc ls (st.map (cm_tv (cg_f G)))) := by
  have hz : z = cm_kd (cg_ty G x y) ∧ z ≤ 5 := by
    obtain ⟨r, ref, hc, -, hy, e1, -⟩ := ho
    exact ⟨e1, by rw [e1]; exact ((hK x r hc).2.2.1 y hy).2⟩
  have pos : ∀ a : Nat, cm_K P ≤ a → a ≠ 0 := fun a ha q => by have := hA.2.2.2.1; omega
  by_cases z1 : z = 1
  · rw [z1] at h
    obtain ⟨w, r, rfl, g0⟩ := cm_pl_some h
    clear h
    obtain ⟨a, r, rfl, g⟩ := cm_pr_some g0
    clear g0
    obtain ⟨⟨hta, -, haK⟩, g⟩ := cm_if_some g
    obtain ⟨rfl, rfl, rfl, rfl⟩ := cm_go_inj g
    rw [List.map_cons, List.map_cons, cm_tv_ref (pos a haK)]
    have ht : cm_kd (cg_ty G x y) = 1 := by rw [← hz.1]; exact z1
    have hl : cg_ty G x y = .long := by revert ht; cases cg_ty G x y <;> simp [cm_kd]
    refine cm_putW (w := .long w) (σ2 := cm_pL σ a y w) hx hb hd hown hts hA hJ hC hT hK ho hf hta haK (by rw [hl]; rfl) (by rw [hl]; rfl) rfl rfl rfl (fun b hb2 i ty => cm_vl_pL σ a _ _ _ i ty hb2) (fun i ty hi => cm_vl_pL_ne σ a _ _ _ ty hi a) (by rw [cm_vl_pL_at _ _ _ _ _ _ _ ht]; simp) (fun H2 locs2 j2 => k _ _ ls j2 hL)
  · by_cases z2 : z = 2
    · rw [z2] at h
      obtain ⟨w, r, rfl, g0⟩ := cm_pr_some h
      clear h
      obtain ⟨a, r, rfl, g⟩ := cm_pr_some g0
      clear g0
      obtain ⟨⟨hta, -, haK⟩, g⟩ := cm_if_some g
      obtain ⟨rfl, rfl, rfl, rfl⟩ := cm_go_inj g
      rw [List.map_cons, List.map_cons, cm_tv_ref (pos a haK)]
      have ht : cm_kd (cg_ty G x y) = 2 := by rw [← hz.1]; exact z2
      obtain ⟨n1, n2⟩ := cm_narrow_ref _ ht (cg_f G) w
      refine cm_putW (w := cm_tv (cg_f G) (.ref w)) (σ2 := cm_pR σ a y w) hx hb hd hown hts hA hJ hC hT hK ho hf hta haK n1 n2 rfl rfl rfl (fun b hb2 i ty => cm_vl_pR σ a _ _ _ i ty hb2) (fun i ty hi => cm_vl_pR_ne σ a _ _ _ ty hi a) (by rw [cm_vl_pR_at _ _ _ _ _ _ _ ht]; simp) (fun H2 locs2 j2 => k _ _ ls j2 hL)
    · have g9 : (cm_pi st fun w st => cm_pr st fun a st => if cm_tg σ a = x ∧ x ≠ 0 ∧ cm_K P ≤ a ∧ cm_fit z w = true then cm_go (pc + 3) L st (cm_pI σ a y w) else none) = some (.inl (pc2, L2, st2, σ2)) := by
        have h2 : (match z with | 1 => cm_pl st fun w st => cm_pr st fun a st => if cm_tg σ a = x ∧ x ≠ 0 ∧ cm_K P ≤ a then cm_go (pc + 3) L st (cm_pL σ a y w) else none | 2 => cm_pr st fun w st => cm_pr st fun a st => if cm_tg σ a = x ∧ x ≠ 0 ∧ cm_K P ≤ a then cm_go (pc + 3) L st (cm_pR σ a y w) else none | _ => cm_pi st fun w st => cm_pr st fun a st => if cm_tg σ a = x ∧ x ≠ 0 ∧ cm_K P ≤ a ∧ cm_fit z w = true then cm_go (pc + 3) L st (cm_pI σ a y w) else none) = some (.inl (pc2, L2, st2, σ2)) := h
        revert h2; split <;> intro h2 <;> first | exact absurd rfl z1 | exact absurd rfl z2 | exact h2
      clear h
      obtain ⟨w, r, rfl, g0⟩ := cm_pi_some g9
      clear g9
      obtain ⟨a, r, rfl, g⟩ := cm_pr_some g0
      clear g0
      obtain ⟨⟨hta, -, haK, hfw⟩, g⟩ := cm_if_some g
      obtain ⟨rfl, rfl, rfl, rfl⟩ := cm_go_inj g
      rw [List.map_cons, List.map_cons, cm_tv_ref (pos a haK)]
      obtain ⟨n1, n2⟩ := cm_narrow_int _ z hz.1 hz.2 z1 z2 w hfw
      have ht : cm_kd (cg_ty G x y) ≠ 1 ∧ cm_kd (cg_ty G x y) ≠ 2 := by rw [← hz.1]; exact ⟨z1, z2⟩
      refine cm_putW (w := .int w) (σ2 := cm_pI σ a y w) hx hb hd hown hts hA hJ hC hT hK ho hf hta haK n1 n2 rfl rfl rfl (fun b hb2 i ty => cm_vl_pI σ a _ _ _ i ty hb2) (fun i ty hi => cm_vl_pI_ne σ a _ _ _ ty hi a) (by rw [cm_vl_pI_at _ _ _ _ _ _ _ ht]; simp) (fun H2 locs2 j2 => k _ _ ls j2 hL)
/-- a class that is made -/
def cm_nok (G : cm_G) (own : String) (n x y : Nat) : Prop := ∃ r : vw_C, (cg_cl G)[x]? = some r ∧ x ≠ 0 ∧ x < 60 ∧ Cond.classLink own n r.1 ∈ lw_all ∧ Cond.instantiable r.1 y ∈ lw_all ∧ Cond.initialized r.1 ∈ lw_all
theorem cs_new (hx : p.tables.exec = Jvm.exec) (hb : c.code = cc) {n : Nat} (hd : decode cc pc = .ok (.new n, 3)) (hL : cm_LR (cg_f G) nL L ls) (hA : cm_ad P G) (hJ : cm_J P G s σ H locs) (hak : cg_ak G = cm_ak) (hown : s.vm.findClass own = some m.cls) (hts : ∀ w ∈ lw_all, w.before args s = true) (hC : ce_cls G s) (hK : cm_clok G) (hz : z = 0) (ho : cm_nok G own n x y) (hcells : cells + 1 ≤ R.cells) (hslots : slots + (cm_sz σ2 - cm_sz σ) ≤ R.slots) (h : cm_step P d calls mi pc (.new n, len, x, y, z, v) L st σ = some (.inl (pc2, L2, st2, σ2))) (k : ∀ H2 ls2, cm_J P G s σ2 H2 locs → cm_LR (cg_f G) nL L2 ls2 → W p l e R s m args below meth c H2 locs (cells + 1) (slots + (cm_sz σ2 - cm_sz σ)) Q (F0 m pc2 ls2 (st2.map (cm_tv (cg_f G))))) : W p l e R s m args below meth c H locs cells slots Q (F0 m pc ls (st.map (cm_tv (cg_f G)))) := by
  subst hz
  obtain ⟨rfl, rfl, rfl, rfl⟩ := cm_go_inj h
  obtain ⟨r, hc, hx0, h60, w1, w2, w3⟩ := ho
  obtain ⟨hx100, hin, hty, -⟩ := hK x r hc
  have hin := hin h60
  have hKn := hC.kn hc h60
  have e9 : cm_sz (cm_al σ x y) - cm_sz σ = y := by simp [cm_al, cm_sz]
  rw [e9] at hslots k
  refine W.newcK hx hb hown (hts _ w1) (hts _ w2) (hts _ w3) rfl hd hcells hslots hKn.2.1 rfl fun H1 kC hkC e1 z1 o1 => ?_
  have n0 : cm_nx σ ≠ 0 := by have := hA.2.2.2.1; have := hJ.1; omega
  have hnw := hJ.new hA
  have k2 := k H1 ls (cm_J.al hA hJ hx0 z1 o1 ?_) hL
  · rw [List.map_cons, cm_tv_ref n0, hnw] at k2
    exact k2
  · obtain ⟨cell, b1, b2, b3, b4⟩ := u_born (fun j => cg_ty G x j) hts hin hKn hkC e1 (fun j hj => (hty j hj).1)
    have ht : cm_tg (cm_al σ x y) (cm_nx σ) = x := by simp [cm_al, cm_tg, cm_u1]
    refine ⟨cell, by rw [hnw]; exact b1, by rw [b3]; rfl, (by rw [b3]; exact fun h => by cases h), fun _ => b3, fun _ => ?_, fun q => ?_⟩
    · rw [ht]
      refine ⟨b2, r, hc, fun j hj => ?_⟩
      rw [b4 j hj, cm_vl_new]
      have := (hty j hj).2
      omega
    · exfalso; rw [ht] at q; omega
theorem cm_nonneg {n : Int32} (h : 0 ≤ n.toInt) : ¬ n < 0 := fun q => by
  have := Int32.lt_iff_toInt_lt.mp q
  simp at this
  omega
/-- a fresh array -/
theorem cm_newA (hA : cm_ad P G) (hJ : cm_J P G s σ H locs) (hak : cg_ak G = cm_ak) (hR : ce_arr G s) {t n : Nat} (h1 : 100 < t) (h2 : t < 110) {H1 : Heap} (e1 : H1[H.size]? = some (arrV (cg_dA G t) n (fun _ => defaultValue (cm_ak t)))) (z1 : H1.size = H.size + 1) (o1 : ∀ q, q < H.size → H1[q]? = H[q]?) : cm_J P G s (cm_al σ t n) H1 locs := by
  have hnw := hJ.new hA
  refine cm_J.al hA hJ (by omega) z1 o1 ⟨_, by rw [hnw]; exact e1, rfl, (fun h => by cases h), fun _ => rfl, fun q => ?_, fun _ => ?_⟩
  · exfalso
    have ht : cm_tg (cm_al σ t n) (cm_nx σ) = t := by simp [cm_al, cm_tg, cm_u1]
    rw [ht] at q; omega
  · have ht : cm_tg (cm_al σ t n) (cm_nx σ) = t := by simp [cm_al, cm_tg, cm_u1]
    have hl : cm_ln (cm_al σ t n) (cm_nx σ) = n := by simp [cm_al, cm_ln, cm_u1]
    rw [ht]
    have hd : ∀ j, cm_vl (cg_f G) (cm_al σ t n) (cm_nx σ) j (cg_ak G t) = defaultValue (cm_ak t) := fun j => by
      rw [hak, cm_vl_new]
      unfold cm_ak
      split <;> decide
    refine ⟨⟨h1, h2⟩, by rw [hak]; exact (hR t h1 h2).2.1 _ _, fun _ => rfl, by rw [hl]; exact arrV_size _ _ _, fun j hj => ?_, fun j hj => ?_⟩
    · rw [hl] at hj
      rw [arrV_read _ _ hj, hd]
    · rw [hd, hak]
      unfold cm_ak
      split <;> rfl
theorem cs_newarray (hx : p.tables.exec = Jvm.exec) (hb : c.code = cc) {at0 : ArrayType} (hd : decode cc pc = .ok (.newarray at0, 2)) (hL : cm_LR (cg_f G) nL L ls) (hA : cm_ad P G) (hJ : cm_J P G s σ H locs) (hak : cg_ak G = cm_ak) (hown : s.vm.findClass own = some m.cls) (hts : ∀ w ∈ lw_all, w.before args s = true) (hR : ce_arr G s) (ho : newarray.typeOf at0 = cm_ak x ∧ 100 < x ∧ x < 105 ∧ Cond.arrayClass (cm_ak x) ∈ lw_all) (hcells : cells + 1 ≤ R.cells) (hslots : slots + (cm_sz σ2 - cm_sz σ) ≤ R.slots) (h : cm_step P d calls mi pc (.newarray at0, len, x, y, z, v) L st σ = some (.inl (pc2, L2, st2, σ2))) (k : ∀ H2 ls2, cm_J P G s σ2 H2 locs → cm_LR (cg_f G) nL L2 ls2 → W p l e R s m args below meth c H2 locs (cells + 1) (slots + (cm_sz σ2 - cm_sz σ)) Q (F0 m pc2 ls2 (st2.map (cm_tv (cg_f G))))) : W p l e R s m args below meth c H locs cells slots Q (F0 m pc ls (st.map (cm_tv (cg_f G)))) := by
  obtain ⟨n0, r, rfl, g⟩ := cm_pi_some h
  clear h
  obtain ⟨hn, g⟩ := cm_if_some g
  obtain ⟨rfl, rfl, rfl, rfl⟩ := cm_go_inj g
  obtain ⟨w0, w1, w2, w3⟩ := ho
  have e9 : cm_sz (cm_al σ x (cm_ix n0)) - cm_sz σ = cm_ix n0 := by simp [cm_al, cm_sz]
  rw [e9] at hslots k
  have hbytes : n0.toNatClampNeg * componentBytes (newarray.typeOf at0) ≤ 536870912 := by
    have : n0.toNatClampNeg ≤ 60000000 := by show n0.toInt.toNat ≤ 60000000; omega
    have h8 : componentBytes (newarray.typeOf at0) ≤ 8 := by cases at0 <;> decide
    calc n0.toNatClampNeg * componentBytes (newarray.typeOf at0) ≤ 60000000 * 8 := Nat.mul_le_mul this h8
      _ ≤ 536870912 := by decide
  refine va_newaK hx hb (by rw [w0]; exact hts _ w3) rfl hd rfl (cm_nonneg hn.1) rfl hbytes hcells hslots rfl fun H1 cA e1 z1 o1 hT1 hf1 => ?_
  rw [w0] at e1 hf1
  have hcA : cA = cg_dA G x := Option.some.inj (hf1.symm.trans (hR x w1 (by omega)).1)
  subst hcA
  have n1 : cm_nx σ ≠ 0 := by have := hA.2.2.2.1; have := hJ.1; omega
  have k2 := k H1 ls (cm_newA hA hJ hak hR w1 (by omega) e1 z1 o1) hL
  rw [List.map_cons, cm_tv_ref n1, hJ.new hA] at k2
  exact k2
theorem cs_anewarray (hx : p.tables.exec = Jvm.exec) (hb : c.code = cc) {n : Nat} (hd : decode cc pc = .ok (.anewarray n, 3)) (hL : cm_LR (cg_f G) nL L ls) (hA : cm_ad P G) (hJ : cm_J P G s σ H locs) (hak : cg_ak G = cm_ak) (hown : s.vm.findClass own = some m.cls) (hts : ∀ w ∈ lw_all, w.before args s = true) (hR : ce_arr G s) (hT : ce_tbl s) (ho : ∃ C, cm_ak x = .object C ∧ 104 < x ∧ x < 110 ∧ Cond.classLink own n C ∈ lw_all ∧ Cond.arrayOver (.object C) ∈ lw_tbl) (hcells : cells + 1 ≤ R.cells) (hslots : slots + (cm_sz σ2 - cm_sz σ) ≤ R.slots) (h : cm_step P d calls mi pc (.anewarray n, len, x, y, z, v) L st σ = some (.inl (pc2, L2, st2, σ2))) (k : ∀ H2 ls2, cm_J P G s σ2 H2 locs → cm_LR (cg_f G) nL L2 ls2 → W p l e R s m args below meth c H2 locs (cells + 1) (slots + (cm_sz σ2 - cm_sz σ)) Q (F0 m pc2 ls2 (st2.map (cm_tv (cg_f G))))) : W p l e R s m args below meth c H locs cells slots Q (F0 m pc ls (st.map (cm_tv (cg_f G)))) := by
  obtain ⟨n0, r, rfl, g⟩ := cm_pi_some h
  clear h
  obtain ⟨hn, g⟩ := cm_if_some g
  obtain ⟨rfl, rfl, rfl, rfl⟩ := cm_go_inj g
  obtain ⟨C, w0, w1, w2, w3, w4⟩ := ho
  have e9 : cm_sz (cm_al σ x (cm_ix n0)) - cm_sz σ = cm_ix n0 := by simp [cm_al, cm_sz]
  rw [e9] at hslots k
  have hbytes : n0.toNatClampNeg * 4 ≤ 536870912 := by
    have : n0.toNatClampNeg ≤ 60000000 := by show n0.toInt.toNat ≤ 60000000; omega
    omega
  refine W.anew hx hb hown (hts _ w3) (va_AO.use (hT.2.1 C w4)) rfl hd rfl (cm_nonneg hn.1) hbytes hcells hslots fun cA kA comp f1 f2 f3 f4 => ?_
  have hcA : cA = cg_dA G x := by
    have := (hR x (by omega) w2).1
    rw [w0] at this
    exact Option.some.inj (f1.symm.trans this)
  subst hcA
  have n1 : cm_nx σ ≠ 0 := by have := hA.2.2.2.1; have := hJ.1; omega
  have k2 := k (H.push { cls := cg_dA G x, slots := Array.replicate n0.toNatClampNeg .null, vm := .none }) ls (cm_newA hA hJ hak hR (by omega) w2 (by rw [w0]; show _ = some (arrV _ _ (fun _ => Value.null)); rw [← arrV_new]; simp; rfl) (by simp) (fun q hq => by rw [Array.getElem?_push, if_neg (Nat.ne_of_lt hq)])) hL
  rw [List.map_cons, cm_tv_ref n1, hJ.new hA] at k2
  exact k2
end
