/-! SOUNDNESS: System.arraycopy, clone of an array, getClass of an Object[] -/
section
variable {p : Program} {l : Launch} {e : Env} {R : Room} {s : State} {m : MethodId} {args : Array Value} {below : List Frame} {meth : Method} {c : Code} {H : Heap} {locs : List Loc} {cells slots : Nat} {Q : State → Prop} {cc : ByteArray} {P : cm_P} {G : cm_G} {N : cm_N} {d : Nat} {calls : Nat → List Value → cm_S → Option cm_O} {mi pc pc2 nL x y z len : Nat} {v : Value} {ls : Array Slot} {L L2 st st2 : List Value} {σ σ2 : cm_S} {own : String}
theorem cm_cpyJ (hA : cm_ad P G) (hJ : cm_J P G s σ H locs) (hak : cg_ak G = cm_ak) {a b t sp dp n : Nat} (hta : cm_tg σ a = t) (htb : cm_tg σ b = t) (ht : 100 < t) (hbK : cm_K P ≤ b) (h4 : sp + n ≤ cm_ln σ a) (h5 : dp + n ≤ cm_ln σ b) {cs cd : Cell} (hcs : H[cg_f G a]? = some cs) (hcd : H[cg_f G b]? = some cd) (htg : cm_tg σ2 = cm_tg σ) (hln : cm_ln σ2 = cm_ln σ) (hnx : cm_nx σ2 = cm_nx σ)
    (hvl : ∀ q, q ≠ b → ∀ j ty, cm_vl (cg_f G) σ2 q j ty = cm_vl (cg_f G) σ q j ty) (hva : ∀ j, cm_vl (cg_f G) σ2 b j (cm_ak t) = if dp ≤ j ∧ j < dp + n then cm_vl (cg_f G) σ a (sp + (j - dp)) (cm_ak t) else cm_vl (cg_f G) σ b j (cm_ak t)) {locs2 : List Loc} (hl : ∀ q ∈ locs2, q.base = cg_f G b) :
    cm_J P G s σ2 (H.setIfInBounds (cg_f G b) (cd.storeRun dp (cs.stretch sp n))) (locs ++ locs2) := by
  obtain ⟨a0, -, cs', a1, a2, a3, a4, a5, a6, a7, a8, a9⟩ := cm_arr_get hJ hak hta ht
  obtain ⟨b0, h110, cd', b1, b2, b3, b4, b5, b6, b7, b8, b9⟩ := cm_arr_get hJ hak htb ht
  cases Option.some.inj (a1.symm.trans hcs)
  cases Option.some.inj (b1.symm.trans hcd)
  have hlb : cg_f G b < H.size := (Array.getElem?_eq_some_iff.mp b1).1
  obtain ⟨f1, f2, f3, -, -⟩ := cd.storeRun_facts dp (cs.stretch sp n)
  have hlen : (cs.stretch sp n).length = n := by simp [Cell.stretch]
  refine cm_J.put (a := b) hA hJ hbK htg hln hnx hvl ⟨_, by simp [Array.getElem?_setIfInBounds, hlb]; rfl, by rw [f2]; exact b2, by rw [f2]; exact b3, fun q => by rw [f2]; exact b4 q, fun q => ?_, fun _ => ?_⟩ (by simp) (fun q hq => by simp [Array.getElem?_setIfInBounds, Ne.symm hq]) ?_
  · exfalso; rw [htg, htb] at q; omega
  · rw [htg, htb]
    refine ⟨⟨ht, h110⟩, ?_, fun q => by rw [f1]; exact b6 q, by rw [hln, f3]; exact b7, fun j hj => ?_, fun j hj => ?_⟩
    · rw [hak]
      obtain ⟨g1, kk, g2, g3⟩ := b5
      exact ⟨by rw [f2]; exact g1, kk, by rw [f1]; exact g2, g3⟩
    · rw [hln] at hj
      rw [hak, hva j, Cell.storeRun_get _ _ _ _ (by rw [hlen, b7]; exact h5), hlen]
      by_cases q : dp ≤ j ∧ j < dp + n
      · rw [if_pos q, if_pos q]
        simp only [Cell.stretch]
        rw [List.getElem?_map, List.getElem?_range (by omega)]
        simp only [Option.map_some]
        rw [Array.getD_eq_getD_getElem?, a8 _ (by omega)]
        rfl
      · rw [if_neg q, if_neg q]
        exact b8 j hj
    · rw [hln] at hj
      rw [hak, hva j]
      by_cases q : dp ≤ j ∧ j < dp + n
      · rw [if_pos q]; exact a9 _ (by omega)
      · rw [if_neg q]; exact b9 j hj
  · intro q hq
    rcases List.mem_append.mp hq with h1 | h1
    · exact Or.inl h1
    · exact Or.inr (hl q h1)
theorem cs_arraycopy (hx : p.tables.exec = Jvm.exec) (hb : c.code = cc) {n : Nat} (hd : decode cc pc = .ok (.invokestatic n, 3)) (hL : cm_LR (cg_f G) nL L ls) (hA : cm_ad P G) (hJ : cm_J P G s σ H locs) (hak : cg_ak G = cm_ak) (hown : s.vm.findClass own = some m.cls) (hts : ∀ w ∈ lw_all, w.before args s = true) (hml : c.maxLocals = nL) (hR : cm_rm R d) (hz : z ≠ 0) (hC : ce_cls G s) (hR2 : ce_arr G s) (hE : ce_asg P G s) (hPk : cm_Pok P)
    (ho : Cond.methodLink own n arraycopyName ∈ lw_all ∧ Cond.native arraycopyName ∈ lw_all ∧ Cond.static arraycopyName ∈ lw_all ∧ Cond.initialized "java/lang/System" ∈ lw_all)
    (h : cm_step P d calls mi pc (.invokestatic n, len, x, y, z, v) L st σ = some (.inl (pc2, L2, st2, σ2))) (k : ∀ H2 locs2 ls2, cm_J P G s σ2 H2 locs2 → cm_LR (cg_f G) nL L2 ls2 → W p l e R s m args below meth c H2 locs2 cells slots Q (F0 m pc2 ls2 (st2.map (cm_tv (cg_f G))))) : W p l e R s m args below meth c H locs cells slots Q (F0 m pc ls (st.map (cm_tv (cg_f G)))) := by
  obtain ⟨hd0, h⟩ := cm_ifn_some h
  have g : (cm_pi st fun n st => cm_pi st fun dp st => cm_pr st fun b st => cm_pi st fun sp st => cm_pr st fun a st => if cm_wd st ≤ 8 then cm_copy P σ a b sp dp n fun σ => cm_go (pc + 3) L st σ else none) = some (.inl (pc2, L2, st2, σ2)) := by
    revert h
    cases z with
    | zero => exact absurd rfl hz
    | succ z => intro h; exact h
  clear h
  obtain ⟨n1, r, rfl, g1⟩ := cm_pi_some g
  clear g
  obtain ⟨dp, r, rfl, g2⟩ := cm_pi_some g1
  clear g1
  obtain ⟨b, r, rfl, g3⟩ := cm_pr_some g2
  clear g2
  obtain ⟨sp, r, rfl, g4⟩ := cm_pi_some g3
  clear g3
  obtain ⟨a, r, rfl, g5⟩ := cm_pr_some g4
  clear g4
  obtain ⟨hw, g⟩ := cm_if_some g5
  clear g5
  unfold cm_copy at g
  obtain ⟨⟨htab, hbK, p1, p2, p3, p4, p5⟩, g⟩ := cm_if_some g
  have ht100 : 100 < cm_tg σ b := by
    by_cases q1 : cm_tg σ b = 102
    · omega
    · rw [if_neg q1] at g
      by_cases q2 : cm_tg σ b = 101 ∨ cm_tg σ b = 103
      · omega
      · rw [if_neg q2] at g
        have := (cm_if_some g).1.1
        omega
  obtain ⟨a0, -, cs, a1, a2, a3, a4, a5, a6, a7, a8, a9⟩ := cm_arr_get hJ hak htab ht100
  obtain ⟨b0, h110, cd, b1, b2, b3, b4, b5, b6, b7, b8, b9⟩ := cm_arr_get hJ hak (rfl : cm_tg σ b = cm_tg σ b) ht100
  have i4 : cm_ix sp + cm_ix n1 ≤ cm_ln σ a := by unfold cm_ix; omega
  have i5 : cm_ix dp + cm_ix n1 ≤ cm_ln σ b := by unfold cm_ix; omega
  obtain ⟨-, k0, hk0, cm0, hkk0⟩ := a5
  obtain ⟨-, k1, hk1, cm1, hkk1⟩ := b5
  rw [List.map_cons, List.map_cons, List.map_cons, List.map_cons, List.map_cons, cm_tv_ref (Nat.pos_iff_ne_zero.mp a0), cm_tv_ref (Nat.pos_iff_ne_zero.mp b0)]
  have hty : ((refKind (cm_ak (cm_tg σ b)) != refKind (cm_ak (cm_tg σ b))) || (!refKind (cm_ak (cm_tg σ b)) && cm_ak (cm_tg σ b) != cm_ak (cm_tg σ b))) = false := by
    unfold cm_ak
    split <;> rfl
  have hgo : ∀ T : State, T.heap = H → (∀ vm', s.vm.Alike vm' → ∀ i, i < n1.toNatClampNeg → fits (cm_ak (cm_tg σ b)) (cs.slots.getD (sp.toNatClampNeg + i) .null) = true ∧ (T.setVm vm').takes cm1 (cs.slots.getD (sp.toNatClampNeg + i) .null)) →
      (∀ locs2 : List Loc, (∀ q ∈ locs2, q.base = cg_f G b) → W p l e R s m args below meth c (H.setIfInBounds (cg_f G b) (cd.storeRun (cm_ix dp) (cs.stretch (cm_ix sp) (cm_ix n1)))) (locs ++ locs2) cells slots Q (F0 m (pc + 3) ls (r.map (cm_tv (cg_f G))))) →
      Stand p l e R s m args below meth c T locs cells slots → ∃ t, Steps p.tables e below (T.setTop (F0 m pc ls (.int n1 :: .int dp :: .ref (cg_f G b) :: .int sp :: .ref (cg_f G a) :: r.map (cm_tv (cg_f G))))) t ∧ Q t := by
    intro T hT hv kk X
    have hroom : 2 * 0 + cm_wd r + (nativeFrameWords "java/lang/System" "arraycopy" 5 + 11) ≤ R.locals := by
      have hw2 : nativeFrameWords "java/lang/System" "arraycopy" 5 ≤ 20 := by decide
      have := hR.2
      omega
    obtain ⟨vm', X', step⟩ := X.arraycopy hx hown (hts _ ho.1) (hts _ ho.2.1) (hts _ ho.2.2.1) (hts _ ho.2.2.2) (src := cg_f G a) (dst := cg_f G b) (cs := cs) (cd := cd) (srcPos := sp) (destPos := dp) (n := n1) (by rw [hT]; exact a1) (by rw [hT]; exact b1)
      (fun _ h => by rw [h] at a2; cases a2) (fun _ h => by rw [h] at b2; cases b2) a3 b3 hk0 hk1 hkk0 hkk1 hty (cm_nonneg p1) (cm_nonneg p2) (cm_nonneg p3) (by rw [a7]; omega) (by rw [b7]; omega) hv
      (g := F0 m pc ls (.int n1 :: .int dp :: .ref (cg_f G b) :: .int sp :: .ref (cg_f G a) :: r.map (cm_tv (cg_f G)))) rfl (by rw [hml]; exact hL.2.1) (rest := r.map (cm_tv (cg_f G))) rfl (by rw [hb]; exact hd) (by have := hR.1; omega) (by show 2 * 0 + _ + _ ≤ _; rw [cm_wd_map]; exact hroom)
    obtain ⟨t, t1, t2⟩ := kk _ (fun q hq => by
      obtain ⟨w, -, rfl⟩ := List.mem_map.mp hq
      rfl) ((T.setVm vm').setCell (cg_f G b) (copied cs cd sp dp n1)) (by rw [← hT]; rfl) X'
    exact ⟨t, step t t1, t2⟩
  have hfitA : ∀ i, i < n1.toNatClampNeg → cs.slots.getD (sp.toNatClampNeg + i) .null = cm_vl (cg_f G) σ a (cm_ix sp + i) (cm_ak (cm_tg σ b)) := by
    intro i hi
    have hi2 : i < cm_ix n1 := hi
    rw [Array.getD_eq_getD_getElem?]
    show (cs.slots[cm_ix sp + i]?).getD _ = _
    rw [a8 _ (by omega)]
    rfl
  intro T hT X
  by_cases q1 : cm_tg σ b = 102
  · rw [if_pos q1] at g
    obtain ⟨rfl, rfl, rfl, rfl⟩ := cm_go_inj g
    refine hgo T hT (fun vm' _ i hi => ?_) (fun locs2 hl => ?_) X
    · rw [hfitA i hi]
      have hi2 : i < cm_ix n1 := hi
      refine ⟨a9 _ (by omega), ?_⟩
      rw [q1]
      exact trivial
    · refine k _ _ ls (cm_cpyJ (σ2 := cm_wL σ b (cm_cpy (cm_L σ a) (cm_L σ b) (cm_ix sp) (cm_ix dp) (cm_ix n1))) hA hJ hak htab rfl ht100 hbK i4 i5 a1 b1 rfl rfl rfl (fun q hq j ty => cm_vl_wL σ b _ _ j ty hq) (fun j => ?_) hl) hL
      rw [q1]
      show Value.long _ = _
      simp only [cm_L, cm_wL, cm_u1, if_true, cm_cpy]
      by_cases qq : cm_ix dp ≤ j ∧ j < cm_ix dp + cm_ix n1
      · rw [if_pos qq, if_pos qq]; rfl
      · rw [if_neg qq, if_neg qq]; rfl
  · rw [if_neg q1] at g
    by_cases q2 : cm_tg σ b = 101 ∨ cm_tg σ b = 103
    · rw [if_pos q2] at g
      obtain ⟨rfl, rfl, rfl, rfl⟩ := cm_go_inj g
      have hv : ∀ (τ : cm_S) (q j : Nat), cm_vl (cg_f G) τ q j (cm_ak (cm_tg σ b)) = .int (cm_I τ q j) := by
        intro τ q j
        rcases q2 with e1 | e1 <;> rw [e1] <;> rfl
      refine hgo T hT (fun vm' _ i hi => ?_) (fun locs2 hl => ?_) X
      · rw [hfitA i hi]
        have hi2 : i < cm_ix n1 := hi
        refine ⟨a9 _ (by omega), ?_⟩
        rw [hv]
        exact trivial
      · refine k _ _ ls (cm_cpyJ (σ2 := cm_wI σ b (cm_cpy (cm_I σ a) (cm_I σ b) (cm_ix sp) (cm_ix dp) (cm_ix n1))) hA hJ hak htab rfl ht100 hbK i4 i5 a1 b1 rfl rfl rfl (fun q hq j ty => cm_vl_wI σ b _ _ j ty hq) (fun j => ?_) hl) hL
        simp only [hv]
        simp only [cm_I, cm_wI, cm_u1, if_true, cm_cpy]
        by_cases qq : cm_ix dp ≤ j ∧ j < cm_ix dp + cm_ix n1
        · rw [if_pos qq, if_pos qq]
        · rw [if_neg qq, if_neg qq]
    · rw [if_neg q2] at g
      obtain ⟨⟨q3, q4⟩, g⟩ := cm_if_some g
      obtain ⟨rfl, rfl, rfl, rfl⟩ := cm_go_inj g
      refine hgo T hT (fun vm' hal i hi => ?_) (fun locs2 hl => ?_) X
      · rw [hfitA i hi]
        have hi2 : i < cm_ix n1 := hi
        refine ⟨a9 _ (by omega), ?_⟩
        rw [cm_vl_ref q3]
        rcases q4 i hi2 with e0 | e0
        · rw [e0, cm_tv_0]; exact trivial
        · obtain ⟨t0, t1⟩ := hPk.1 _ _ e0
          obtain ⟨cell, c1, c2, c3, ⟨kv, c4⟩, c5⟩ := cm_cls hJ hC t0 t1
          rw [cm_tv_ref c5]
          obtain ⟨C2, hC2, has⟩ := hE _ _ e0
          obtain ⟨-, -, hra⟩ := hR2 _ ht100 h110
          rw [hC2] at hra
          obtain ⟨kA, comp, r1, r2, r3, -⟩ := hra
          rw [b6 (Or.inl hbK)] at hk1
          cases hk1.symm.trans r1
          have hcm : cm1 = comp := by
            have h9 := hkk1.symm.trans r2
            simp only [Kind.array.injEq] at h9
            exact h9.1
          subst hcm
          obtain ⟨kE, hkE, -⟩ := Vm.findClass_spec r3
          obtain ⟨kC', hkC', -⟩ := hal.2.2 _ _ c4
          obtain ⟨kE', hkE', -⟩ := hal.2.2 _ _ hkE
          refine ⟨cell, (show T.heap[_]? = some cell by rw [hT]; exact c1), (fun q h => by rw [h] at c2; cases c2), ⟨kC', hkC'⟩, ⟨kE', hkE'⟩, ?_⟩
          show vm'.assignable _ _ = true
          rw [hal.assignable, c3]
          exact has _ r3
      · refine k _ _ ls (cm_cpyJ (σ2 := cm_wR σ b (cm_cpy (cm_R σ a) (cm_R σ b) (cm_ix sp) (cm_ix dp) (cm_ix n1))) hA hJ hak htab rfl ht100 hbK i4 i5 a1 b1 rfl rfl rfl (fun q hq j ty => cm_vl_wR σ b _ _ j ty hq) (fun j => ?_) hl) hL
        simp only [cm_vl_ref q3]
        simp only [cm_R, cm_wR, cm_u1, if_true, cm_cpy]
        by_cases qq : cm_ix dp ≤ j ∧ j < cm_ix dp + cm_ix n1
        · rw [if_pos qq, if_pos qq]
        · rw [if_neg qq, if_neg qq]
theorem cs_getClass (hx : p.tables.exec = Jvm.exec) (hb : c.code = cc) {n : Nat} (hd : decode cc pc = .ok (.invokevirtual n, 3)) (hL : cm_LR (cg_f G) nL L ls) (hJ : cm_J P G s σ H locs) (hak : cg_ak G = cm_ak) (hown : s.vm.findClass own = some m.cls) (hts : ∀ w ∈ lw_all, w.before args s = true) (hml : c.maxLocals = nL) (hR : cm_rm R d) (hz : z = 2) (hR2 : ce_arr G s) (hM : ce_mir G N s)
    (ho : v = .ref N.2.2.2 ∧ N.2.2.2 ≠ 0 ∧ Cond.methodLink own n ⟨"java/lang/Object", "getClass", "()Ljava/lang/Class;"⟩ ∈ lw_all ∧ Cond.selects "[Ljava/lang/Object;" ⟨"java/lang/Object", "getClass", "()Ljava/lang/Class;"⟩ ⟨"java/lang/Object", "getClass", "()Ljava/lang/Class;"⟩ ∈ lw_all ∧ Cond.instanceMethod ⟨"java/lang/Object", "getClass", "()Ljava/lang/Class;"⟩ ∈ lw_all ∧ Cond.native ⟨"java/lang/Object", "getClass", "()Ljava/lang/Class;"⟩ ∈ lw_all)
    (h : cm_step P d calls mi pc (.invokevirtual n, len, x, y, z, v) L st σ = some (.inl (pc2, L2, st2, σ2))) (k : ∀ ls2, cm_LR (cg_f G) nL L2 ls2 → W p l e R s m args below meth c H locs cells slots Q (F0 m pc2 ls2 (st2.map (cm_tv (cg_f G))))) : σ2 = σ ∧ W p l e R s m args below meth c H locs cells slots Q (F0 m pc ls (st.map (cm_tv (cg_f G)))) := by
  subst hz
  obtain ⟨hd0, h⟩ := cm_ifn_some h
  obtain ⟨a, r, rfl, g⟩ := cm_pr_some h
  obtain ⟨⟨hw, hta⟩, g⟩ := cm_if_some g
  obtain ⟨rfl, rfl, rfl, rfl⟩ := cm_go_inj g
  obtain ⟨a0, -, cs, a1, a2, a3, a4, a5, a6, a7, a8, a9⟩ := cm_arr_get hJ hak hta (by decide)
  obtain ⟨rfl, o1, o2, o3, o4, o5⟩ := ho
  have k2 := k ls hL
  rw [List.map_cons, cm_tv_ref o1] at k2
  rw [List.map_cons, cm_tv_ref (Nat.pos_iff_ne_zero.mp a0)]
  have hf := (hR2 105 (by decide) (by decide)).1
  refine ⟨rfl, va_getC hx hb (by rw [hml]; exact hL.2.1.symm) hown (hts _ o2) hM.2 (hts _ o3) (hts _ o4) (hts _ o5) hM.1 ⟨cs, a1, a2, by rw [a6 (Or.inr (by decide))]; exact hf⟩ (by have := hR.1; omega) (by rw [cm_wd_map]; have := hR.2; omega) hd k2⟩
theorem cs_clone (hx : p.tables.exec = Jvm.exec) (hb : c.code = cc) {n : Nat} (hd : decode cc pc = .ok (.invokevirtual n, 3)) (hL : cm_LR (cg_f G) nL L ls) (hA : cm_ad P G) (hJ : cm_J P G s σ H locs) (hak : cg_ak G = cm_ak) (hown : s.vm.findClass own = some m.cls) (hts : ∀ w ∈ lw_all, w.before args s = true) (hml : c.maxLocals = nL) (hR : cm_rm R d) (hz : z ≠ 2 ∧ z ≠ 0) (hR2 : ce_arr G s) (hT : ce_tbl s) {ad : String}
    (ho : "[" ++ (cm_ak x).toString = ad ∧ Cond.methodLink own n ⟨ad, "clone", "()Ljava/lang/Object;"⟩ ∈ lw_all ∧ Cond.sameMethod ad "java/lang/Object" "clone" "()Ljava/lang/Object;" ∈ lw_all ∧ Cond.native ⟨"java/lang/Object", "clone", "()Ljava/lang/Object;"⟩ ∈ lw_all ∧ Cond.instanceMethod ⟨"java/lang/Object", "clone", "()Ljava/lang/Object;"⟩ ∈ lw_all ∧ Cond.selects ad ⟨ad, "clone", "()Ljava/lang/Object;"⟩ ⟨"java/lang/Object", "clone", "()Ljava/lang/Object;"⟩ ∈ lw_all ∧ Cond.castable ad "java/lang/Cloneable" ∈ lw_tbl)
    (hcells : cells + 1 ≤ R.cells) (hslots : slots + (cm_sz σ2 - cm_sz σ) ≤ R.slots)
    (h : cm_step P d calls mi pc (.invokevirtual n, len, x, y, z, v) L st σ = some (.inl (pc2, L2, st2, σ2))) (k : ∀ H2 ls2, cm_J P G s σ2 H2 locs → cm_LR (cg_f G) nL L2 ls2 → W p l e R s m args below meth c H2 locs (cells + 1) (slots + (cm_sz σ2 - cm_sz σ)) Q (F0 m pc2 ls2 (st2.map (cm_tv (cg_f G))))) : W p l e R s m args below meth c H locs cells slots Q (F0 m pc ls (st.map (cm_tv (cg_f G)))) := by
  obtain ⟨hd0, h⟩ := cm_ifn_some h
  have g : (cm_pr st fun a st => if cm_wd st ≤ 8 ∧ cm_tg σ a = x ∧ 100 < x ∧ (cm_K P ≤ a ∨ 104 < x) ∧ cm_ln σ a ≤ 60000000 then cm_go (pc + 3) L (.ref (cm_nx σ) :: st) (cm_cl σ x a) else none) = some (.inl (pc2, L2, st2, σ2)) := by
    revert h
    match z, hz with
    | 0, hz => exact absurd rfl hz.2
    | 2, hz => exact absurd rfl hz.1
    | 1, _ => intro h; exact h
    | z + 3, _ => intro h; exact h
  clear h
  obtain ⟨a, r, rfl, g⟩ := cm_pr_some g
  obtain ⟨⟨hw, hta, hx100, hx104, -⟩, g⟩ := cm_if_some g
  obtain ⟨rfl, rfl, rfl, rfl⟩ := cm_go_inj g
  obtain ⟨a0, h110, cell, a1, a2, a3, a4, a5, a6, a7, a8, a9⟩ := cm_arr_get hJ hak hta (by omega)
  have e9 : cm_sz (cm_cl σ x a) - cm_sz σ = cm_ln σ a := by simp [cm_cl, cm_sz]
  rw [e9] at hslots k
  obtain ⟨rfl, o1, o2, o3, o4, o5, o6⟩ := ho
  obtain ⟨r1, r2, r3⟩ := hR2 x (by omega) h110
  have hcls := a6 hx104
  obtain ⟨c0, t0, f1, f2, f3⟩ := Cond.castable_spec (va_Nw.use (A := args) rfl (hT.1 _ o6 rfl))
  cases r1.symm.trans f1
  rw [List.map_cons, cm_tv_ref (Nat.pos_iff_ne_zero.mp a0)]
  intro T hT X
  have hcellT : T.heap[cg_f G a]? = some cell := by rw [hT]; exact a1
  obtain ⟨-, kA, hkA, comp, hkind⟩ := State.isArrayOf_alike X.warmed.alike a5
  obtain ⟨-, kS, hkS, compS, hkindS⟩ := a5
  obtain ⟨vm', X', st⟩ := X.cloneArray hx hown (hts _ o1) (hts _ o2) (hts _ o3) (hts _ o4) (hts _ o5) (a := cg_f G a) (cell := cell) hcellT (fun q h => by rw [h] at a2; cases a2) a3 (by rw [hcls]; exact r1) f2 (by rw [hcls]; exact f3)
    (fun i w hv => by
      have hi : i < cm_ln σ a := by rw [← a7]; exact (Array.getElem?_eq_some_iff.mp hv).1
      have hw2 := a9 i hi
      rw [← Option.some.inj (hv.symm.trans (a8 i hi))] at hw2
      simpa [State.fitsSlot, State.slotType?, hkA, hkind] using hw2)
    (g := F0 m pc ls (.ref (cg_f G a) :: r.map (cm_tv (cg_f G)))) rfl (by rw [hml]; exact hL.2.1) rfl (by rw [hb]; exact hd) (by have := hR.1; omega) (by show 2 * 0 + _ + 14 ≤ _; rw [cm_wd_map]; have := hR.2; omega) hcells (by rw [a7]; exact hslots) (hloader := Vm.clonesLoader_of_array hkS hkindS)
  rw [a7] at X'
  have n1 : cm_nx σ ≠ 0 := by have := hA.2.2.2.1; have := hJ.1; omega
  have hnw := hJ.new hA
  have k2 := k (H.push { cls := cell.cls, slots := cell.slots }) ls ?_ hL
  · rw [List.map_cons, cm_tv_ref n1, hnw] at k2
    obtain ⟨t, b1, b2⟩ := k2 ((T.setVm vm').pushCell { cls := cell.cls, slots := cell.slots }) (by rw [← hT]; rfl) X'
    refine ⟨t, st t ?_, b2⟩
    rw [hT]
    exact b1
  · have hal : cm_J P G s (cm_al σ x (cm_ln σ a)) (H.push (arrV (cg_dA G x) (cm_ln σ a) (fun _ => defaultValue (cm_ak x)))) locs := cm_newA hA hJ hak hR2 (by omega) h110 (by simp) (by simp) (fun q hq => by rw [Array.getElem?_push, if_neg (Nat.ne_of_lt hq)])
    have hlt : cm_tg (cm_cl σ x a) = cm_tg (cm_al σ x (cm_ln σ a)) := rfl
    have ht : cm_tg (cm_al σ x (cm_ln σ a)) (cm_nx σ) = x := by simp [cm_al, cm_tg, cm_u1]
    have hl : cm_ln (cm_al σ x (cm_ln σ a)) (cm_nx σ) = cm_ln σ a := by simp [cm_al, cm_ln, cm_u1]
    refine cm_J.put (a := cm_nx σ) hA hal hJ.1 rfl rfl rfl (fun b hb j ty => by simp [cm_vl, cm_cl, cm_al, cm_I, cm_L, cm_R, cm_u1, hb]) ⟨_, by rw [hnw]; simp; rfl, rfl, (fun h => by cases h), fun _ => rfl, fun q => ?_, fun _ => ?_⟩ (by simp) (fun q hq => ?_) (fun q hq => Or.inl hq)
    · exfalso; rw [hlt, ht] at q; omega
    · rw [hlt, ht]
      have hvj : ∀ j, cm_vl (cg_f G) (cm_cl σ x a) (cm_nx σ) j (cm_ak x) = cm_vl (cg_f G) σ a j (cm_ak x) := by
        intro j
        simp [cm_vl, cm_cl, cm_I, cm_L, cm_R, cm_u1]
      refine ⟨⟨by omega, h110⟩, ⟨(fun q h => by cases h), kS, hkS, compS, by rw [hak]; exact hkindS⟩, fun _ => hcls, ?_, fun j hj => ?_, fun j hj => ?_⟩
      · show cell.slots.size = _
        rw [a7]; exact hl.symm
      · have hj2 : j < cm_ln σ a := by rw [← hl]; exact hj
        rw [hak, hvj]
        exact a8 j hj2
      · have hj2 : j < cm_ln σ a := by rw [← hl]; exact hj
        rw [hak, hvj]
        exact a9 j hj2
    · rw [hnw] at hq
      rw [Array.getElem?_push, if_neg hq, Array.getElem?_push, if_neg hq]
end
