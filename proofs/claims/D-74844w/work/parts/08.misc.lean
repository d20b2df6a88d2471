/-! SOUNDNESS: casts, constants, comparisons of references, switches, natives -/
section
variable {p : Program} {l : Launch} {e : Env} {R : Room} {s : State} {m : MethodId} {args : Array Value} {below : List Frame} {meth : Method} {c : Code} {H : Heap} {locs : List Loc} {cells slots : Nat} {Q : State → Prop} {cc : ByteArray} {P : cm_P} {G : cm_G} {N : cm_N} {d : Nat} {calls : Nat → List Value → cm_S → Option cm_O} {mi pc pc2 nL x y z len : Nat} {v : Value} {ls : Array Slot} {L L2 st st2 : List Value} {σ σ2 : cm_S} {own : String}
/-- the class of a tagged cell -/
theorem cm_cls (hJ : cm_J P G s σ H locs) (hC : ce_cls G s) {a : Nat} (h0 : cm_tg σ a ≠ 0) (h1 : cm_tg σ a < 100 ∨ 104 < cm_tg σ a) : ∃ cell : Cell, H[cg_f G a]? = some cell ∧ cell.vm.isStatics = false ∧ cell.cls = cm_co G (cm_tg σ a) ∧ (∃ kv, s.vm.classes[cell.cls]? = some kv) ∧ a ≠ 0 := by
  obtain ⟨w0, -, cv, d1, d2, d3, d4, d5, d6⟩ := hJ.2.2.1 a h0
  refine ⟨cv, d1, d2, ?_⟩
  unfold cm_co
  by_cases h100 : cm_tg σ a < 100
  · rw [if_pos h100]
    obtain ⟨f1, rr, f2, -⟩ := d5 h100
    obtain ⟨kC, hkC, -⟩ := Vm.findClass_spec (hC _ _ f2).2.1
    exact ⟨f1, ⟨kC, by rw [f1]; exact hkC⟩, by omega⟩
  · rw [if_neg h100]
    obtain ⟨f0, f1, f2, -⟩ := d6 (by omega)
    obtain ⟨-, kk, hkk, -⟩ := f1
    exact ⟨f2 (Or.inr (by omega)), ⟨kk, hkk⟩, by omega⟩
theorem cs_checkcast (hx : p.tables.exec = Jvm.exec) (hb : c.code = cc) {n : Nat} (hd : decode cc pc = .ok (.checkcast n, 3)) (hL : cm_LR (cg_f G) nL L ls) (hA : cm_ad P G) (hJ : cm_J P G s σ H locs) (hown : s.vm.findClass own = some m.cls) (hts : ∀ w ∈ lw_all, w.before args s = true) (hC : ce_cls G s) (hE : ce_cast P G N s) (hz : cm_Pok P) (ho : Cond.classLink own n (N.2.2.1 x) ∈ lw_all) (h : cm_step P d calls mi pc (.checkcast n, len, x, y, z, v) L st σ = some (.inl (pc2, L2, st2, σ2))) (k : ∀ ls2, cm_LR (cg_f G) nL L2 ls2 → W p l e R s m args below meth c H locs cells slots Q (F0 m pc2 ls2 (st2.map (cm_tv (cg_f G))))) : σ2 = σ ∧ W p l e R s m args below meth c H locs cells slots Q (F0 m pc ls (st.map (cm_tv (cg_f G)))) := by
  obtain ⟨a, r, rfl, g⟩ := cm_pr_some h
  clear h
  obtain ⟨ha, g⟩ := cm_if_some g
  obtain ⟨rfl, rfl, rfl, rfl⟩ := cm_go_inj g
  refine ⟨rfl, ?_⟩
  have k2 := k ls hL
  by_cases h0 : a = 0
  · subst h0
    rw [List.map_cons, cm_tv_0] at k2 ⊢
    exact lv_castN hx hb hd k2
  · have hcl : ∃ cell : Cell, H[cg_f G a]? = some cell ∧ cell.vm.isStatics = false ∧ ∃ cn : ClassId, s.vm.findClass (N.2.2.1 x) = some cn ∧ s.vm.assignable cell.cls cn = true := by
      rcases ha.resolve_left h0 with hc | ⟨⟨t1, t2⟩, hK, hc⟩
      · obtain ⟨t0, t1⟩ := hz.2 _ _ _ hc
        obtain ⟨cell, c1, c2, c3, c4, -⟩ := cm_cls hJ hC t0 t1
        obtain ⟨cn, e1, e2⟩ := hE.1 _ _ _ hc
        exact ⟨cell, c1, c2, cn, e1, by rw [c3]; exact e2⟩
      · obtain ⟨w0, -, cv, d1, d2, d3, d4, d5, d6⟩ := hJ.2.2.1 a (by omega)
        obtain ⟨f0, f1, f2, -⟩ := d6 (by omega)
        obtain ⟨cn, e1, e2⟩ := hE.1 _ _ _ hc
        refine ⟨cv, d1, d2, cn, e1, ?_⟩
        rw [f2 (Or.inl hK), ← hE.2 _ t1 t2]
        unfold cm_co at e2
        rw [if_neg (by omega)] at e2
        exact e2
    obtain ⟨cell, c1, c2, cn, e1, e2⟩ := hcl
    rw [List.map_cons, cm_tv_ref h0] at k2 ⊢
    intro T hT X
    obtain ⟨vm2, X2, st⟩ := X.checkcastYes hx hown (hts _ ho) (by rw [hT]; exact c1) c2 e1 e2 (g := F0 m pc ls (.ref (cg_f G a) :: r.map (cm_tv (cg_f G)))) rfl rfl (by rw [hb]; exact hd)
    obtain ⟨t, a1, b1⟩ := k2 (T.setVm vm2) hT X2
    exact ⟨t, st t a1, b1⟩
theorem cs_instanceof (hx : p.tables.exec = Jvm.exec) (hb : c.code = cc) {n : Nat} (hd : decode cc pc = .ok (.instanceof n, 3)) (hL : cm_LR (cg_f G) nL L ls) (hA : cm_ad P G) (hJ : cm_J P G s σ H locs) (hown : s.vm.findClass own = some m.cls) (hts : ∀ w ∈ lw_all, w.before args s = true) (hC : ce_cls G s) (hE : ce_cast P G N s) (hz : cm_Pok P) (ho : Cond.classLink own n (N.2.2.1 x) ∈ lw_all) (h : cm_step P d calls mi pc (.instanceof n, len, x, y, z, v) L st σ = some (.inl (pc2, L2, st2, σ2))) (k : ∀ ls2, cm_LR (cg_f G) nL L2 ls2 → W p l e R s m args below meth c H locs cells slots Q (F0 m pc2 ls2 (st2.map (cm_tv (cg_f G))))) : σ2 = σ ∧ W p l e R s m args below meth c H locs cells slots Q (F0 m pc ls (st.map (cm_tv (cg_f G)))) := by
  obtain ⟨a, r, rfl, g⟩ := cm_pr_some h
  clear h
  by_cases h0 : a = 0
  · rw [if_pos h0] at g
    subst h0
    obtain ⟨rfl, rfl, rfl, rfl⟩ := cm_go_inj g
    rw [List.map_cons, cm_tv_0]
    exact ⟨rfl, lv_instN hx hb hd (k ls hL)⟩
  · rw [if_neg h0] at g
    cases hc : cm_cast P x (cm_tg σ a) with
    | none => rw [hc] at g; cases g
    | some b =>
      rw [hc] at g
      obtain ⟨t0, t1⟩ := hz.2 _ _ _ hc
      obtain ⟨cell, c1, c2, c3, ⟨kv, c4⟩, -⟩ := cm_cls hJ hC t0 t1
      obtain ⟨cn, e1, e2⟩ := hE.1 _ _ _ hc
      cases b with
      | true =>
        obtain ⟨rfl, rfl, rfl, rfl⟩ := cm_go_inj g
        have k2 := k ls hL
        rw [List.map_cons, cm_tv_ref h0]
        refine ⟨rfl, fun T hT X => ?_⟩
        obtain ⟨vm2, X2, st⟩ := X.instanceofYes hx hown (hts _ ho) (by rw [hT]; exact c1) c2 e1 (by rw [c3]; exact e2) (g := F0 m pc ls (.ref (cg_f G a) :: r.map (cm_tv (cg_f G)))) rfl rfl (by rw [hb]; exact hd)
        obtain ⟨t, a1, b1⟩ := k2 (T.setVm vm2) hT X2
        exact ⟨t, st t a1, b1⟩
      | false =>
        obtain ⟨rfl, rfl, rfl, rfl⟩ := cm_go_inj g
        have k2 := k ls hL
        rw [List.map_cons, cm_tv_ref h0]
        refine ⟨rfl, fun T hT X => ?_⟩
        obtain ⟨vm2, X2, st⟩ := va_instofNo X hx hown (hts _ ho) (by rw [hT]; exact c1) c2 c4 e1 (by rw [c3]; exact e2) (g := F0 m pc ls (.ref (cg_f G a) :: r.map (cm_tv (cg_f G)))) rfl rfl (by rw [hb]; exact hd)
        obtain ⟨t, a1, b1⟩ := k2 (T.setVm vm2) hT X2
        exact ⟨t, st t a1, b1⟩
/-- what a constant is -/
def cm_kok (N : cm_N) (own : String) (n : Nat) (v : Value) : Prop := (∃ w, v = .int w ∧ Cond.constant own n w ∈ lw_all) ∨ (∃ tx id, v = .ref id ∧ id ≠ 0 ∧ (own, n, tx, id) ∈ N.2.1) ∨ (v = .ref N.2.2.2 ∧ N.2.2.2 ≠ 0 ∧ Cond.classLink own n "[Ljava/lang/Object;" ∈ lw_all)
theorem cs_ldc (hx : p.tables.exec = Jvm.exec) (hb : c.code = cc) {n : Nat} (hd : decode cc pc = .ok (.ldc n, 2)) (hL : cm_LR (cg_f G) nL L ls) (hown : s.vm.findClass own = some m.cls) (hts : ∀ w ∈ lw_all, w.before args s = true) (hS : ce_str G N s) (hM : ce_mir G N s) (ho : cm_kok N own n v) (h : cm_step P d calls mi pc (.ldc n, len, x, y, z, v) L st σ = some (.inl (pc2, L2, st2, σ2))) (k : ∀ ls2, cm_LR (cg_f G) nL L2 ls2 → W p l e R s m args below meth c H locs cells slots Q (F0 m pc2 ls2 (st2.map (cm_tv (cg_f G))))) : σ2 = σ ∧ W p l e R s m args below meth c H locs cells slots Q (F0 m pc ls (st.map (cm_tv (cg_f G)))) := by
  obtain ⟨rfl, rfl, rfl, rfl⟩ := cm_go_inj h
  have k2 := k ls hL
  rw [List.map_cons] at k2
  refine ⟨rfl, ?_⟩
  rcases ho with ⟨w, rfl, h1⟩ | ⟨tx, id, rfl, h0, h1⟩ | ⟨rfl, h0, h1⟩
  · exact lv_ldc hx hb hown (hts _ h1) hd k2
  · rw [cm_tv_ref h0] at k2
    exact va_ldcS hx hb hown (hS _ h1) hd k2
  · rw [cm_tv_ref h0] at k2
    exact va_ldcM hx hb hown (hts _ h1) hM.1 hd k2
theorem cs_ldc_w (hx : p.tables.exec = Jvm.exec) (hb : c.code = cc) {n : Nat} (hd : decode cc pc = .ok (.ldc_w n, 3)) (hL : cm_LR (cg_f G) nL L ls) (hown : s.vm.findClass own = some m.cls) (hts : ∀ w ∈ lw_all, w.before args s = true) (ho : ∃ w, v = .int w ∧ Cond.constant own n w ∈ lw_all) (h : cm_step P d calls mi pc (.ldc_w n, len, x, y, z, v) L st σ = some (.inl (pc2, L2, st2, σ2))) (k : ∀ ls2, cm_LR (cg_f G) nL L2 ls2 → W p l e R s m args below meth c H locs cells slots Q (F0 m pc2 ls2 (st2.map (cm_tv (cg_f G))))) : σ2 = σ ∧ W p l e R s m args below meth c H locs cells slots Q (F0 m pc ls (st.map (cm_tv (cg_f G)))) := by
  obtain ⟨rfl, rfl, rfl, rfl⟩ := cm_go_inj h
  obtain ⟨w, rfl, h1⟩ := ho
  exact ⟨rfl, lv_ldcw hx hb hown (hts _ h1) hd (k ls hL)⟩
theorem cs_ldc2_w (hx : p.tables.exec = Jvm.exec) (hb : c.code = cc) {n : Nat} (hd : decode cc pc = .ok (.ldc2_w n, 3)) (hL : cm_LR (cg_f G) nL L ls) (hown : s.vm.findClass own = some m.cls) (hts : ∀ w ∈ lw_all, w.before args s = true) (ho : ∃ w, v = .long w ∧ Cond.constantLong own n w ∈ lw_all) (h : cm_step P d calls mi pc (.ldc2_w n, len, x, y, z, v) L st σ = some (.inl (pc2, L2, st2, σ2))) (k : ∀ ls2, cm_LR (cg_f G) nL L2 ls2 → W p l e R s m args below meth c H locs cells slots Q (F0 m pc2 ls2 (st2.map (cm_tv (cg_f G))))) : σ2 = σ ∧ W p l e R s m args below meth c H locs cells slots Q (F0 m pc ls (st.map (cm_tv (cg_f G)))) := by
  obtain ⟨rfl, rfl, rfl, rfl⟩ := cm_go_inj h
  obtain ⟨w, rfl, h1⟩ := ho
  exact ⟨rfl, lv_ldc2 hx hb hown (hts _ h1) hd (k ls hL)⟩
theorem cs_getstatic (hx : p.tables.exec = Jvm.exec) (hb : c.code = cc) {n : Nat} (hd : decode cc pc = .ok (.getstatic n, 3)) (hL : cm_LR (cg_f G) nL L ls) (hJ : cm_J P G s σ H locs) (hown : s.vm.findClass own = some m.cls) (hts : ∀ w ∈ lw_all, w.before args s = true) (hS : ce_sts G N s s.heap) (hT : ce_tbl s) (hz : z = 0) (ho : ∃ q ∈ N.1, q.2.2.2 = v ∧ (Cond.fieldLink own n q.1 q.2.1 q.2.2.1 ∈ lw_all ∨ ∃ host, Cond.fieldLinkNest own n q.1 q.2.1 q.2.2.1 host ∈ lw_tbl)) (h : cm_step P d calls mi pc (.getstatic n, len, x, y, z, v) L st σ = some (.inl (pc2, L2, st2, σ2))) (k : ∀ ls2, cm_LR (cg_f G) nL L2 ls2 → W p l e R s m args below meth c H locs cells slots Q (F0 m pc2 ls2 (st2.map (cm_tv (cg_f G))))) : σ2 = σ ∧ W p l e R s m args below meth c H locs cells slots Q (F0 m pc ls (st.map (cm_tv (cg_f G)))) := by
  subst hz
  obtain ⟨rfl, rfl, rfl, rfl⟩ := cm_go_inj h
  obtain ⟨q, hq, rfl, hl⟩ := ho
  have k2 := k ls hL
  rw [List.map_cons] at k2
  refine ⟨rfl, ?_⟩
  rcases hl with h1 | ⟨host, h1⟩
  · exact va_gets hx hb (hS q hq) hJ.2.2.2 hown (hts _ h1) (fun _ e => e) hd k2
  · exact va_getsN hx hb (hS q hq) hJ.2.2.2 hown (va_Nw.use rfl (hT.1 _ h1 rfl)) (fun _ e => e) hd k2
theorem cm_ref_eq (hA : cm_ad P G) {a b : Nat} (h : a = b ∨ a = 0 ∨ b = 0 ∨ cm_K P ≤ a ∨ cm_K P ≤ b ∨ (a < cm_KD P ∧ b < cm_KD P)) : ((if a = 0 then none else some (cg_f G a)) = (if b = 0 then none else some (cg_f G b) : Option Nat)) ↔ a = b := by
  constructor
  · intro e
    by_cases ha : a = 0
    · by_cases hb : b = 0
      · omega
      · rw [if_pos ha, if_neg hb] at e; cases e
    · by_cases hb : b = 0
      · rw [if_neg ha, if_pos hb] at e; cases e
      · rw [if_neg ha, if_neg hb] at e
        have e := Option.some.inj e
        rcases h with h | h | h | h | h | h
        · exact h
        · exact absurd h ha
        · exact absurd h hb
        · by_cases q : b = a
          · exact q.symm
          · exact absurd e.symm (hA.ne h q)
        · by_cases q : a = b
          · exact q
          · exact absurd e (hA.ne h q)
        · exact hA.2.2.2.2 a b (Nat.pos_of_ne_zero ha) h.1 (Nat.pos_of_ne_zero hb) h.2 e
  · intro e; rw [e]
theorem cs_if_acmp_eq (hx : p.tables.exec = Jvm.exec) (hb : c.code = cc) {o : Int} (hd : decode cc pc = .ok (.if_acmp .eq o, 3)) (hL : cm_LR (cg_f G) nL L ls) (hA : cm_ad P G) (ht : (pc : Int) + o = (x : Int)) (h : cm_step P d calls mi pc (.if_acmp .eq o, len, x, y, z, v) L st σ = some (.inl (pc2, L2, st2, σ2))) (k : ∀ ls2, cm_LR (cg_f G) nL L2 ls2 → W p l e R s m args below meth c H locs cells slots Q (F0 m pc2 ls2 (st2.map (cm_tv (cg_f G))))) : σ2 = σ ∧ W p l e R s m args below meth c H locs cells slots Q (F0 m pc ls (st.map (cm_tv (cg_f G)))) := by
  obtain ⟨b, r, rfl, g0⟩ := cm_pr_some h
  clear h
  obtain ⟨a, r, rfl, g⟩ := cm_pr_some g0
  clear g0
  obtain ⟨hab, g⟩ := cm_if_some g
  have key := cm_ref_eq hA hab
  change (if decide (a = b) = true then cm_go x L r σ else cm_go (pc + 3) L r σ) = _ at g
  rw [List.map_cons, List.map_cons, cm_tv_rf, cm_tv_rf]
  refine ⟨?_, lv_acmp_eq hx hb hd ht (fun q => ?_) (fun q => ?_)⟩
  · by_cases q : decide (a = b) = true
    · rw [if_pos q] at g; exact (cm_go_inj g).2.2.2
    · rw [if_neg q] at g; exact (cm_go_inj g).2.2.2
  · rw [if_pos (decide_eq_true (key.mp q))] at g
    obtain ⟨rfl, rfl, rfl, rfl⟩ := cm_go_inj g
    exact k ls hL
  · rw [if_neg (fun w => (fun w => q (key.mpr w)) (of_decide_eq_true w))] at g
    obtain ⟨rfl, rfl, rfl, rfl⟩ := cm_go_inj g
    exact k ls hL
theorem cs_if_acmp_ne (hx : p.tables.exec = Jvm.exec) (hb : c.code = cc) {o : Int} (hd : decode cc pc = .ok (.if_acmp .ne o, 3)) (hL : cm_LR (cg_f G) nL L ls) (hA : cm_ad P G) (ht : (pc : Int) + o = (x : Int)) (h : cm_step P d calls mi pc (.if_acmp .ne o, len, x, y, z, v) L st σ = some (.inl (pc2, L2, st2, σ2))) (k : ∀ ls2, cm_LR (cg_f G) nL L2 ls2 → W p l e R s m args below meth c H locs cells slots Q (F0 m pc2 ls2 (st2.map (cm_tv (cg_f G))))) : σ2 = σ ∧ W p l e R s m args below meth c H locs cells slots Q (F0 m pc ls (st.map (cm_tv (cg_f G)))) := by
  obtain ⟨b, r, rfl, g0⟩ := cm_pr_some h
  clear h
  obtain ⟨a, r, rfl, g⟩ := cm_pr_some g0
  clear g0
  obtain ⟨hab, g⟩ := cm_if_some g
  have key := cm_ref_eq hA hab
  change (if decide (¬ a = b) = true then cm_go x L r σ else cm_go (pc + 3) L r σ) = _ at g
  rw [List.map_cons, List.map_cons, cm_tv_rf, cm_tv_rf]
  refine ⟨?_, lv_acmp_ne hx hb hd ht (fun q => ?_) (fun q => ?_)⟩
  · by_cases q : decide (¬ a = b) = true
    · rw [if_pos q] at g; exact (cm_go_inj g).2.2.2
    · rw [if_neg q] at g; exact (cm_go_inj g).2.2.2
  · rw [if_pos (decide_eq_true (show ¬ a = b from fun w => q (key.mpr w)))] at g
    obtain ⟨rfl, rfl, rfl, rfl⟩ := cm_go_inj g
    exact k ls hL
  · rw [if_neg (fun w => (fun w => w (key.mp q)) (of_decide_eq_true w))] at g
    obtain ⟨rfl, rfl, rfl, rfl⟩ := cm_go_inj g
    exact k ls hL
theorem cs_tableswitch (hx : p.tables.exec = Jvm.exec) (hb : c.code = cc) {dflt lo hi : Int} {offs : Array Int} (hd : decode cc pc = .ok (.tableswitch dflt lo hi offs, len)) (hL : cm_LR (cg_f G) nL L ls)  (h : cm_step P d calls mi pc (.tableswitch dflt lo hi offs, len, x, y, z, v) L st σ = some (.inl (pc2, L2, st2, σ2))) (k : ∀ ls2, cm_LR (cg_f G) nL L2 ls2 → W p l e R s m args below meth c H locs cells slots Q (F0 m pc2 ls2 (st2.map (cm_tv (cg_f G))))) : σ2 = σ ∧ W p l e R s m args below meth c H locs cells slots Q (F0 m pc ls (st.map (cm_tv (cg_f G)))) := by
  obtain ⟨w, r, rfl, g⟩ := cm_pi_some h
  clear h
  by_cases h1 : w.toInt < lo ∨ hi < w.toInt
  · rw [if_pos h1] at g
    obtain ⟨h2, g⟩ := cm_if_some g
    obtain ⟨rfl, rfl, rfl, rfl⟩ := cm_go_inj g
    exact ⟨rfl, lv_tableOut hx hb hd h1 (by omega) (k ls hL)⟩
  · rw [if_neg h1] at g
    cases ho : offs[(w.toInt - lo).toNat]? with
    | none => rw [ho] at g; cases g
    | some off =>
      rw [ho] at g
      obtain ⟨h2, g⟩ := cm_if_some g
      obtain ⟨rfl, rfl, rfl, rfl⟩ := cm_go_inj g
      exact ⟨rfl, lv_tableIn hx hb hd (fun q => h1 (Or.inl q)) (fun q => h1 (Or.inr q)) ho (by omega) (k ls hL)⟩
theorem cs_lookupswitch (hx : p.tables.exec = Jvm.exec) (hb : c.code = cc) {dflt : Int} {ps : Array (Int × Int)} (hd : decode cc pc = .ok (.lookupswitch dflt ps, len)) (hL : cm_LR (cg_f G) nL L ls)  (h : cm_step P d calls mi pc (.lookupswitch dflt ps, len, x, y, z, v) L st σ = some (.inl (pc2, L2, st2, σ2))) (k : ∀ ls2, cm_LR (cg_f G) nL L2 ls2 → W p l e R s m args below meth c H locs cells slots Q (F0 m pc2 ls2 (st2.map (cm_tv (cg_f G))))) : σ2 = σ ∧ W p l e R s m args below meth c H locs cells slots Q (F0 m pc ls (st.map (cm_tv (cg_f G)))) := by
  obtain ⟨w, r, rfl, g⟩ := cm_pi_some h
  clear h
  obtain ⟨⟨h1, h2⟩, g⟩ := cm_if_some g
  obtain ⟨rfl, rfl, rfl, rfl⟩ := cm_go_inj g
  exact ⟨rfl, lv_lookup hx hb hd h1 rfl (by omega) (k ls hL)⟩
/-- room for natives and for Object() -/
def cm_rm (R : Room) (d : Nat) : Prop := d ≤ R.frames ∧ 64 * d ≤ R.locals
theorem cs_objinit (hx : p.tables.exec = Jvm.exec) (hb : c.code = cc) {n : Nat} (hd : decode cc pc = .ok (.invokespecial n, 3)) (hL : cm_LR (cg_f G) nL L ls) (hown : s.vm.findClass own = some m.cls) (hts : ∀ w ∈ lw_all, w.before args s = true) (hml : c.maxLocals = nL) (hR : cm_rm R d) (hz : z ≠ 0) (ho : Cond.methodLink own n objectInit ∈ lw_all ∧ Cond.instanceMethod objectInit ∈ lw_all ∧ Cond.code objectInit ⟨#[0xb1]⟩ 1 none ∈ lw_all) (hJ : cm_J P G s σ H locs) (h : cm_step P d calls mi pc (.invokespecial n, len, x, y, z, v) L st σ = some (.inl (pc2, L2, st2, σ2))) (k : ∀ ls2, cm_LR (cg_f G) nL L2 ls2 → W p l e R s m args below meth c H locs cells slots Q (F0 m pc2 ls2 (st2.map (cm_tv (cg_f G))))) : σ2 = σ ∧ W p l e R s m args below meth c H locs cells slots Q (F0 m pc ls (st.map (cm_tv (cg_f G)))) := by
  obtain ⟨hd0, h⟩ := cm_ifn_some h
  have g : (cm_pr st fun a st => if cm_tg σ a ≠ 0 ∧ cm_wd st ≤ 8 then cm_go (pc + 3) L st σ else none) = some (.inl (pc2, L2, st2, σ2)) := by
    revert h
    cases z with
    | zero => exact absurd rfl hz
    | succ z => intro h; exact h
  clear h
  obtain ⟨a, r, rfl, g⟩ := cm_pr_some g
  obtain ⟨⟨ht0, hw⟩, g⟩ := cm_if_some g
  obtain ⟨rfl, rfl, rfl, rfl⟩ := cm_go_inj g
  rw [List.map_cons, cm_tv_ref (Nat.pos_iff_ne_zero.mp (hJ.2.2.1 a ht0).1)]
  refine ⟨rfl, W.objInit hx hb hown (hts _ ho.1) (hts _ ho.2.1) (hts _ ho.2.2) rfl (by rw [hml]; exact hL.2.1) rfl hd (by have := hR.1; omega) ?_ (k ls hL)⟩
  have h2 := hR.2
  show 2 * 0 + _ + 12 ≤ _
  rw [cm_wd_map]
  omega
end
