/-! SOUNDNESS OF SINGLE INSTRUCTIONS: those that touch no heap -/
theorem cm_pi_some {st : List Value} {k : Int32 → List Value → cm_X} {r : cm_F ⊕ cm_O} (h : cm_pi st k = some r) : ∃ x t, st = .int x :: t ∧ k x t = some r := by
  unfold cm_pi at h
  split at h
  · exact ⟨_, _, rfl, h⟩
  · cases h
theorem cm_pl_some {st : List Value} {k : Int64 → List Value → cm_X} {r : cm_F ⊕ cm_O} (h : cm_pl st k = some r) : ∃ x t, st = .long x :: t ∧ k x t = some r := by
  unfold cm_pl at h
  split at h
  · exact ⟨_, _, rfl, h⟩
  · cases h
theorem cm_pr_some {st : List Value} {k : Nat → List Value → cm_X} {r : cm_F ⊕ cm_O} (h : cm_pr st k = some r) : ∃ x t, st = .ref x :: t ∧ k x t = some r := by
  unfold cm_pr at h
  split at h
  · exact ⟨_, _, rfl, h⟩
  · cases h
theorem cm_pa_some {st : List Value} {k : Value → List Value → cm_X} {r : cm_F ⊕ cm_O} (h : cm_pa st k = some r) : ∃ x t, st = x :: t ∧ k x t = some r := by
  unfold cm_pa at h
  split at h
  · exact ⟨_, _, rfl, h⟩
  · cases h
theorem cm_li_some {ls : List Value} {i : Nat} {k : Int32 → cm_X} {r : cm_F ⊕ cm_O} (h : cm_li ls i k = some r) : ∃ x, cm_lv ls i = some (.int x) ∧ k x = some r := by
  unfold cm_li at h
  split at h
  · rename_i x hx
    exact ⟨x, by unfold cm_lv; rw [hx], h⟩
  · cases h
theorem cm_ll_some {ls : List Value} {i : Nat} {k : Int64 → cm_X} {r : cm_F ⊕ cm_O} (h : cm_ll ls i k = some r) : ∃ x, cm_lv ls i = some (.long x) ∧ k x = some r := by
  unfold cm_ll at h
  split at h
  · rename_i x y hx hy
    exact ⟨x, by unfold cm_lv; rw [hx]; dsimp only; rw [hy], h⟩
  · cases h
theorem cm_lr_some {ls : List Value} {i : Nat} {k : Nat → cm_X} {r : cm_F ⊕ cm_O} (h : cm_lr ls i k = some r) : ∃ x, cm_lv ls i = some (.ref x) ∧ k x = some r := by
  unfold cm_lr at h
  split at h
  · rename_i x hx
    exact ⟨x, by unfold cm_lv; rw [hx], h⟩
  · cases h
theorem cm_if_some {c : Prop} [Decidable c] {a : cm_X} {r : cm_F ⊕ cm_O} (h : (if c then a else none) = some r) : c ∧ a = some r := by
  by_cases hc : c
  · rw [if_pos hc] at h; exact ⟨hc, h⟩
  · rw [if_neg hc] at h; cases h
theorem cm_ifn_some {c : Prop} [Decidable c] {a : cm_X} {r : cm_F ⊕ cm_O} (h : (if c then none else a) = some r) : ¬ c ∧ a = some r := by
  by_cases hc : c
  · rw [if_pos hc] at h; cases h
  · rw [if_neg hc] at h; exact ⟨hc, h⟩
theorem cm_go_inj {pc pc' : Nat} {ls ls' st st' : List Value} {σ σ' : cm_S} (h : cm_go pc ls st σ = some (.inl (pc', ls', st', σ'))) : pc' = pc ∧ ls' = ls ∧ st' = st ∧ σ' = σ := by
  unfold cm_go at h
  simp only [Option.some.injEq, Sum.inl.injEq, Prod.mk.injEq] at h
  exact ⟨h.1.symm, h.2.1.symm, h.2.2.1.symm, h.2.2.2.symm⟩
/-- the lengths of the instructions that are walked here -/
def cm_il (i : Instr) : Nat := match i with
  | .bipush _ => 2
  | .sipush _ => 3
  | .ldc _ => 2
  | .ldc_w _ => 3
  | .ldc2_w _ => 3
  | .getstatic _ => 3
  | .iload _ => 2
  | .lload _ => 2
  | .aload _ => 2
  | .istore _ => 2
  | .lstore _ => 2
  | .astore _ => 2
  | .iinc _ _ => 3
  | .goto _ => 3
  | .ifCond _ _ => 3
  | .if_icmp _ _ => 3
  | .ifnull _ => 3
  | .ifnonnull _ => 3
  | .if_acmp _ _ => 3
  | .getfield _ => 3
  | .putfield _ => 3
  | .new _ => 3
  | .newarray _ => 2
  | .anewarray _ => 3
  | .checkcast _ => 3
  | .instanceof _ => 3
  | .invokestatic _ => 3
  | .invokespecial _ => 3
  | .invokevirtual _ => 3
  | .invokeinterface _ _ => 5
  | _ => 1
/-- where a jump goes -/
def cm_jp (i : Instr) : Option Int := match i with
  | .goto o => some o
  | .ifCond _ o => some o
  | .if_icmp _ o => some o
  | .ifnull o => some o
  | .ifnonnull o => some o
  | .if_acmp _ o => some o
  | _ => none
section
variable {p : Program} {l : Launch} {e : Env} {R : Room} {s : State} {m : MethodId} {args : Array Value} {below : List Frame} {meth : Method} {c : Code} {H : Heap} {locs : List Loc} {cells slots : Nat} {Q : State → Prop} {cc : ByteArray} {P : cm_P} {f : Nat → Nat} {d : Nat} {calls : Nat → List Value → cm_S → Option cm_O} {mi pc pc2 nL x y z len : Nat} {v : Value} {ls : Array Slot} {L L2 st st2 : List Value} {σ σ2 : cm_S}
theorem cs_iconst (hx : p.tables.exec = Jvm.exec) (hb : c.code = cc) {n : Int} (hd : decode cc pc = .ok (.iconst n, 1)) (hL : cm_LR f nL L ls) (h : cm_step P d calls mi pc (.iconst n, len, x, y, z, v) L st σ = some (.inl (pc2, L2, st2, σ2))) (k : ∀ ls2, cm_LR f nL L2 ls2 → W p l e R s m args below meth c H locs cells slots Q (F0 m pc2 ls2 (st2.map (cm_tv f)))) : σ2 = σ ∧ W p l e R s m args below meth c H locs cells slots Q (F0 m pc ls (st.map (cm_tv f))) := by
  obtain ⟨rfl, rfl, rfl, rfl⟩ := cm_go_inj h
  exact ⟨rfl, lv_iconst hx hb hd rfl (k ls hL)⟩
theorem cs_bipush (hx : p.tables.exec = Jvm.exec) (hb : c.code = cc) {n : Int} (hd : decode cc pc = .ok (.bipush n, 2)) (hL : cm_LR f nL L ls) (h : cm_step P d calls mi pc (.bipush n, len, x, y, z, v) L st σ = some (.inl (pc2, L2, st2, σ2))) (k : ∀ ls2, cm_LR f nL L2 ls2 → W p l e R s m args below meth c H locs cells slots Q (F0 m pc2 ls2 (st2.map (cm_tv f)))) : σ2 = σ ∧ W p l e R s m args below meth c H locs cells slots Q (F0 m pc ls (st.map (cm_tv f))) := by
  obtain ⟨rfl, rfl, rfl, rfl⟩ := cm_go_inj h
  exact ⟨rfl, lv_bipush hx hb hd rfl (k ls hL)⟩
theorem cs_sipush (hx : p.tables.exec = Jvm.exec) (hb : c.code = cc) {n : Int} (hd : decode cc pc = .ok (.sipush n, 3)) (hL : cm_LR f nL L ls) (h : cm_step P d calls mi pc (.sipush n, len, x, y, z, v) L st σ = some (.inl (pc2, L2, st2, σ2))) (k : ∀ ls2, cm_LR f nL L2 ls2 → W p l e R s m args below meth c H locs cells slots Q (F0 m pc2 ls2 (st2.map (cm_tv f)))) : σ2 = σ ∧ W p l e R s m args below meth c H locs cells slots Q (F0 m pc ls (st.map (cm_tv f))) := by
  obtain ⟨rfl, rfl, rfl, rfl⟩ := cm_go_inj h
  exact ⟨rfl, lv_sipush hx hb hd rfl (k ls hL)⟩
theorem cs_lconst (hx : p.tables.exec = Jvm.exec) (hb : c.code = cc) {n : Fin 2} (hd : decode cc pc = .ok (.lconst n, 1)) (hL : cm_LR f nL L ls) (h : cm_step P d calls mi pc (.lconst n, len, x, y, z, v) L st σ = some (.inl (pc2, L2, st2, σ2))) (k : ∀ ls2, cm_LR f nL L2 ls2 → W p l e R s m args below meth c H locs cells slots Q (F0 m pc2 ls2 (st2.map (cm_tv f)))) : σ2 = σ ∧ W p l e R s m args below meth c H locs cells slots Q (F0 m pc ls (st.map (cm_tv f))) := by
  obtain ⟨rfl, rfl, rfl, rfl⟩ := cm_go_inj h
  exact ⟨rfl, lv_lconst hx hb hd rfl (k ls hL)⟩
theorem cs_aconst_null (hx : p.tables.exec = Jvm.exec) (hb : c.code = cc)  (hd : decode cc pc = .ok (.aconst_null, 1)) (hL : cm_LR f nL L ls) (h : cm_step P d calls mi pc (.aconst_null, len, x, y, z, v) L st σ = some (.inl (pc2, L2, st2, σ2))) (k : ∀ ls2, cm_LR f nL L2 ls2 → W p l e R s m args below meth c H locs cells slots Q (F0 m pc2 ls2 (st2.map (cm_tv f)))) : σ2 = σ ∧ W p l e R s m args below meth c H locs cells slots Q (F0 m pc ls (st.map (cm_tv f))) := by
  obtain ⟨rfl, rfl, rfl, rfl⟩ := cm_go_inj h
  exact ⟨rfl, lv_null hx hb hd (k ls hL)⟩
theorem cs_iload_n (hx : p.tables.exec = Jvm.exec) (hb : c.code = cc) {n : Fin 4} (hd : decode cc pc = .ok (.iload_n n, 1)) (hL : cm_LR f nL L ls) (h : cm_step P d calls mi pc (.iload_n n, len, x, y, z, v) L st σ = some (.inl (pc2, L2, st2, σ2))) (k : ∀ ls2, cm_LR f nL L2 ls2 → W p l e R s m args below meth c H locs cells slots Q (F0 m pc2 ls2 (st2.map (cm_tv f)))) : σ2 = σ ∧ W p l e R s m args below meth c H locs cells slots Q (F0 m pc ls (st.map (cm_tv f))) := by
  obtain ⟨w, h1, h⟩ := cm_li_some h
  obtain ⟨rfl, rfl, rfl, rfl⟩ := cm_go_inj h
  exact ⟨rfl, lv_iload_n hx hb hd rfl (hL.at h1) (k ls hL)⟩
theorem cs_iload (hx : p.tables.exec = Jvm.exec) (hb : c.code = cc) {n : Nat} (hd : decode cc pc = .ok (.iload n, 2)) (hL : cm_LR f nL L ls) (h : cm_step P d calls mi pc (.iload n, len, x, y, z, v) L st σ = some (.inl (pc2, L2, st2, σ2))) (k : ∀ ls2, cm_LR f nL L2 ls2 → W p l e R s m args below meth c H locs cells slots Q (F0 m pc2 ls2 (st2.map (cm_tv f)))) : σ2 = σ ∧ W p l e R s m args below meth c H locs cells slots Q (F0 m pc ls (st.map (cm_tv f))) := by
  obtain ⟨w, h1, h⟩ := cm_li_some h
  obtain ⟨rfl, rfl, rfl, rfl⟩ := cm_go_inj h
  exact ⟨rfl, lv_iload hx hb hd (hL.at h1) (k ls hL)⟩
theorem cs_lload_n (hx : p.tables.exec = Jvm.exec) (hb : c.code = cc) {n : Fin 4} (hd : decode cc pc = .ok (.lload_n n, 1)) (hL : cm_LR f nL L ls) (h : cm_step P d calls mi pc (.lload_n n, len, x, y, z, v) L st σ = some (.inl (pc2, L2, st2, σ2))) (k : ∀ ls2, cm_LR f nL L2 ls2 → W p l e R s m args below meth c H locs cells slots Q (F0 m pc2 ls2 (st2.map (cm_tv f)))) : σ2 = σ ∧ W p l e R s m args below meth c H locs cells slots Q (F0 m pc ls (st.map (cm_tv f))) := by
  obtain ⟨w, h1, h⟩ := cm_ll_some h
  obtain ⟨rfl, rfl, rfl, rfl⟩ := cm_go_inj h
  exact ⟨rfl, lv_lload_n hx hb hd rfl (hL.at h1) (k ls hL)⟩
theorem cs_lload (hx : p.tables.exec = Jvm.exec) (hb : c.code = cc) {n : Nat} (hd : decode cc pc = .ok (.lload n, 2)) (hL : cm_LR f nL L ls) (h : cm_step P d calls mi pc (.lload n, len, x, y, z, v) L st σ = some (.inl (pc2, L2, st2, σ2))) (k : ∀ ls2, cm_LR f nL L2 ls2 → W p l e R s m args below meth c H locs cells slots Q (F0 m pc2 ls2 (st2.map (cm_tv f)))) : σ2 = σ ∧ W p l e R s m args below meth c H locs cells slots Q (F0 m pc ls (st.map (cm_tv f))) := by
  obtain ⟨w, h1, h⟩ := cm_ll_some h
  obtain ⟨rfl, rfl, rfl, rfl⟩ := cm_go_inj h
  exact ⟨rfl, lv_lload hx hb hd (hL.at h1) (k ls hL)⟩
theorem cs_aload_n (hx : p.tables.exec = Jvm.exec) (hb : c.code = cc) {n : Fin 4} (hd : decode cc pc = .ok (.aload_n n, 1)) (hL : cm_LR f nL L ls) (h : cm_step P d calls mi pc (.aload_n n, len, x, y, z, v) L st σ = some (.inl (pc2, L2, st2, σ2))) (k : ∀ ls2, cm_LR f nL L2 ls2 → W p l e R s m args below meth c H locs cells slots Q (F0 m pc2 ls2 (st2.map (cm_tv f)))) : σ2 = σ ∧ W p l e R s m args below meth c H locs cells slots Q (F0 m pc ls (st.map (cm_tv f))) := by
  obtain ⟨w, h1, h⟩ := cm_lr_some h
  obtain ⟨rfl, rfl, rfl, rfl⟩ := cm_go_inj h
  have h2 := hL.at h1
  have k2 := k ls hL
  refine ⟨rfl, ?_⟩
  by_cases hw : w = 0
  · subst hw
    rw [cm_tv_0] at h2
    rw [List.map_cons, cm_tv_0] at k2
    exact lv_aload_nN hx hb hd rfl h2 k2
  · rw [cm_tv_ref hw] at h2
    rw [List.map_cons, cm_tv_ref hw] at k2
    exact lv_aload_n hx hb hd rfl h2 k2
theorem cs_aload (hx : p.tables.exec = Jvm.exec) (hb : c.code = cc) {n : Nat} (hd : decode cc pc = .ok (.aload n, 2)) (hL : cm_LR f nL L ls) (h : cm_step P d calls mi pc (.aload n, len, x, y, z, v) L st σ = some (.inl (pc2, L2, st2, σ2))) (k : ∀ ls2, cm_LR f nL L2 ls2 → W p l e R s m args below meth c H locs cells slots Q (F0 m pc2 ls2 (st2.map (cm_tv f)))) : σ2 = σ ∧ W p l e R s m args below meth c H locs cells slots Q (F0 m pc ls (st.map (cm_tv f))) := by
  obtain ⟨w, h1, h⟩ := cm_lr_some h
  obtain ⟨rfl, rfl, rfl, rfl⟩ := cm_go_inj h
  have h2 := hL.at h1
  have k2 := k ls hL
  refine ⟨rfl, ?_⟩
  by_cases hw : w = 0
  · subst hw
    rw [cm_tv_0] at h2
    rw [List.map_cons, cm_tv_0] at k2
    exact lv_aloadN hx hb hd h2 k2
  · rw [cm_tv_ref hw] at h2
    rw [List.map_cons, cm_tv_ref hw] at k2
    exact lv_aload hx hb hd h2 k2
theorem cs_istore_n (hx : p.tables.exec = Jvm.exec) (hb : c.code = cc) {n : Fin 4} (hd : decode cc pc = .ok (.istore_n n, 1)) (hL : cm_LR f nL L ls) (h : cm_step P d calls mi pc (.istore_n n, len, x, y, z, v) L st σ = some (.inl (pc2, L2, st2, σ2))) (k : ∀ ls2, cm_LR f nL L2 ls2 → W p l e R s m args below meth c H locs cells slots Q (F0 m pc2 ls2 (st2.map (cm_tv f)))) : σ2 = σ ∧ W p l e R s m args below meth c H locs cells slots Q (F0 m pc ls (st.map (cm_tv f))) := by
  obtain ⟨w, r, rfl, h⟩ := cm_pi_some h
  obtain ⟨hn, h⟩ := cm_if_some h
  obtain ⟨rfl, rfl, rfl, rfl⟩ := cm_go_inj h
  refine ⟨rfl, lv_istore_n hx hb hd rfl hL.2 (by rw [← hL.1]; exact hn) rfl fun ls2 h2 => k ls2 ⟨by simp [cm_set, hL.1], cm_has_sub h2 (cm_lv_set (Or.inl ⟨w, rfl⟩))⟩⟩
theorem cs_istore (hx : p.tables.exec = Jvm.exec) (hb : c.code = cc) {n : Nat} (hd : decode cc pc = .ok (.istore n, 2)) (hL : cm_LR f nL L ls) (h : cm_step P d calls mi pc (.istore n, len, x, y, z, v) L st σ = some (.inl (pc2, L2, st2, σ2))) (k : ∀ ls2, cm_LR f nL L2 ls2 → W p l e R s m args below meth c H locs cells slots Q (F0 m pc2 ls2 (st2.map (cm_tv f)))) : σ2 = σ ∧ W p l e R s m args below meth c H locs cells slots Q (F0 m pc ls (st.map (cm_tv f))) := by
  obtain ⟨w, r, rfl, h⟩ := cm_pi_some h
  obtain ⟨hn, h⟩ := cm_if_some h
  obtain ⟨rfl, rfl, rfl, rfl⟩ := cm_go_inj h
  refine ⟨rfl, lv_istore hx hb hd hL.2 (by rw [← hL.1]; exact hn) rfl fun ls2 h2 => k ls2 ⟨by simp [cm_set, hL.1], cm_has_sub h2 (cm_lv_set (Or.inl ⟨w, rfl⟩))⟩⟩
theorem cs_lstore_n (hx : p.tables.exec = Jvm.exec) (hb : c.code = cc) {n : Fin 4} (hd : decode cc pc = .ok (.lstore_n n, 1)) (hL : cm_LR f nL L ls) (h : cm_step P d calls mi pc (.lstore_n n, len, x, y, z, v) L st σ = some (.inl (pc2, L2, st2, σ2))) (k : ∀ ls2, cm_LR f nL L2 ls2 → W p l e R s m args below meth c H locs cells slots Q (F0 m pc2 ls2 (st2.map (cm_tv f)))) : σ2 = σ ∧ W p l e R s m args below meth c H locs cells slots Q (F0 m pc ls (st.map (cm_tv f))) := by
  obtain ⟨w, r, rfl, h⟩ := cm_pl_some h
  obtain ⟨hn, h⟩ := cm_if_some h
  obtain ⟨rfl, rfl, rfl, rfl⟩ := cm_go_inj h
  refine ⟨rfl, lv_lstore_n hx hb hd rfl hL.2 (by rw [← hL.1]; exact hn) rfl fun ls2 h2 => k ls2 ⟨by simp [cm_set2, hL.1], cm_has_sub h2 cm_lv_set2⟩⟩
theorem cs_lstore (hx : p.tables.exec = Jvm.exec) (hb : c.code = cc) {n : Nat} (hd : decode cc pc = .ok (.lstore n, 2)) (hL : cm_LR f nL L ls) (h : cm_step P d calls mi pc (.lstore n, len, x, y, z, v) L st σ = some (.inl (pc2, L2, st2, σ2))) (k : ∀ ls2, cm_LR f nL L2 ls2 → W p l e R s m args below meth c H locs cells slots Q (F0 m pc2 ls2 (st2.map (cm_tv f)))) : σ2 = σ ∧ W p l e R s m args below meth c H locs cells slots Q (F0 m pc ls (st.map (cm_tv f))) := by
  obtain ⟨w, r, rfl, h⟩ := cm_pl_some h
  obtain ⟨hn, h⟩ := cm_if_some h
  obtain ⟨rfl, rfl, rfl, rfl⟩ := cm_go_inj h
  refine ⟨rfl, lv_lstore hx hb hd hL.2 (by rw [← hL.1]; exact hn) rfl fun ls2 h2 => k ls2 ⟨by simp [cm_set2, hL.1], cm_has_sub h2 cm_lv_set2⟩⟩
theorem cs_astore_n (hx : p.tables.exec = Jvm.exec) (hb : c.code = cc) {n : Fin 4} (hd : decode cc pc = .ok (.astore_n n, 1)) (hL : cm_LR f nL L ls) (h : cm_step P d calls mi pc (.astore_n n, len, x, y, z, v) L st σ = some (.inl (pc2, L2, st2, σ2))) (k : ∀ ls2, cm_LR f nL L2 ls2 → W p l e R s m args below meth c H locs cells slots Q (F0 m pc2 ls2 (st2.map (cm_tv f)))) : σ2 = σ ∧ W p l e R s m args below meth c H locs cells slots Q (F0 m pc ls (st.map (cm_tv f))) := by
  obtain ⟨w, r, rfl, h⟩ := cm_pr_some h
  obtain ⟨hn, h⟩ := cm_if_some h
  obtain ⟨rfl, rfl, rfl, rfl⟩ := cm_go_inj h
  refine ⟨rfl, ?_⟩
  have hs := cm_lv_set (f := f) (L := L) (i := n.val) (v := .ref w) (Or.inr ⟨w, rfl⟩)
  rw [List.map_cons]
  by_cases hw : w = 0
  · subst hw
    rw [cm_tv_0] at hs ⊢
    exact lv_astore_nN hx hb hd rfl hL.2 (by rw [← hL.1]; exact hn) rfl fun ls2 h2 => k ls2 ⟨by simp [cm_set, hL.1], cm_has_sub h2 hs⟩
  · rw [cm_tv_ref hw] at hs ⊢
    exact lv_astore_n hx hb hd rfl hL.2 (by rw [← hL.1]; exact hn) rfl fun ls2 h2 => k ls2 ⟨by simp [cm_set, hL.1], cm_has_sub h2 hs⟩
theorem cs_astore (hx : p.tables.exec = Jvm.exec) (hb : c.code = cc) {n : Nat} (hd : decode cc pc = .ok (.astore n, 2)) (hL : cm_LR f nL L ls) (h : cm_step P d calls mi pc (.astore n, len, x, y, z, v) L st σ = some (.inl (pc2, L2, st2, σ2))) (k : ∀ ls2, cm_LR f nL L2 ls2 → W p l e R s m args below meth c H locs cells slots Q (F0 m pc2 ls2 (st2.map (cm_tv f)))) : σ2 = σ ∧ W p l e R s m args below meth c H locs cells slots Q (F0 m pc ls (st.map (cm_tv f))) := by
  obtain ⟨w, r, rfl, h⟩ := cm_pr_some h
  obtain ⟨hn, h⟩ := cm_if_some h
  obtain ⟨rfl, rfl, rfl, rfl⟩ := cm_go_inj h
  refine ⟨rfl, ?_⟩
  have hs := cm_lv_set (f := f) (L := L) (i := n) (v := .ref w) (Or.inr ⟨w, rfl⟩)
  rw [List.map_cons]
  by_cases hw : w = 0
  · subst hw
    rw [cm_tv_0] at hs ⊢
    exact lv_astoreN hx hb hd hL.2 (by rw [← hL.1]; exact hn) rfl fun ls2 h2 => k ls2 ⟨by simp [cm_set, hL.1], cm_has_sub h2 hs⟩
  · rw [cm_tv_ref hw] at hs ⊢
    exact lv_astore hx hb hd hL.2 (by rw [← hL.1]; exact hn) rfl fun ls2 h2 => k ls2 ⟨by simp [cm_set, hL.1], cm_has_sub h2 hs⟩
theorem cs_iinc (hx : p.tables.exec = Jvm.exec) (hb : c.code = cc) {n : Nat} {q : Int} (hd : decode cc pc = .ok (.iinc n q, len)) (hL : cm_LR f nL L ls) (hlen : len = 3 ∨ len = 6) (h : cm_step P d calls mi pc (.iinc n q, len, x, y, z, v) L st σ = some (.inl (pc2, L2, st2, σ2))) (k : ∀ ls2, cm_LR f nL L2 ls2 → W p l e R s m args below meth c H locs cells slots Q (F0 m pc2 ls2 (st2.map (cm_tv f)))) : σ2 = σ ∧ W p l e R s m args below meth c H locs cells slots Q (F0 m pc ls (st.map (cm_tv f))) := by
  obtain ⟨w, h1, h⟩ := cm_li_some h
  obtain ⟨rfl, rfl, rfl, rfl⟩ := cm_go_inj h
  have hm : (n, Value.int w) ∈ cm_prs f L := cm_prs_mem.mpr ⟨.int w, h1, rfl⟩
  obtain ⟨kk, hkk⟩ := List.getElem?_of_mem hm
  have hn : n < L.length := by
    unfold cm_lv at h1
    cases h0 : L[n]? with
    | none => rw [h0] at h1; cases h1
    | some w0 => exact (List.getElem?_eq_some_iff.mp h0).1
  refine ⟨rfl, ?_⟩
  rcases hlen with rfl | rfl
  · exact lv_iinc hx hb hd hL.2 hkk rfl (by rw [← hL.1]; exact hn) rfl fun ls2 h2 => k ls2 ⟨by simp [cm_set, hL.1], cm_has_sub h2 (cm_lv_set (Or.inl ⟨_, rfl⟩))⟩
  · exact lv_iincW hx hb hd hL.2 hkk rfl (by rw [← hL.1]; exact hn) rfl fun ls2 h2 => k ls2 ⟨by simp [cm_set, hL.1], cm_has_sub h2 (cm_lv_set (Or.inl ⟨_, rfl⟩))⟩
theorem cs_iadd (hx : p.tables.exec = Jvm.exec) (hb : c.code = cc)  (hd : decode cc pc = .ok (.iadd, 1)) (hL : cm_LR f nL L ls) (h : cm_step P d calls mi pc (.iadd, len, x, y, z, v) L st σ = some (.inl (pc2, L2, st2, σ2))) (k : ∀ ls2, cm_LR f nL L2 ls2 → W p l e R s m args below meth c H locs cells slots Q (F0 m pc2 ls2 (st2.map (cm_tv f)))) : σ2 = σ ∧ W p l e R s m args below meth c H locs cells slots Q (F0 m pc ls (st.map (cm_tv f))) := by
  obtain ⟨w2, r, rfl, h⟩ := cm_pi_some h
  obtain ⟨w1, r, rfl, h⟩ := cm_pi_some h
  obtain ⟨rfl, rfl, rfl, rfl⟩ := cm_go_inj h
  exact ⟨rfl, lv_iadd hx hb hd (k ls hL)⟩
theorem cs_isub (hx : p.tables.exec = Jvm.exec) (hb : c.code = cc)  (hd : decode cc pc = .ok (.isub, 1)) (hL : cm_LR f nL L ls) (h : cm_step P d calls mi pc (.isub, len, x, y, z, v) L st σ = some (.inl (pc2, L2, st2, σ2))) (k : ∀ ls2, cm_LR f nL L2 ls2 → W p l e R s m args below meth c H locs cells slots Q (F0 m pc2 ls2 (st2.map (cm_tv f)))) : σ2 = σ ∧ W p l e R s m args below meth c H locs cells slots Q (F0 m pc ls (st.map (cm_tv f))) := by
  obtain ⟨w2, r, rfl, h⟩ := cm_pi_some h
  obtain ⟨w1, r, rfl, h⟩ := cm_pi_some h
  obtain ⟨rfl, rfl, rfl, rfl⟩ := cm_go_inj h
  exact ⟨rfl, lv_isub hx hb hd (k ls hL)⟩
theorem cs_imul (hx : p.tables.exec = Jvm.exec) (hb : c.code = cc)  (hd : decode cc pc = .ok (.imul, 1)) (hL : cm_LR f nL L ls) (h : cm_step P d calls mi pc (.imul, len, x, y, z, v) L st σ = some (.inl (pc2, L2, st2, σ2))) (k : ∀ ls2, cm_LR f nL L2 ls2 → W p l e R s m args below meth c H locs cells slots Q (F0 m pc2 ls2 (st2.map (cm_tv f)))) : σ2 = σ ∧ W p l e R s m args below meth c H locs cells slots Q (F0 m pc ls (st.map (cm_tv f))) := by
  obtain ⟨w2, r, rfl, h⟩ := cm_pi_some h
  obtain ⟨w1, r, rfl, h⟩ := cm_pi_some h
  obtain ⟨rfl, rfl, rfl, rfl⟩ := cm_go_inj h
  exact ⟨rfl, lv_imul hx hb hd (k ls hL)⟩
theorem cs_iand (hx : p.tables.exec = Jvm.exec) (hb : c.code = cc)  (hd : decode cc pc = .ok (.iand, 1)) (hL : cm_LR f nL L ls) (h : cm_step P d calls mi pc (.iand, len, x, y, z, v) L st σ = some (.inl (pc2, L2, st2, σ2))) (k : ∀ ls2, cm_LR f nL L2 ls2 → W p l e R s m args below meth c H locs cells slots Q (F0 m pc2 ls2 (st2.map (cm_tv f)))) : σ2 = σ ∧ W p l e R s m args below meth c H locs cells slots Q (F0 m pc ls (st.map (cm_tv f))) := by
  obtain ⟨w2, r, rfl, h⟩ := cm_pi_some h
  obtain ⟨w1, r, rfl, h⟩ := cm_pi_some h
  obtain ⟨rfl, rfl, rfl, rfl⟩ := cm_go_inj h
  exact ⟨rfl, lv_iand hx hb hd (k ls hL)⟩
theorem cs_ior (hx : p.tables.exec = Jvm.exec) (hb : c.code = cc)  (hd : decode cc pc = .ok (.ior, 1)) (hL : cm_LR f nL L ls) (h : cm_step P d calls mi pc (.ior, len, x, y, z, v) L st σ = some (.inl (pc2, L2, st2, σ2))) (k : ∀ ls2, cm_LR f nL L2 ls2 → W p l e R s m args below meth c H locs cells slots Q (F0 m pc2 ls2 (st2.map (cm_tv f)))) : σ2 = σ ∧ W p l e R s m args below meth c H locs cells slots Q (F0 m pc ls (st.map (cm_tv f))) := by
  obtain ⟨w2, r, rfl, h⟩ := cm_pi_some h
  obtain ⟨w1, r, rfl, h⟩ := cm_pi_some h
  obtain ⟨rfl, rfl, rfl, rfl⟩ := cm_go_inj h
  exact ⟨rfl, lv_ior hx hb hd (k ls hL)⟩
theorem cs_ixor (hx : p.tables.exec = Jvm.exec) (hb : c.code = cc)  (hd : decode cc pc = .ok (.ixor, 1)) (hL : cm_LR f nL L ls) (h : cm_step P d calls mi pc (.ixor, len, x, y, z, v) L st σ = some (.inl (pc2, L2, st2, σ2))) (k : ∀ ls2, cm_LR f nL L2 ls2 → W p l e R s m args below meth c H locs cells slots Q (F0 m pc2 ls2 (st2.map (cm_tv f)))) : σ2 = σ ∧ W p l e R s m args below meth c H locs cells slots Q (F0 m pc ls (st.map (cm_tv f))) := by
  obtain ⟨w2, r, rfl, h⟩ := cm_pi_some h
  obtain ⟨w1, r, rfl, h⟩ := cm_pi_some h
  obtain ⟨rfl, rfl, rfl, rfl⟩ := cm_go_inj h
  exact ⟨rfl, lv_ixor hx hb hd (k ls hL)⟩
theorem cs_ishl (hx : p.tables.exec = Jvm.exec) (hb : c.code = cc)  (hd : decode cc pc = .ok (.ishl, 1)) (hL : cm_LR f nL L ls) (h : cm_step P d calls mi pc (.ishl, len, x, y, z, v) L st σ = some (.inl (pc2, L2, st2, σ2))) (k : ∀ ls2, cm_LR f nL L2 ls2 → W p l e R s m args below meth c H locs cells slots Q (F0 m pc2 ls2 (st2.map (cm_tv f)))) : σ2 = σ ∧ W p l e R s m args below meth c H locs cells slots Q (F0 m pc ls (st.map (cm_tv f))) := by
  obtain ⟨w2, r, rfl, h⟩ := cm_pi_some h
  obtain ⟨w1, r, rfl, h⟩ := cm_pi_some h
  obtain ⟨rfl, rfl, rfl, rfl⟩ := cm_go_inj h
  exact ⟨rfl, lv_ishl hx hb hd (k ls hL)⟩
theorem cs_ishr (hx : p.tables.exec = Jvm.exec) (hb : c.code = cc)  (hd : decode cc pc = .ok (.ishr, 1)) (hL : cm_LR f nL L ls) (h : cm_step P d calls mi pc (.ishr, len, x, y, z, v) L st σ = some (.inl (pc2, L2, st2, σ2))) (k : ∀ ls2, cm_LR f nL L2 ls2 → W p l e R s m args below meth c H locs cells slots Q (F0 m pc2 ls2 (st2.map (cm_tv f)))) : σ2 = σ ∧ W p l e R s m args below meth c H locs cells slots Q (F0 m pc ls (st.map (cm_tv f))) := by
  obtain ⟨w2, r, rfl, h⟩ := cm_pi_some h
  obtain ⟨w1, r, rfl, h⟩ := cm_pi_some h
  obtain ⟨rfl, rfl, rfl, rfl⟩ := cm_go_inj h
  exact ⟨rfl, lv_ishr hx hb hd (k ls hL)⟩
theorem cs_iushr (hx : p.tables.exec = Jvm.exec) (hb : c.code = cc)  (hd : decode cc pc = .ok (.iushr, 1)) (hL : cm_LR f nL L ls) (h : cm_step P d calls mi pc (.iushr, len, x, y, z, v) L st σ = some (.inl (pc2, L2, st2, σ2))) (k : ∀ ls2, cm_LR f nL L2 ls2 → W p l e R s m args below meth c H locs cells slots Q (F0 m pc2 ls2 (st2.map (cm_tv f)))) : σ2 = σ ∧ W p l e R s m args below meth c H locs cells slots Q (F0 m pc ls (st.map (cm_tv f))) := by
  obtain ⟨w2, r, rfl, h⟩ := cm_pi_some h
  obtain ⟨w1, r, rfl, h⟩ := cm_pi_some h
  obtain ⟨rfl, rfl, rfl, rfl⟩ := cm_go_inj h
  exact ⟨rfl, lv_iushr hx hb hd rfl (k ls hL)⟩
theorem cs_idiv (hx : p.tables.exec = Jvm.exec) (hb : c.code = cc)  (hd : decode cc pc = .ok (.idiv, 1)) (hL : cm_LR f nL L ls) (h : cm_step P d calls mi pc (.idiv, len, x, y, z, v) L st σ = some (.inl (pc2, L2, st2, σ2))) (k : ∀ ls2, cm_LR f nL L2 ls2 → W p l e R s m args below meth c H locs cells slots Q (F0 m pc2 ls2 (st2.map (cm_tv f)))) : σ2 = σ ∧ W p l e R s m args below meth c H locs cells slots Q (F0 m pc ls (st.map (cm_tv f))) := by
  obtain ⟨w2, r, rfl, h⟩ := cm_pi_some h
  obtain ⟨w1, r, rfl, h⟩ := cm_pi_some h
  obtain ⟨hn, h⟩ := cm_ifn_some h
  obtain ⟨rfl, rfl, rfl, rfl⟩ := cm_go_inj h
  exact ⟨rfl, lv_idiv hx hb hd hn (k ls hL)⟩
theorem cs_irem (hx : p.tables.exec = Jvm.exec) (hb : c.code = cc)  (hd : decode cc pc = .ok (.irem, 1)) (hL : cm_LR f nL L ls) (h : cm_step P d calls mi pc (.irem, len, x, y, z, v) L st σ = some (.inl (pc2, L2, st2, σ2))) (k : ∀ ls2, cm_LR f nL L2 ls2 → W p l e R s m args below meth c H locs cells slots Q (F0 m pc2 ls2 (st2.map (cm_tv f)))) : σ2 = σ ∧ W p l e R s m args below meth c H locs cells slots Q (F0 m pc ls (st.map (cm_tv f))) := by
  obtain ⟨w2, r, rfl, h⟩ := cm_pi_some h
  obtain ⟨w1, r, rfl, h⟩ := cm_pi_some h
  obtain ⟨hn, h⟩ := cm_ifn_some h
  obtain ⟨rfl, rfl, rfl, rfl⟩ := cm_go_inj h
  exact ⟨rfl, lv_irem hx hb hd hn (k ls hL)⟩
theorem cs_ladd (hx : p.tables.exec = Jvm.exec) (hb : c.code = cc)  (hd : decode cc pc = .ok (.ladd, 1)) (hL : cm_LR f nL L ls) (h : cm_step P d calls mi pc (.ladd, len, x, y, z, v) L st σ = some (.inl (pc2, L2, st2, σ2))) (k : ∀ ls2, cm_LR f nL L2 ls2 → W p l e R s m args below meth c H locs cells slots Q (F0 m pc2 ls2 (st2.map (cm_tv f)))) : σ2 = σ ∧ W p l e R s m args below meth c H locs cells slots Q (F0 m pc ls (st.map (cm_tv f))) := by
  obtain ⟨w2, r, rfl, h⟩ := cm_pl_some h
  obtain ⟨w1, r, rfl, h⟩ := cm_pl_some h
  obtain ⟨rfl, rfl, rfl, rfl⟩ := cm_go_inj h
  exact ⟨rfl, lv_ladd hx hb hd (k ls hL)⟩
theorem cs_lsub (hx : p.tables.exec = Jvm.exec) (hb : c.code = cc)  (hd : decode cc pc = .ok (.lsub, 1)) (hL : cm_LR f nL L ls) (h : cm_step P d calls mi pc (.lsub, len, x, y, z, v) L st σ = some (.inl (pc2, L2, st2, σ2))) (k : ∀ ls2, cm_LR f nL L2 ls2 → W p l e R s m args below meth c H locs cells slots Q (F0 m pc2 ls2 (st2.map (cm_tv f)))) : σ2 = σ ∧ W p l e R s m args below meth c H locs cells slots Q (F0 m pc ls (st.map (cm_tv f))) := by
  obtain ⟨w2, r, rfl, h⟩ := cm_pl_some h
  obtain ⟨w1, r, rfl, h⟩ := cm_pl_some h
  obtain ⟨rfl, rfl, rfl, rfl⟩ := cm_go_inj h
  exact ⟨rfl, lv_lsub hx hb hd (k ls hL)⟩
theorem cs_lmul (hx : p.tables.exec = Jvm.exec) (hb : c.code = cc)  (hd : decode cc pc = .ok (.lmul, 1)) (hL : cm_LR f nL L ls) (h : cm_step P d calls mi pc (.lmul, len, x, y, z, v) L st σ = some (.inl (pc2, L2, st2, σ2))) (k : ∀ ls2, cm_LR f nL L2 ls2 → W p l e R s m args below meth c H locs cells slots Q (F0 m pc2 ls2 (st2.map (cm_tv f)))) : σ2 = σ ∧ W p l e R s m args below meth c H locs cells slots Q (F0 m pc ls (st.map (cm_tv f))) := by
  obtain ⟨w2, r, rfl, h⟩ := cm_pl_some h
  obtain ⟨w1, r, rfl, h⟩ := cm_pl_some h
  obtain ⟨rfl, rfl, rfl, rfl⟩ := cm_go_inj h
  exact ⟨rfl, lv_lmul hx hb hd (k ls hL)⟩
theorem cs_land (hx : p.tables.exec = Jvm.exec) (hb : c.code = cc)  (hd : decode cc pc = .ok (.land, 1)) (hL : cm_LR f nL L ls) (h : cm_step P d calls mi pc (.land, len, x, y, z, v) L st σ = some (.inl (pc2, L2, st2, σ2))) (k : ∀ ls2, cm_LR f nL L2 ls2 → W p l e R s m args below meth c H locs cells slots Q (F0 m pc2 ls2 (st2.map (cm_tv f)))) : σ2 = σ ∧ W p l e R s m args below meth c H locs cells slots Q (F0 m pc ls (st.map (cm_tv f))) := by
  obtain ⟨w2, r, rfl, h⟩ := cm_pl_some h
  obtain ⟨w1, r, rfl, h⟩ := cm_pl_some h
  obtain ⟨rfl, rfl, rfl, rfl⟩ := cm_go_inj h
  exact ⟨rfl, lv_land hx hb hd (k ls hL)⟩
theorem cs_lor (hx : p.tables.exec = Jvm.exec) (hb : c.code = cc)  (hd : decode cc pc = .ok (.lor, 1)) (hL : cm_LR f nL L ls) (h : cm_step P d calls mi pc (.lor, len, x, y, z, v) L st σ = some (.inl (pc2, L2, st2, σ2))) (k : ∀ ls2, cm_LR f nL L2 ls2 → W p l e R s m args below meth c H locs cells slots Q (F0 m pc2 ls2 (st2.map (cm_tv f)))) : σ2 = σ ∧ W p l e R s m args below meth c H locs cells slots Q (F0 m pc ls (st.map (cm_tv f))) := by
  obtain ⟨w2, r, rfl, h⟩ := cm_pl_some h
  obtain ⟨w1, r, rfl, h⟩ := cm_pl_some h
  obtain ⟨rfl, rfl, rfl, rfl⟩ := cm_go_inj h
  exact ⟨rfl, lv_lor hx hb hd (k ls hL)⟩
theorem cs_lxor (hx : p.tables.exec = Jvm.exec) (hb : c.code = cc)  (hd : decode cc pc = .ok (.lxor, 1)) (hL : cm_LR f nL L ls) (h : cm_step P d calls mi pc (.lxor, len, x, y, z, v) L st σ = some (.inl (pc2, L2, st2, σ2))) (k : ∀ ls2, cm_LR f nL L2 ls2 → W p l e R s m args below meth c H locs cells slots Q (F0 m pc2 ls2 (st2.map (cm_tv f)))) : σ2 = σ ∧ W p l e R s m args below meth c H locs cells slots Q (F0 m pc ls (st.map (cm_tv f))) := by
  obtain ⟨w2, r, rfl, h⟩ := cm_pl_some h
  obtain ⟨w1, r, rfl, h⟩ := cm_pl_some h
  obtain ⟨rfl, rfl, rfl, rfl⟩ := cm_go_inj h
  exact ⟨rfl, lv_lxor hx hb hd (k ls hL)⟩
theorem cs_ldiv (hx : p.tables.exec = Jvm.exec) (hb : c.code = cc)  (hd : decode cc pc = .ok (.ldiv, 1)) (hL : cm_LR f nL L ls) (h : cm_step P d calls mi pc (.ldiv, len, x, y, z, v) L st σ = some (.inl (pc2, L2, st2, σ2))) (k : ∀ ls2, cm_LR f nL L2 ls2 → W p l e R s m args below meth c H locs cells slots Q (F0 m pc2 ls2 (st2.map (cm_tv f)))) : σ2 = σ ∧ W p l e R s m args below meth c H locs cells slots Q (F0 m pc ls (st.map (cm_tv f))) := by
  obtain ⟨w2, r, rfl, h⟩ := cm_pl_some h
  obtain ⟨w1, r, rfl, h⟩ := cm_pl_some h
  obtain ⟨hn, h⟩ := cm_ifn_some h
  obtain ⟨rfl, rfl, rfl, rfl⟩ := cm_go_inj h
  exact ⟨rfl, lv_ldiv hx hb hd hn (k ls hL)⟩
theorem cs_lrem (hx : p.tables.exec = Jvm.exec) (hb : c.code = cc)  (hd : decode cc pc = .ok (.lrem, 1)) (hL : cm_LR f nL L ls) (h : cm_step P d calls mi pc (.lrem, len, x, y, z, v) L st σ = some (.inl (pc2, L2, st2, σ2))) (k : ∀ ls2, cm_LR f nL L2 ls2 → W p l e R s m args below meth c H locs cells slots Q (F0 m pc2 ls2 (st2.map (cm_tv f)))) : σ2 = σ ∧ W p l e R s m args below meth c H locs cells slots Q (F0 m pc ls (st.map (cm_tv f))) := by
  obtain ⟨w2, r, rfl, h⟩ := cm_pl_some h
  obtain ⟨w1, r, rfl, h⟩ := cm_pl_some h
  obtain ⟨hn, h⟩ := cm_ifn_some h
  obtain ⟨rfl, rfl, rfl, rfl⟩ := cm_go_inj h
  exact ⟨rfl, lv_lrem hx hb hd hn (k ls hL)⟩
theorem cs_lshl (hx : p.tables.exec = Jvm.exec) (hb : c.code = cc)  (hd : decode cc pc = .ok (.lshl, 1)) (hL : cm_LR f nL L ls) (h : cm_step P d calls mi pc (.lshl, len, x, y, z, v) L st σ = some (.inl (pc2, L2, st2, σ2))) (k : ∀ ls2, cm_LR f nL L2 ls2 → W p l e R s m args below meth c H locs cells slots Q (F0 m pc2 ls2 (st2.map (cm_tv f)))) : σ2 = σ ∧ W p l e R s m args below meth c H locs cells slots Q (F0 m pc ls (st.map (cm_tv f))) := by
  obtain ⟨w2, r, rfl, h⟩ := cm_pi_some h
  obtain ⟨w1, r, rfl, h⟩ := cm_pl_some h
  obtain ⟨rfl, rfl, rfl, rfl⟩ := cm_go_inj h
  exact ⟨rfl, lv_lshl hx hb hd rfl (k ls hL)⟩
theorem cs_lshr (hx : p.tables.exec = Jvm.exec) (hb : c.code = cc)  (hd : decode cc pc = .ok (.lshr, 1)) (hL : cm_LR f nL L ls) (h : cm_step P d calls mi pc (.lshr, len, x, y, z, v) L st σ = some (.inl (pc2, L2, st2, σ2))) (k : ∀ ls2, cm_LR f nL L2 ls2 → W p l e R s m args below meth c H locs cells slots Q (F0 m pc2 ls2 (st2.map (cm_tv f)))) : σ2 = σ ∧ W p l e R s m args below meth c H locs cells slots Q (F0 m pc ls (st.map (cm_tv f))) := by
  obtain ⟨w2, r, rfl, h⟩ := cm_pi_some h
  obtain ⟨w1, r, rfl, h⟩ := cm_pl_some h
  obtain ⟨rfl, rfl, rfl, rfl⟩ := cm_go_inj h
  exact ⟨rfl, lv_lshr hx hb hd rfl (k ls hL)⟩
theorem cs_lushr (hx : p.tables.exec = Jvm.exec) (hb : c.code = cc)  (hd : decode cc pc = .ok (.lushr, 1)) (hL : cm_LR f nL L ls) (h : cm_step P d calls mi pc (.lushr, len, x, y, z, v) L st σ = some (.inl (pc2, L2, st2, σ2))) (k : ∀ ls2, cm_LR f nL L2 ls2 → W p l e R s m args below meth c H locs cells slots Q (F0 m pc2 ls2 (st2.map (cm_tv f)))) : σ2 = σ ∧ W p l e R s m args below meth c H locs cells slots Q (F0 m pc ls (st.map (cm_tv f))) := by
  obtain ⟨w2, r, rfl, h⟩ := cm_pi_some h
  obtain ⟨w1, r, rfl, h⟩ := cm_pl_some h
  obtain ⟨rfl, rfl, rfl, rfl⟩ := cm_go_inj h
  exact ⟨rfl, lv_lushr hx hb hd rfl (k ls hL)⟩
theorem cs_lcmp (hx : p.tables.exec = Jvm.exec) (hb : c.code = cc)  (hd : decode cc pc = .ok (.lcmp, 1)) (hL : cm_LR f nL L ls) (h : cm_step P d calls mi pc (.lcmp, len, x, y, z, v) L st σ = some (.inl (pc2, L2, st2, σ2))) (k : ∀ ls2, cm_LR f nL L2 ls2 → W p l e R s m args below meth c H locs cells slots Q (F0 m pc2 ls2 (st2.map (cm_tv f)))) : σ2 = σ ∧ W p l e R s m args below meth c H locs cells slots Q (F0 m pc ls (st.map (cm_tv f))) := by
  obtain ⟨w2, r, rfl, h⟩ := cm_pl_some h
  obtain ⟨w1, r, rfl, h⟩ := cm_pl_some h
  obtain ⟨rfl, rfl, rfl, rfl⟩ := cm_go_inj h
  exact ⟨rfl, W.lcmp hx hb hd (k ls hL)⟩
theorem cs_ineg (hx : p.tables.exec = Jvm.exec) (hb : c.code = cc)  (hd : decode cc pc = .ok (.ineg, 1)) (hL : cm_LR f nL L ls) (h : cm_step P d calls mi pc (.ineg, len, x, y, z, v) L st σ = some (.inl (pc2, L2, st2, σ2))) (k : ∀ ls2, cm_LR f nL L2 ls2 → W p l e R s m args below meth c H locs cells slots Q (F0 m pc2 ls2 (st2.map (cm_tv f)))) : σ2 = σ ∧ W p l e R s m args below meth c H locs cells slots Q (F0 m pc ls (st.map (cm_tv f))) := by
  obtain ⟨w1, r, rfl, h⟩ := cm_pi_some h
  obtain ⟨rfl, rfl, rfl, rfl⟩ := cm_go_inj h
  exact ⟨rfl, lv_ineg hx hb hd (k ls hL)⟩
theorem cs_i2l (hx : p.tables.exec = Jvm.exec) (hb : c.code = cc)  (hd : decode cc pc = .ok (.i2l, 1)) (hL : cm_LR f nL L ls) (h : cm_step P d calls mi pc (.i2l, len, x, y, z, v) L st σ = some (.inl (pc2, L2, st2, σ2))) (k : ∀ ls2, cm_LR f nL L2 ls2 → W p l e R s m args below meth c H locs cells slots Q (F0 m pc2 ls2 (st2.map (cm_tv f)))) : σ2 = σ ∧ W p l e R s m args below meth c H locs cells slots Q (F0 m pc ls (st.map (cm_tv f))) := by
  obtain ⟨w1, r, rfl, h⟩ := cm_pi_some h
  obtain ⟨rfl, rfl, rfl, rfl⟩ := cm_go_inj h
  exact ⟨rfl, lv_i2l hx hb hd rfl (k ls hL)⟩
theorem cs_i2b (hx : p.tables.exec = Jvm.exec) (hb : c.code = cc)  (hd : decode cc pc = .ok (.i2b, 1)) (hL : cm_LR f nL L ls) (h : cm_step P d calls mi pc (.i2b, len, x, y, z, v) L st σ = some (.inl (pc2, L2, st2, σ2))) (k : ∀ ls2, cm_LR f nL L2 ls2 → W p l e R s m args below meth c H locs cells slots Q (F0 m pc2 ls2 (st2.map (cm_tv f)))) : σ2 = σ ∧ W p l e R s m args below meth c H locs cells slots Q (F0 m pc ls (st.map (cm_tv f))) := by
  obtain ⟨w1, r, rfl, h⟩ := cm_pi_some h
  obtain ⟨rfl, rfl, rfl, rfl⟩ := cm_go_inj h
  exact ⟨rfl, lv_i2b hx hb hd rfl (k ls hL)⟩
theorem cs_i2c (hx : p.tables.exec = Jvm.exec) (hb : c.code = cc)  (hd : decode cc pc = .ok (.i2c, 1)) (hL : cm_LR f nL L ls) (h : cm_step P d calls mi pc (.i2c, len, x, y, z, v) L st σ = some (.inl (pc2, L2, st2, σ2))) (k : ∀ ls2, cm_LR f nL L2 ls2 → W p l e R s m args below meth c H locs cells slots Q (F0 m pc2 ls2 (st2.map (cm_tv f)))) : σ2 = σ ∧ W p l e R s m args below meth c H locs cells slots Q (F0 m pc ls (st.map (cm_tv f))) := by
  obtain ⟨w1, r, rfl, h⟩ := cm_pi_some h
  obtain ⟨rfl, rfl, rfl, rfl⟩ := cm_go_inj h
  exact ⟨rfl, lv_i2c hx hb hd rfl (k ls hL)⟩
theorem cs_lneg (hx : p.tables.exec = Jvm.exec) (hb : c.code = cc)  (hd : decode cc pc = .ok (.lneg, 1)) (hL : cm_LR f nL L ls) (h : cm_step P d calls mi pc (.lneg, len, x, y, z, v) L st σ = some (.inl (pc2, L2, st2, σ2))) (k : ∀ ls2, cm_LR f nL L2 ls2 → W p l e R s m args below meth c H locs cells slots Q (F0 m pc2 ls2 (st2.map (cm_tv f)))) : σ2 = σ ∧ W p l e R s m args below meth c H locs cells slots Q (F0 m pc ls (st.map (cm_tv f))) := by
  obtain ⟨w1, r, rfl, h⟩ := cm_pl_some h
  obtain ⟨rfl, rfl, rfl, rfl⟩ := cm_go_inj h
  exact ⟨rfl, lv_lneg hx hb hd (k ls hL)⟩
theorem cs_l2i (hx : p.tables.exec = Jvm.exec) (hb : c.code = cc)  (hd : decode cc pc = .ok (.l2i, 1)) (hL : cm_LR f nL L ls) (h : cm_step P d calls mi pc (.l2i, len, x, y, z, v) L st σ = some (.inl (pc2, L2, st2, σ2))) (k : ∀ ls2, cm_LR f nL L2 ls2 → W p l e R s m args below meth c H locs cells slots Q (F0 m pc2 ls2 (st2.map (cm_tv f)))) : σ2 = σ ∧ W p l e R s m args below meth c H locs cells slots Q (F0 m pc ls (st.map (cm_tv f))) := by
  obtain ⟨w1, r, rfl, h⟩ := cm_pl_some h
  obtain ⟨rfl, rfl, rfl, rfl⟩ := cm_go_inj h
  exact ⟨rfl, lv_l2i hx hb hd rfl (k ls hL)⟩
theorem cs_pop (hx : p.tables.exec = Jvm.exec) (hb : c.code = cc)  (hd : decode cc pc = .ok (.pop, 1)) (hL : cm_LR f nL L ls) (h : cm_step P d calls mi pc (.pop, len, x, y, z, v) L st σ = some (.inl (pc2, L2, st2, σ2))) (k : ∀ ls2, cm_LR f nL L2 ls2 → W p l e R s m args below meth c H locs cells slots Q (F0 m pc2 ls2 (st2.map (cm_tv f)))) : σ2 = σ ∧ W p l e R s m args below meth c H locs cells slots Q (F0 m pc ls (st.map (cm_tv f))) := by
  obtain ⟨w, r, rfl, h⟩ := cm_pa_some h
  obtain ⟨hn, h⟩ := cm_if_some h
  obtain ⟨rfl, rfl, rfl, rfl⟩ := cm_go_inj h
  exact ⟨rfl, lv_pop hx hb hd ((cm_tv_cat f w).trans hn) (k ls hL)⟩
theorem cs_dup (hx : p.tables.exec = Jvm.exec) (hb : c.code = cc)  (hd : decode cc pc = .ok (.dup, 1)) (hL : cm_LR f nL L ls) (h : cm_step P d calls mi pc (.dup, len, x, y, z, v) L st σ = some (.inl (pc2, L2, st2, σ2))) (k : ∀ ls2, cm_LR f nL L2 ls2 → W p l e R s m args below meth c H locs cells slots Q (F0 m pc2 ls2 (st2.map (cm_tv f)))) : σ2 = σ ∧ W p l e R s m args below meth c H locs cells slots Q (F0 m pc ls (st.map (cm_tv f))) := by
  obtain ⟨w, r, rfl, h⟩ := cm_pa_some h
  obtain ⟨hn, h⟩ := cm_if_some h
  obtain ⟨rfl, rfl, rfl, rfl⟩ := cm_go_inj h
  exact ⟨rfl, lv_dup hx hb hd ((cm_tv_cat f w).trans hn) (k ls hL)⟩
theorem cs_dup_x1 (hx : p.tables.exec = Jvm.exec) (hb : c.code = cc)  (hd : decode cc pc = .ok (.dup_x1, 1)) (hL : cm_LR f nL L ls) (h : cm_step P d calls mi pc (.dup_x1, len, x, y, z, v) L st σ = some (.inl (pc2, L2, st2, σ2))) (k : ∀ ls2, cm_LR f nL L2 ls2 → W p l e R s m args below meth c H locs cells slots Q (F0 m pc2 ls2 (st2.map (cm_tv f)))) : σ2 = σ ∧ W p l e R s m args below meth c H locs cells slots Q (F0 m pc ls (st.map (cm_tv f))) := by
  obtain ⟨w, r, rfl, h⟩ := cm_pa_some h
  obtain ⟨w2, r, rfl, h⟩ := cm_pa_some h
  obtain ⟨hn, h⟩ := cm_if_some h
  obtain ⟨rfl, rfl, rfl, rfl⟩ := cm_go_inj h
  exact ⟨rfl, lv_dup_x1 hx hb hd ((cm_tv_cat f w).trans hn.1) ((cm_tv_cat f w2).trans hn.2) (k ls hL)⟩
theorem cs_dup2 (hx : p.tables.exec = Jvm.exec) (hb : c.code = cc)  (hd : decode cc pc = .ok (.dup2, 1)) (hL : cm_LR f nL L ls) (h : cm_step P d calls mi pc (.dup2, len, x, y, z, v) L st σ = some (.inl (pc2, L2, st2, σ2))) (k : ∀ ls2, cm_LR f nL L2 ls2 → W p l e R s m args below meth c H locs cells slots Q (F0 m pc2 ls2 (st2.map (cm_tv f)))) : σ2 = σ ∧ W p l e R s m args below meth c H locs cells slots Q (F0 m pc ls (st.map (cm_tv f))) := by
  obtain ⟨w, r, rfl, g⟩ := cm_pa_some h
  clear h
  by_cases hn : w.category = 2
  · rw [if_pos hn] at g
    obtain ⟨rfl, rfl, rfl, rfl⟩ := cm_go_inj g
    exact ⟨rfl, lv_dup2_2 hx hb hd ((cm_tv_cat f w).trans hn) (k ls hL)⟩
  · rw [if_neg hn] at g
    obtain ⟨w2, r, rfl, g2⟩ := cm_pa_some g
    obtain ⟨hn, g2⟩ := cm_if_some g2
    obtain ⟨rfl, rfl, rfl, rfl⟩ := cm_go_inj g2
    exact ⟨rfl, lv_dup2_11 hx hb hd ((cm_tv_cat f w).trans hn.1) ((cm_tv_cat f w2).trans hn.2) (k ls hL)⟩
theorem cs_goto (hx : p.tables.exec = Jvm.exec) (hb : c.code = cc) {o : Int} (hd : decode cc pc = .ok (.goto o, 3)) (hL : cm_LR f nL L ls) (ht : (pc : Int) + o = (x : Int)) (h : cm_step P d calls mi pc (.goto o, len, x, y, z, v) L st σ = some (.inl (pc2, L2, st2, σ2))) (k : ∀ ls2, cm_LR f nL L2 ls2 → W p l e R s m args below meth c H locs cells slots Q (F0 m pc2 ls2 (st2.map (cm_tv f)))) : σ2 = σ ∧ W p l e R s m args below meth c H locs cells slots Q (F0 m pc ls (st.map (cm_tv f))) := by
  obtain ⟨rfl, rfl, rfl, rfl⟩ := cm_go_inj h
  exact ⟨rfl, lv_goto hx hb hd ht (k ls hL)⟩
theorem cs_ifCond_eq (hx : p.tables.exec = Jvm.exec) (hb : c.code = cc) {o : Int} (hd : decode cc pc = .ok (.ifCond .eq o, 3)) (hL : cm_LR f nL L ls) (ht : (pc : Int) + o = (x : Int)) (h : cm_step P d calls mi pc (.ifCond .eq o, len, x, y, z, v) L st σ = some (.inl (pc2, L2, st2, σ2))) (k : ∀ ls2, cm_LR f nL L2 ls2 → W p l e R s m args below meth c H locs cells slots Q (F0 m pc2 ls2 (st2.map (cm_tv f)))) : σ2 = σ ∧ W p l e R s m args below meth c H locs cells slots Q (F0 m pc ls (st.map (cm_tv f))) := by
  obtain ⟨w1, r, rfl, g⟩ := cm_pi_some h
  clear h
  refine ⟨?_, lv_if_eq hx hb hd ht (fun q => ?_) (fun q => ?_)⟩
  · by_cases q : cm_cmp .eq w1 (0 : Int32) = true
    · rw [if_pos q] at g; exact (cm_go_inj g).2.2.2
    · rw [if_neg q] at g; exact (cm_go_inj g).2.2.2
  · rw [if_pos (show cm_cmp .eq w1 (0 : Int32) = true from by simpa [cm_cmp] using q)] at g
    obtain ⟨rfl, rfl, rfl, rfl⟩ := cm_go_inj g
    exact k ls hL
  · rw [if_neg (show ¬ cm_cmp .eq w1 (0 : Int32) = true from by simpa [cm_cmp] using q)] at g
    obtain ⟨rfl, rfl, rfl, rfl⟩ := cm_go_inj g
    exact k ls hL
theorem cs_ifCond_ne (hx : p.tables.exec = Jvm.exec) (hb : c.code = cc) {o : Int} (hd : decode cc pc = .ok (.ifCond .ne o, 3)) (hL : cm_LR f nL L ls) (ht : (pc : Int) + o = (x : Int)) (h : cm_step P d calls mi pc (.ifCond .ne o, len, x, y, z, v) L st σ = some (.inl (pc2, L2, st2, σ2))) (k : ∀ ls2, cm_LR f nL L2 ls2 → W p l e R s m args below meth c H locs cells slots Q (F0 m pc2 ls2 (st2.map (cm_tv f)))) : σ2 = σ ∧ W p l e R s m args below meth c H locs cells slots Q (F0 m pc ls (st.map (cm_tv f))) := by
  obtain ⟨w1, r, rfl, g⟩ := cm_pi_some h
  clear h
  refine ⟨?_, lv_if_ne hx hb hd ht (fun q => ?_) (fun q => ?_)⟩
  · by_cases q : cm_cmp .ne w1 (0 : Int32) = true
    · rw [if_pos q] at g; exact (cm_go_inj g).2.2.2
    · rw [if_neg q] at g; exact (cm_go_inj g).2.2.2
  · rw [if_pos (show cm_cmp .ne w1 (0 : Int32) = true from by simpa [cm_cmp] using q)] at g
    obtain ⟨rfl, rfl, rfl, rfl⟩ := cm_go_inj g
    exact k ls hL
  · rw [if_neg (show ¬ cm_cmp .ne w1 (0 : Int32) = true from by simpa [cm_cmp] using q)] at g
    obtain ⟨rfl, rfl, rfl, rfl⟩ := cm_go_inj g
    exact k ls hL
theorem cs_ifCond_lt (hx : p.tables.exec = Jvm.exec) (hb : c.code = cc) {o : Int} (hd : decode cc pc = .ok (.ifCond .lt o, 3)) (hL : cm_LR f nL L ls) (ht : (pc : Int) + o = (x : Int)) (h : cm_step P d calls mi pc (.ifCond .lt o, len, x, y, z, v) L st σ = some (.inl (pc2, L2, st2, σ2))) (k : ∀ ls2, cm_LR f nL L2 ls2 → W p l e R s m args below meth c H locs cells slots Q (F0 m pc2 ls2 (st2.map (cm_tv f)))) : σ2 = σ ∧ W p l e R s m args below meth c H locs cells slots Q (F0 m pc ls (st.map (cm_tv f))) := by
  obtain ⟨w1, r, rfl, g⟩ := cm_pi_some h
  clear h
  refine ⟨?_, lv_if_lt hx hb hd ht (fun q => ?_) (fun q => ?_)⟩
  · by_cases q : cm_cmp .lt w1 (0 : Int32) = true
    · rw [if_pos q] at g; exact (cm_go_inj g).2.2.2
    · rw [if_neg q] at g; exact (cm_go_inj g).2.2.2
  · rw [if_pos (show cm_cmp .lt w1 (0 : Int32) = true from by simpa [cm_cmp] using q)] at g
    obtain ⟨rfl, rfl, rfl, rfl⟩ := cm_go_inj g
    exact k ls hL
  · rw [if_neg (show ¬ cm_cmp .lt w1 (0 : Int32) = true from by simpa [cm_cmp] using q)] at g
    obtain ⟨rfl, rfl, rfl, rfl⟩ := cm_go_inj g
    exact k ls hL
theorem cs_ifCond_ge (hx : p.tables.exec = Jvm.exec) (hb : c.code = cc) {o : Int} (hd : decode cc pc = .ok (.ifCond .ge o, 3)) (hL : cm_LR f nL L ls) (ht : (pc : Int) + o = (x : Int)) (h : cm_step P d calls mi pc (.ifCond .ge o, len, x, y, z, v) L st σ = some (.inl (pc2, L2, st2, σ2))) (k : ∀ ls2, cm_LR f nL L2 ls2 → W p l e R s m args below meth c H locs cells slots Q (F0 m pc2 ls2 (st2.map (cm_tv f)))) : σ2 = σ ∧ W p l e R s m args below meth c H locs cells slots Q (F0 m pc ls (st.map (cm_tv f))) := by
  obtain ⟨w1, r, rfl, g⟩ := cm_pi_some h
  clear h
  refine ⟨?_, lv_if_ge hx hb hd ht (fun q => ?_) (fun q => ?_)⟩
  · by_cases q : cm_cmp .ge w1 (0 : Int32) = true
    · rw [if_pos q] at g; exact (cm_go_inj g).2.2.2
    · rw [if_neg q] at g; exact (cm_go_inj g).2.2.2
  · rw [if_pos (show cm_cmp .ge w1 (0 : Int32) = true from by simpa [cm_cmp] using q)] at g
    obtain ⟨rfl, rfl, rfl, rfl⟩ := cm_go_inj g
    exact k ls hL
  · rw [if_neg (show ¬ cm_cmp .ge w1 (0 : Int32) = true from by simpa [cm_cmp] using q)] at g
    obtain ⟨rfl, rfl, rfl, rfl⟩ := cm_go_inj g
    exact k ls hL
theorem cs_ifCond_gt (hx : p.tables.exec = Jvm.exec) (hb : c.code = cc) {o : Int} (hd : decode cc pc = .ok (.ifCond .gt o, 3)) (hL : cm_LR f nL L ls) (ht : (pc : Int) + o = (x : Int)) (h : cm_step P d calls mi pc (.ifCond .gt o, len, x, y, z, v) L st σ = some (.inl (pc2, L2, st2, σ2))) (k : ∀ ls2, cm_LR f nL L2 ls2 → W p l e R s m args below meth c H locs cells slots Q (F0 m pc2 ls2 (st2.map (cm_tv f)))) : σ2 = σ ∧ W p l e R s m args below meth c H locs cells slots Q (F0 m pc ls (st.map (cm_tv f))) := by
  obtain ⟨w1, r, rfl, g⟩ := cm_pi_some h
  clear h
  refine ⟨?_, lv_if_gt hx hb hd ht (fun q => ?_) (fun q => ?_)⟩
  · by_cases q : cm_cmp .gt w1 (0 : Int32) = true
    · rw [if_pos q] at g; exact (cm_go_inj g).2.2.2
    · rw [if_neg q] at g; exact (cm_go_inj g).2.2.2
  · rw [if_pos (show cm_cmp .gt w1 (0 : Int32) = true from by simpa [cm_cmp] using q)] at g
    obtain ⟨rfl, rfl, rfl, rfl⟩ := cm_go_inj g
    exact k ls hL
  · rw [if_neg (show ¬ cm_cmp .gt w1 (0 : Int32) = true from by simpa [cm_cmp] using q)] at g
    obtain ⟨rfl, rfl, rfl, rfl⟩ := cm_go_inj g
    exact k ls hL
theorem cs_ifCond_le (hx : p.tables.exec = Jvm.exec) (hb : c.code = cc) {o : Int} (hd : decode cc pc = .ok (.ifCond .le o, 3)) (hL : cm_LR f nL L ls) (ht : (pc : Int) + o = (x : Int)) (h : cm_step P d calls mi pc (.ifCond .le o, len, x, y, z, v) L st σ = some (.inl (pc2, L2, st2, σ2))) (k : ∀ ls2, cm_LR f nL L2 ls2 → W p l e R s m args below meth c H locs cells slots Q (F0 m pc2 ls2 (st2.map (cm_tv f)))) : σ2 = σ ∧ W p l e R s m args below meth c H locs cells slots Q (F0 m pc ls (st.map (cm_tv f))) := by
  obtain ⟨w1, r, rfl, g⟩ := cm_pi_some h
  clear h
  refine ⟨?_, lv_if_le hx hb hd ht (fun q => ?_) (fun q => ?_)⟩
  · by_cases q : cm_cmp .le w1 (0 : Int32) = true
    · rw [if_pos q] at g; exact (cm_go_inj g).2.2.2
    · rw [if_neg q] at g; exact (cm_go_inj g).2.2.2
  · rw [if_pos (show cm_cmp .le w1 (0 : Int32) = true from by simpa [cm_cmp] using q)] at g
    obtain ⟨rfl, rfl, rfl, rfl⟩ := cm_go_inj g
    exact k ls hL
  · rw [if_neg (show ¬ cm_cmp .le w1 (0 : Int32) = true from by simpa [cm_cmp] using q)] at g
    obtain ⟨rfl, rfl, rfl, rfl⟩ := cm_go_inj g
    exact k ls hL
theorem cs_if_icmp_eq (hx : p.tables.exec = Jvm.exec) (hb : c.code = cc) {o : Int} (hd : decode cc pc = .ok (.if_icmp .eq o, 3)) (hL : cm_LR f nL L ls) (ht : (pc : Int) + o = (x : Int)) (h : cm_step P d calls mi pc (.if_icmp .eq o, len, x, y, z, v) L st σ = some (.inl (pc2, L2, st2, σ2))) (k : ∀ ls2, cm_LR f nL L2 ls2 → W p l e R s m args below meth c H locs cells slots Q (F0 m pc2 ls2 (st2.map (cm_tv f)))) : σ2 = σ ∧ W p l e R s m args below meth c H locs cells slots Q (F0 m pc ls (st.map (cm_tv f))) := by
  obtain ⟨w2, r, rfl, g0⟩ := cm_pi_some h
  clear h
  obtain ⟨w1, r, rfl, g⟩ := cm_pi_some g0
  clear g0
  refine ⟨?_, lv_icmp_eq hx hb hd ht (fun q => ?_) (fun q => ?_)⟩
  · by_cases q : cm_cmp .eq w1 w2 = true
    · rw [if_pos q] at g; exact (cm_go_inj g).2.2.2
    · rw [if_neg q] at g; exact (cm_go_inj g).2.2.2
  · rw [if_pos (show cm_cmp .eq w1 w2 = true from by simpa [cm_cmp] using q)] at g
    obtain ⟨rfl, rfl, rfl, rfl⟩ := cm_go_inj g
    exact k ls hL
  · rw [if_neg (show ¬ cm_cmp .eq w1 w2 = true from by simpa [cm_cmp] using q)] at g
    obtain ⟨rfl, rfl, rfl, rfl⟩ := cm_go_inj g
    exact k ls hL
theorem cs_if_icmp_ne (hx : p.tables.exec = Jvm.exec) (hb : c.code = cc) {o : Int} (hd : decode cc pc = .ok (.if_icmp .ne o, 3)) (hL : cm_LR f nL L ls) (ht : (pc : Int) + o = (x : Int)) (h : cm_step P d calls mi pc (.if_icmp .ne o, len, x, y, z, v) L st σ = some (.inl (pc2, L2, st2, σ2))) (k : ∀ ls2, cm_LR f nL L2 ls2 → W p l e R s m args below meth c H locs cells slots Q (F0 m pc2 ls2 (st2.map (cm_tv f)))) : σ2 = σ ∧ W p l e R s m args below meth c H locs cells slots Q (F0 m pc ls (st.map (cm_tv f))) := by
  obtain ⟨w2, r, rfl, g0⟩ := cm_pi_some h
  clear h
  obtain ⟨w1, r, rfl, g⟩ := cm_pi_some g0
  clear g0
  refine ⟨?_, lv_icmp_ne hx hb hd ht (fun q => ?_) (fun q => ?_)⟩
  · by_cases q : cm_cmp .ne w1 w2 = true
    · rw [if_pos q] at g; exact (cm_go_inj g).2.2.2
    · rw [if_neg q] at g; exact (cm_go_inj g).2.2.2
  · rw [if_pos (show cm_cmp .ne w1 w2 = true from by simpa [cm_cmp] using q)] at g
    obtain ⟨rfl, rfl, rfl, rfl⟩ := cm_go_inj g
    exact k ls hL
  · rw [if_neg (show ¬ cm_cmp .ne w1 w2 = true from by simpa [cm_cmp] using q)] at g
    obtain ⟨rfl, rfl, rfl, rfl⟩ := cm_go_inj g
    exact k ls hL
theorem cs_if_icmp_lt (hx : p.tables.exec = Jvm.exec) (hb : c.code = cc) {o : Int} (hd : decode cc pc = .ok (.if_icmp .lt o, 3)) (hL : cm_LR f nL L ls) (ht : (pc : Int) + o = (x : Int)) (h : cm_step P d calls mi pc (.if_icmp .lt o, len, x, y, z, v) L st σ = some (.inl (pc2, L2, st2, σ2))) (k : ∀ ls2, cm_LR f nL L2 ls2 → W p l e R s m args below meth c H locs cells slots Q (F0 m pc2 ls2 (st2.map (cm_tv f)))) : σ2 = σ ∧ W p l e R s m args below meth c H locs cells slots Q (F0 m pc ls (st.map (cm_tv f))) := by
  obtain ⟨w2, r, rfl, g0⟩ := cm_pi_some h
  clear h
  obtain ⟨w1, r, rfl, g⟩ := cm_pi_some g0
  clear g0
  refine ⟨?_, lv_icmp_lt hx hb hd ht (fun q => ?_) (fun q => ?_)⟩
  · by_cases q : cm_cmp .lt w1 w2 = true
    · rw [if_pos q] at g; exact (cm_go_inj g).2.2.2
    · rw [if_neg q] at g; exact (cm_go_inj g).2.2.2
  · rw [if_pos (show cm_cmp .lt w1 w2 = true from by simpa [cm_cmp] using q)] at g
    obtain ⟨rfl, rfl, rfl, rfl⟩ := cm_go_inj g
    exact k ls hL
  · rw [if_neg (show ¬ cm_cmp .lt w1 w2 = true from by simpa [cm_cmp] using q)] at g
    obtain ⟨rfl, rfl, rfl, rfl⟩ := cm_go_inj g
    exact k ls hL
theorem cs_if_icmp_ge (hx : p.tables.exec = Jvm.exec) (hb : c.code = cc) {o : Int} (hd : decode cc pc = .ok (.if_icmp .ge o, 3)) (hL : cm_LR f nL L ls) (ht : (pc : Int) + o = (x : Int)) (h : cm_step P d calls mi pc (.if_icmp .ge o, len, x, y, z, v) L st σ = some (.inl (pc2, L2, st2, σ2))) (k : ∀ ls2, cm_LR f nL L2 ls2 → W p l e R s m args below meth c H locs cells slots Q (F0 m pc2 ls2 (st2.map (cm_tv f)))) : σ2 = σ ∧ W p l e R s m args below meth c H locs cells slots Q (F0 m pc ls (st.map (cm_tv f))) := by
  obtain ⟨w2, r, rfl, g0⟩ := cm_pi_some h
  clear h
  obtain ⟨w1, r, rfl, g⟩ := cm_pi_some g0
  clear g0
  refine ⟨?_, lv_icmp_ge hx hb hd ht (fun q => ?_) (fun q => ?_)⟩
  · by_cases q : cm_cmp .ge w1 w2 = true
    · rw [if_pos q] at g; exact (cm_go_inj g).2.2.2
    · rw [if_neg q] at g; exact (cm_go_inj g).2.2.2
  · rw [if_pos (show cm_cmp .ge w1 w2 = true from by simpa [cm_cmp] using q)] at g
    obtain ⟨rfl, rfl, rfl, rfl⟩ := cm_go_inj g
    exact k ls hL
  · rw [if_neg (show ¬ cm_cmp .ge w1 w2 = true from by simpa [cm_cmp] using q)] at g
    obtain ⟨rfl, rfl, rfl, rfl⟩ := cm_go_inj g
    exact k ls hL
theorem cs_if_icmp_gt (hx : p.tables.exec = Jvm.exec) (hb : c.code = cc) {o : Int} (hd : decode cc pc = .ok (.if_icmp .gt o, 3)) (hL : cm_LR f nL L ls) (ht : (pc : Int) + o = (x : Int)) (h : cm_step P d calls mi pc (.if_icmp .gt o, len, x, y, z, v) L st σ = some (.inl (pc2, L2, st2, σ2))) (k : ∀ ls2, cm_LR f nL L2 ls2 → W p l e R s m args below meth c H locs cells slots Q (F0 m pc2 ls2 (st2.map (cm_tv f)))) : σ2 = σ ∧ W p l e R s m args below meth c H locs cells slots Q (F0 m pc ls (st.map (cm_tv f))) := by
  obtain ⟨w2, r, rfl, g0⟩ := cm_pi_some h
  clear h
  obtain ⟨w1, r, rfl, g⟩ := cm_pi_some g0
  clear g0
  refine ⟨?_, lv_icmp_gt hx hb hd ht (fun q => ?_) (fun q => ?_)⟩
  · by_cases q : cm_cmp .gt w1 w2 = true
    · rw [if_pos q] at g; exact (cm_go_inj g).2.2.2
    · rw [if_neg q] at g; exact (cm_go_inj g).2.2.2
  · rw [if_pos (show cm_cmp .gt w1 w2 = true from by simpa [cm_cmp] using q)] at g
    obtain ⟨rfl, rfl, rfl, rfl⟩ := cm_go_inj g
    exact k ls hL
  · rw [if_neg (show ¬ cm_cmp .gt w1 w2 = true from by simpa [cm_cmp] using q)] at g
    obtain ⟨rfl, rfl, rfl, rfl⟩ := cm_go_inj g
    exact k ls hL
theorem cs_if_icmp_le (hx : p.tables.exec = Jvm.exec) (hb : c.code = cc) {o : Int} (hd : decode cc pc = .ok (.if_icmp .le o, 3)) (hL : cm_LR f nL L ls) (ht : (pc : Int) + o = (x : Int)) (h : cm_step P d calls mi pc (.if_icmp .le o, len, x, y, z, v) L st σ = some (.inl (pc2, L2, st2, σ2))) (k : ∀ ls2, cm_LR f nL L2 ls2 → W p l e R s m args below meth c H locs cells slots Q (F0 m pc2 ls2 (st2.map (cm_tv f)))) : σ2 = σ ∧ W p l e R s m args below meth c H locs cells slots Q (F0 m pc ls (st.map (cm_tv f))) := by
  obtain ⟨w2, r, rfl, g0⟩ := cm_pi_some h
  clear h
  obtain ⟨w1, r, rfl, g⟩ := cm_pi_some g0
  clear g0
  refine ⟨?_, lv_icmp_le hx hb hd ht (fun q => ?_) (fun q => ?_)⟩
  · by_cases q : cm_cmp .le w1 w2 = true
    · rw [if_pos q] at g; exact (cm_go_inj g).2.2.2
    · rw [if_neg q] at g; exact (cm_go_inj g).2.2.2
  · rw [if_pos (show cm_cmp .le w1 w2 = true from by simpa [cm_cmp] using q)] at g
    obtain ⟨rfl, rfl, rfl, rfl⟩ := cm_go_inj g
    exact k ls hL
  · rw [if_neg (show ¬ cm_cmp .le w1 w2 = true from by simpa [cm_cmp] using q)] at g
    obtain ⟨rfl, rfl, rfl, rfl⟩ := cm_go_inj g
    exact k ls hL
theorem cs_ifnull (hx : p.tables.exec = Jvm.exec) (hb : c.code = cc) {o : Int} (hd : decode cc pc = .ok (.ifnull o, 3)) (hL : cm_LR f nL L ls) (ht : (pc : Int) + o = (x : Int)) (h : cm_step P d calls mi pc (.ifnull o, len, x, y, z, v) L st σ = some (.inl (pc2, L2, st2, σ2))) (k : ∀ ls2, cm_LR f nL L2 ls2 → W p l e R s m args below meth c H locs cells slots Q (F0 m pc2 ls2 (st2.map (cm_tv f)))) : σ2 = σ ∧ W p l e R s m args below meth c H locs cells slots Q (F0 m pc ls (st.map (cm_tv f))) := by
  obtain ⟨w, r, rfl, g⟩ := cm_pr_some h
  clear h
  rw [List.map_cons]
  by_cases hw : w = 0
  · rw [if_pos hw] at g
    subst hw
    obtain ⟨rfl, rfl, rfl, rfl⟩ := cm_go_inj g
    rw [cm_tv_0]
    exact ⟨rfl, lv_ifnullN hx hb hd ht (k ls hL)⟩
  · rw [if_neg hw] at g
    obtain ⟨rfl, rfl, rfl, rfl⟩ := cm_go_inj g
    rw [cm_tv_ref hw]
    exact ⟨rfl, lv_ifnull hx hb hd (k ls hL)⟩
theorem cs_ifnonnull (hx : p.tables.exec = Jvm.exec) (hb : c.code = cc) {o : Int} (hd : decode cc pc = .ok (.ifnonnull o, 3)) (hL : cm_LR f nL L ls) (ht : (pc : Int) + o = (x : Int)) (h : cm_step P d calls mi pc (.ifnonnull o, len, x, y, z, v) L st σ = some (.inl (pc2, L2, st2, σ2))) (k : ∀ ls2, cm_LR f nL L2 ls2 → W p l e R s m args below meth c H locs cells slots Q (F0 m pc2 ls2 (st2.map (cm_tv f)))) : σ2 = σ ∧ W p l e R s m args below meth c H locs cells slots Q (F0 m pc ls (st.map (cm_tv f))) := by
  obtain ⟨w, r, rfl, g⟩ := cm_pr_some h
  clear h
  rw [List.map_cons]
  by_cases hw : w = 0
  · rw [if_pos hw] at g
    subst hw
    obtain ⟨rfl, rfl, rfl, rfl⟩ := cm_go_inj g
    rw [cm_tv_0]
    exact ⟨rfl, lv_ifnonnullN hx hb hd (k ls hL)⟩
  · rw [if_neg hw] at g
    obtain ⟨rfl, rfl, rfl, rfl⟩ := cm_go_inj g
    rw [cm_tv_ref hw]
    exact ⟨rfl, lv_ifnonnull hx hb hd ht (k ls hL)⟩
end
