/-! SOUNDNESS: any step, any end, any method -/
def cm_sw (i : Instr) : Bool := match i with
  | .tableswitch _ _ _ _ => true
  | .lookupswitch _ _ => true
  | .iinc _ _ => true
  | _ => false
/-- what the tables say of an instruction -/
def cm_inf (P : cm_P) (G : cm_G) (N : cm_N) (M : Nat → cm_D) (own mn : String) (ret : Option FieldType) (rk pc : Nat) (e : cm_E) : Prop := match e with
  | (i, len, x, y, z, v) => match i with
    | .iinc _ _ => len = 3 ∨ len = 6
    | .getfield n => cm_fok G own n x y z
    | .putfield n => cm_fok G own n x y z ∧ cm_fin G own mn x y
    | .new n => (z = 0 ∧ cm_nok G own n x y) ∨ (z ≠ 0 ∧ cm_xok G own n x y)
    | .newarray t => newarray.typeOf t = cm_ak x ∧ 100 < x ∧ x < 105 ∧ Cond.arrayClass (cm_ak x) ∈ lw_all
    | .anewarray n => ∃ C, cm_ak x = .object C ∧ 104 < x ∧ x < 110 ∧ Cond.classLink own n C ∈ lw_all ∧ Cond.arrayOver (.object C) ∈ lw_tbl
    | .checkcast n => Cond.classLink own n (N.2.2.1 x) ∈ lw_all
    | .instanceof n => Cond.classLink own n (N.2.2.1 x) ∈ lw_all
    | .ldc n => cm_kok N own n v
    | .ldc_w n => ∃ w, v = .int w ∧ Cond.constant own n w ∈ lw_all
    | .ldc2_w n => ∃ w, v = .long w ∧ Cond.constantLong own n w ∈ lw_all
    | .getstatic n => (z = 0 ∧ ∃ q ∈ N.1, q.2.2.2 = v ∧ (Cond.fieldLink own n q.1 q.2.1 q.2.2.1 ∈ lw_all ∨ ∃ host, Cond.fieldLinkNest own n q.1 q.2.1 q.2.2.1 host ∈ lw_tbl)) ∨ (z ≠ 0 ∧ y = cm_sI ∧ Cond.fieldLink own n cm_sC cm_sF cm_sT ∈ lw_all ∧ cm_sk own 1059 (M x) 3)
    | .goto o => (pc : Int) + o = (x : Int)
    | .ifCond _ o => (pc : Int) + o = (x : Int)
    | .if_icmp _ o => (pc : Int) + o = (x : Int)
    | .ifnull o => (pc : Int) + o = (x : Int)
    | .ifnonnull o => (pc : Int) + o = (x : Int)
    | .if_acmp _ o => (pc : Int) + o = (x : Int)
    | .invokestatic n => (z = 0 ∧ cm_sk own n (M x) y) ∨ (z ≠ 0 ∧ Cond.methodLink own n arraycopyName ∈ lw_all ∧ Cond.native arraycopyName ∈ lw_all ∧ Cond.static arraycopyName ∈ lw_all ∧ Cond.initialized "java/lang/System" ∈ lw_all)
    | .invokespecial n => (z = 0 ∧ 0 < y ∧ cm_ik own n (M x) (y - 1)) ∨ (z ≠ 0 ∧ Cond.methodLink own n objectInit ∈ lw_all ∧ Cond.instanceMethod objectInit ∈ lw_all ∧ Cond.code objectInit ⟨#[0xb1]⟩ 1 none ∈ lw_all)
    | .invokevirtual n => (z = 0 ∧ 0 < y ∧ ∀ t mm, cm_disp P x t = some mm → t ≠ 0 ∧ t < 100 ∧ ∀ r : vw_C, (cg_cl G)[t]? = some r → cm_vk own n r.1 (M mm) (y - 1))
        ∨ (z = 2 ∧ v = .ref N.2.2.2 ∧ N.2.2.2 ≠ 0 ∧ Cond.methodLink own n ⟨"java/lang/Object", "getClass", "()Ljava/lang/Class;"⟩ ∈ lw_all ∧ Cond.selects "[Ljava/lang/Object;" ⟨"java/lang/Object", "getClass", "()Ljava/lang/Class;"⟩ ⟨"java/lang/Object", "getClass", "()Ljava/lang/Class;"⟩ ∈ lw_all ∧ Cond.instanceMethod ⟨"java/lang/Object", "getClass", "()Ljava/lang/Class;"⟩ ∈ lw_all ∧ Cond.native ⟨"java/lang/Object", "getClass", "()Ljava/lang/Class;"⟩ ∈ lw_all)
        ∨ ((z ≠ 2 ∧ z ≠ 0) ∧ ∃ ad, "[" ++ (cm_ak x).toString = ad ∧ Cond.methodLink own n ⟨ad, "clone", "()Ljava/lang/Object;"⟩ ∈ lw_all ∧ Cond.sameMethod ad "java/lang/Object" "clone" "()Ljava/lang/Object;" ∈ lw_all ∧ Cond.native ⟨"java/lang/Object", "clone", "()Ljava/lang/Object;"⟩ ∈ lw_all ∧ Cond.instanceMethod ⟨"java/lang/Object", "clone", "()Ljava/lang/Object;"⟩ ∈ lw_all ∧ Cond.selects ad ⟨ad, "clone", "()Ljava/lang/Object;"⟩ ⟨"java/lang/Object", "clone", "()Ljava/lang/Object;"⟩ ∈ lw_all ∧ Cond.castable ad "java/lang/Cloneable" ∈ lw_tbl)
    | .invokeinterface n _ => 0 < y ∧ ∀ t mm, cm_disp P x t = some mm → t ≠ 0 ∧ t < 60 ∧ ∀ r : vw_C, (cg_cl G)[t]? = some r → cm_fk own n r.1 (M mm) (y - 1)
    | .athrow => x < 100 ∧ ∀ r : vw_C, (cg_cl G)[x]? = some r → r.1 = cm_EN
    | .ireturn => ∃ ty, ret = some ty ∧ z = cm_kd ty ∧ z ≤ 5 ∧ z ≠ 1 ∧ z ≠ 2 ∧ rk = 1
    | .lreturn => ret = some .long ∧ rk = 2
    | .areturn => ∃ rt, ret = some rt ∧ ((∃ n, rt = .object n) ∨ ∃ t, rt = .array t) ∧ rk = 3
    | .return_ => ret = none ∧ rk = 0
    | _ => True
/-- the making of the exception is one step -/
def cm_mac (cc : ByteArray) (pc : Nat) (e : cm_E) : Bool := match e.1 with
  | .getstatic _ => e.2.2.2.2.1 == 0 || decide (decode cc (pc + 3) = .ok (.invokestatic 1059, 3))
  | .new _ => e.2.2.2.2.1 == 0 || (decide (decode cc (pc + 3) = .ok (.dup, 1)) && decide (decode cc (pc + 4) = .ok (.invokespecial 15, 3)))
  | _ => true
def cm_eok (P : cm_P) (G : cm_G) (N : cm_N) (M : Nat → cm_D) (own mn : String) (ret : Option FieldType) (rk : Nat) (cc : ByteArray) (pc : Nat) (e : cm_E) : Prop := decode cc pc = .ok (e.1, e.2.1) ∧ (cm_sw e.1 = true ∨ e.2.1 = cm_il e.1) ∧ cm_inf P G N M own mn ret rk pc e ∧ cm_mac cc pc e = true
section
variable {p : Program} {l : Launch} {e : Env} {R : Room} {s : State} {m : MethodId} {args : Array Value} {below : List Frame} {meth : Method} {c : Code} {H : Heap} {locs : List Loc} {cells slots : Nat} {Q : State → Prop} {cc : ByteArray} {P : cm_P} {G : cm_G} {N : cm_N} {M : Nat → cm_D} {d : Nat} {calls : Nat → List Value → cm_S → Option cm_O} {mi pc pc2 nL : Nat} {ls : Array Slot} {L L2 st st2 : List Value} {σ σ2 : cm_S} {own mn : String} {ret : Option FieldType} {rk : Nat}
theorem cm_lift (hJ : cm_J P G s σ H locs) (hs : ∀ Q : State → Prop, (∀ ls2, cm_LR (cg_f G) nL L2 ls2 → W p l e R s m args below meth c H locs cells slots Q (F0 m pc2 ls2 (st2.map (cm_tv (cg_f G))))) → σ2 = σ ∧ W p l e R s m args below meth c H locs cells slots Q (F0 m pc ls (st.map (cm_tv (cg_f G)))))
    (k : ∀ H2 locs2 ls2, cm_J P G s σ2 H2 locs2 → cm_LR (cg_f G) nL L2 ls2 → W p l e R s m args below meth c H2 locs2 (cells + (cm_nx σ2 - cm_nx σ)) (slots + (cm_sz σ2 - cm_sz σ)) Q (F0 m pc2 ls2 (st2.map (cm_tv (cg_f G))))) : W p l e R s m args below meth c H locs cells slots Q (F0 m pc ls (st.map (cm_tv (cg_f G)))) := by
  have e1 : σ2 = σ := (hs (fun _ => True) (fun ls2 _ T _ _ => ⟨_, Steps.refl _, trivial⟩)).1
  subst e1
  refine (hs Q (fun ls2 h2 => ?_)).2
  have := k H locs ls2 hJ h2
  simpa using this
theorem cm_liftH (hnx : cm_nx σ2 = cm_nx σ) (hsz : cm_sz σ2 = cm_sz σ) (hs : (∀ H2 locs2 ls2, cm_J P G s σ2 H2 locs2 → cm_LR (cg_f G) nL L2 ls2 → W p l e R s m args below meth c H2 locs2 cells slots Q (F0 m pc2 ls2 (st2.map (cm_tv (cg_f G))))) → W p l e R s m args below meth c H locs cells slots Q (F0 m pc ls (st.map (cm_tv (cg_f G)))))
    (k : ∀ H2 locs2 ls2, cm_J P G s σ2 H2 locs2 → cm_LR (cg_f G) nL L2 ls2 → W p l e R s m args below meth c H2 locs2 (cells + (cm_nx σ2 - cm_nx σ)) (slots + (cm_sz σ2 - cm_sz σ)) Q (F0 m pc2 ls2 (st2.map (cm_tv (cg_f G))))) : W p l e R s m args below meth c H locs cells slots Q (F0 m pc ls (st.map (cm_tv (cg_f G)))) := by
  refine hs (fun H2 locs2 ls2 h1 h2 => ?_)
  have := k H2 locs2 ls2 h1 h2
  rw [hnx, hsz] at this
  simpa using this
/-- stores make nothing -/
def cm_sm (σ : cm_S) (X : cm_X) : Prop := ∀ f, X = some (.inl f) → cm_nx f.2.2.2 = cm_nx σ ∧ cm_sz f.2.2.2 = cm_sz σ
theorem cm_sm_go {ls0 st0 : List Value} {τ : cm_S} {pc0 : Nat} (h : cm_nx τ = cm_nx σ ∧ cm_sz τ = cm_sz σ) : cm_sm σ (cm_go pc0 ls0 st0 τ) := fun f e => by cases e; exact h
theorem cm_sm_no : cm_sm σ none := fun f e => by cases e
theorem cm_sm_pi {st0 : List Value} {k : Int32 → List Value → cm_X} (h : ∀ x r, cm_sm σ (k x r)) : cm_sm σ (cm_pi st0 k) := fun r e => by
  obtain ⟨x, t, -, g⟩ := cm_pi_some e; exact h x t r g
theorem cm_sm_pl {st0 : List Value} {k : Int64 → List Value → cm_X} (h : ∀ x r, cm_sm σ (k x r)) : cm_sm σ (cm_pl st0 k) := fun r e => by
  obtain ⟨x, t, -, g⟩ := cm_pl_some e; exact h x t r g
theorem cm_sm_pr {st0 : List Value} {k : Nat → List Value → cm_X} (h : ∀ x r, cm_sm σ (k x r)) : cm_sm σ (cm_pr st0 k) := fun r e => by
  obtain ⟨x, t, -, g⟩ := cm_pr_some e; exact h x t r g
theorem cm_sm_if {c : Prop} [Decidable c] {a b : cm_X} (h1 : cm_sm σ a) (h2 : cm_sm σ b) : cm_sm σ (if c then a else b) := by
  by_cases hc : c
  · rw [if_pos hc]; exact h1
  · rw [if_neg hc]; exact h2
theorem cm_sm_copy {a b : Nat} {sp dp n : Int32} {k : cm_S → cm_X} (h : ∀ τ, cm_nx τ = cm_nx σ ∧ cm_sz τ = cm_sz σ → cm_sm σ (k τ)) : cm_sm σ (cm_copy P σ a b sp dp n k) := by
  unfold cm_copy
  exact cm_sm_if (cm_sm_if (h _ ⟨rfl, rfl⟩) (cm_sm_if (h _ ⟨rfl, rfl⟩) (cm_sm_if (h _ ⟨rfl, rfl⟩) cm_sm_no))) cm_sm_no
set_option maxHeartbeats 4000000 in
theorem cm_stepW (hst : l.stackTraces = false) (S : CallFix p m c cc nL s args lw_all own) (hA : cm_ad P G) (hPk : cm_Pok P) (hK : cm_clok G) (hEn : cm_env P G N s s.heap) (hR : cm_rm R d) (hcl : cm_hcl P G N M l d calls) (hmn : meth.name = mn) {en : cm_E} (ho : cm_eok P G N M own mn ret rk cc pc en) (hc : cm_hc p l e R s m args below meth c P mi pc) (hL : cm_LR (cg_f G) nL L ls) (hJ : cm_J P G s σ H locs)
    (hrm : cm_hrm R cells slots σ (.inl (pc2, L2, st2, σ2))) (h : cm_step P d calls mi pc en L st σ = some (.inl (pc2, L2, st2, σ2)))
    (k : ∀ H2 locs2 ls2, cm_J P G s σ2 H2 locs2 → cm_LR (cg_f G) nL L2 ls2 → W p l e R s m args below meth c H2 locs2 (cells + (cm_nx σ2 - cm_nx σ)) (slots + (cm_sz σ2 - cm_sz σ)) Q (F0 m pc2 ls2 (st2.map (cm_tv (cg_f G))))) : W p l e R s m args below meth c H locs cells slots Q (F0 m pc ls (st.map (cm_tv (cg_f G)))) := by
  obtain ⟨i, len, x, y, z, v⟩ := en
  obtain ⟨hd, hlen, ho, hmac⟩ := ho
  dsimp only at hd hlen
  have hx := S.1
  have hb := S.2.1
  have hml := S.2.2.1
  have hown := S.2.2.2.1
  have hts := S.2.2.2.2
  have hak := hEn.1
  have hC := hEn.2.1
  have hR2 := hEn.2.2.1
  have hT := hEn.2.2.2.1
  have hSt := hEn.2.2.2.2.1
  have hStr := hEn.2.2.2.2.2.1
  have hCa := hEn.2.2.2.2.2.2.1
  have hAs := hEn.2.2.2.2.2.2.2.1
  have hMi := hEn.2.2.2.2.2.2.2.2.1
  have hTh := hEn.2.2.2.2.2.2.2.2.2.1
  have hSio := hEn.2.2.2.2.2.2.2.2.2.2
  have kN : cm_kN p l e R s m args below meth c cells slots Q P G nL σ (.inl (pc2, L2, st2, σ2)) := by
    intro a1 a2 a3 a4 e1
    cases e1
    exact k
  have kE : cm_kE p l e R s m args below meth c cells slots Q P G mi pc ls σ (.inl (pc2, L2, st2, σ2)) := fun _ _ e1 => by cases e1
  by_cases hsw : cm_sw i = true
  · cases i with
    | tableswitch dflt lo hi offs => exact cm_lift hJ (fun Q k => cs_tableswitch hx hb hd hL h k) k
    | lookupswitch dflt ps => exact cm_lift hJ (fun Q k => cs_lookupswitch hx hb hd hL h k) k
    | iinc n q => exact cm_lift hJ (fun Q k => cs_iinc hx hb hd hL ho h k) k
    | _ => exact absurd hsw (by simp [cm_sw])
  have hlen := hlen.resolve_left hsw
  subst hlen
  cases i with
  | iconst n => exact cm_lift hJ (fun Q k => cs_iconst hx hb hd hL h k) k
  | bipush n => exact cm_lift hJ (fun Q k => cs_bipush hx hb hd hL h k) k
  | sipush n => exact cm_lift hJ (fun Q k => cs_sipush hx hb hd hL h k) k
  | lconst n => exact cm_lift hJ (fun Q k => cs_lconst hx hb hd hL h k) k
  | iload_n n => exact cm_lift hJ (fun Q k => cs_iload_n hx hb hd hL h k) k
  | iload n => exact cm_lift hJ (fun Q k => cs_iload hx hb hd hL h k) k
  | lload_n n => exact cm_lift hJ (fun Q k => cs_lload_n hx hb hd hL h k) k
  | lload n => exact cm_lift hJ (fun Q k => cs_lload hx hb hd hL h k) k
  | aload_n n => exact cm_lift hJ (fun Q k => cs_aload_n hx hb hd hL h k) k
  | aload n => exact cm_lift hJ (fun Q k => cs_aload hx hb hd hL h k) k
  | istore_n n => exact cm_lift hJ (fun Q k => cs_istore_n hx hb hd hL h k) k
  | istore n => exact cm_lift hJ (fun Q k => cs_istore hx hb hd hL h k) k
  | astore_n n => exact cm_lift hJ (fun Q k => cs_astore_n hx hb hd hL h k) k
  | astore n => exact cm_lift hJ (fun Q k => cs_astore hx hb hd hL h k) k
  | lstore_n n => exact cm_lift hJ (fun Q k => cs_lstore_n hx hb hd hL h k) k
  | lstore n => exact cm_lift hJ (fun Q k => cs_lstore hx hb hd hL h k) k
  | iinc n q => exact absurd rfl hsw
  | aconst_null => exact cm_lift hJ (fun Q k => cs_aconst_null hx hb hd hL h k) k
  | iadd => exact cm_lift hJ (fun Q k => cs_iadd hx hb hd hL h k) k
  | isub => exact cm_lift hJ (fun Q k => cs_isub hx hb hd hL h k) k
  | imul => exact cm_lift hJ (fun Q k => cs_imul hx hb hd hL h k) k
  | idiv => exact cm_lift hJ (fun Q k => cs_idiv hx hb hd hL h k) k
  | irem => exact cm_lift hJ (fun Q k => cs_irem hx hb hd hL h k) k
  | iand => exact cm_lift hJ (fun Q k => cs_iand hx hb hd hL h k) k
  | ior => exact cm_lift hJ (fun Q k => cs_ior hx hb hd hL h k) k
  | ixor => exact cm_lift hJ (fun Q k => cs_ixor hx hb hd hL h k) k
  | ishl => exact cm_lift hJ (fun Q k => cs_ishl hx hb hd hL h k) k
  | ishr => exact cm_lift hJ (fun Q k => cs_ishr hx hb hd hL h k) k
  | iushr => exact cm_lift hJ (fun Q k => cs_iushr hx hb hd hL h k) k
  | ineg => exact cm_lift hJ (fun Q k => cs_ineg hx hb hd hL h k) k
  | i2l => exact cm_lift hJ (fun Q k => cs_i2l hx hb hd hL h k) k
  | i2b => exact cm_lift hJ (fun Q k => cs_i2b hx hb hd hL h k) k
  | i2c => exact cm_lift hJ (fun Q k => cs_i2c hx hb hd hL h k) k
  | ladd => exact cm_lift hJ (fun Q k => cs_ladd hx hb hd hL h k) k
  | lsub => exact cm_lift hJ (fun Q k => cs_lsub hx hb hd hL h k) k
  | lmul => exact cm_lift hJ (fun Q k => cs_lmul hx hb hd hL h k) k
  | ldiv => exact cm_lift hJ (fun Q k => cs_ldiv hx hb hd hL h k) k
  | lrem => exact cm_lift hJ (fun Q k => cs_lrem hx hb hd hL h k) k
  | land => exact cm_lift hJ (fun Q k => cs_land hx hb hd hL h k) k
  | lor => exact cm_lift hJ (fun Q k => cs_lor hx hb hd hL h k) k
  | lxor => exact cm_lift hJ (fun Q k => cs_lxor hx hb hd hL h k) k
  | lneg => exact cm_lift hJ (fun Q k => cs_lneg hx hb hd hL h k) k
  | lshl => exact cm_lift hJ (fun Q k => cs_lshl hx hb hd hL h k) k
  | lshr => exact cm_lift hJ (fun Q k => cs_lshr hx hb hd hL h k) k
  | lushr => exact cm_lift hJ (fun Q k => cs_lushr hx hb hd hL h k) k
  | lcmp => exact cm_lift hJ (fun Q k => cs_lcmp hx hb hd hL h k) k
  | l2i => exact cm_lift hJ (fun Q k => cs_l2i hx hb hd hL h k) k
  | pop => exact cm_lift hJ (fun Q k => cs_pop hx hb hd hL h k) k
  | dup => exact cm_lift hJ (fun Q k => cs_dup hx hb hd hL h k) k
  | dup_x1 => exact cm_lift hJ (fun Q k => cs_dup_x1 hx hb hd hL h k) k
  | dup2 => exact cm_lift hJ (fun Q k => cs_dup2 hx hb hd hL h k) k
  | goto o => exact cm_lift hJ (fun Q k => cs_goto hx hb hd hL ho h k) k
  | ifCond q o =>
    cases q with
    | eq => exact cm_lift hJ (fun Q k => cs_ifCond_eq hx hb hd hL ho h k) k
    | ne => exact cm_lift hJ (fun Q k => cs_ifCond_ne hx hb hd hL ho h k) k
    | lt => exact cm_lift hJ (fun Q k => cs_ifCond_lt hx hb hd hL ho h k) k
    | ge => exact cm_lift hJ (fun Q k => cs_ifCond_ge hx hb hd hL ho h k) k
    | gt => exact cm_lift hJ (fun Q k => cs_ifCond_gt hx hb hd hL ho h k) k
    | le => exact cm_lift hJ (fun Q k => cs_ifCond_le hx hb hd hL ho h k) k
  | if_icmp q o =>
    cases q with
    | eq => exact cm_lift hJ (fun Q k => cs_if_icmp_eq hx hb hd hL ho h k) k
    | ne => exact cm_lift hJ (fun Q k => cs_if_icmp_ne hx hb hd hL ho h k) k
    | lt => exact cm_lift hJ (fun Q k => cs_if_icmp_lt hx hb hd hL ho h k) k
    | ge => exact cm_lift hJ (fun Q k => cs_if_icmp_ge hx hb hd hL ho h k) k
    | gt => exact cm_lift hJ (fun Q k => cs_if_icmp_gt hx hb hd hL ho h k) k
    | le => exact cm_lift hJ (fun Q k => cs_if_icmp_le hx hb hd hL ho h k) k
  | ifnull o => exact cm_lift hJ (fun Q k => cs_ifnull hx hb hd hL ho h k) k
  | ifnonnull o => exact cm_lift hJ (fun Q k => cs_ifnonnull hx hb hd hL ho h k) k
  | if_acmp q o =>
    cases q with
    | eq => exact cm_lift hJ (fun Q k => cs_if_acmp_eq hx hb hd hL hA ho h k) k
    | ne => exact cm_lift hJ (fun Q k => cs_if_acmp_ne hx hb hd hL hA ho h k) k
  | getfield n => exact cm_lift hJ (fun Q k => cs_getfield hx hb hd hL hown hts hJ hC hT hK ho h k) k
  | putfield n =>
    have q : cm_sm σ (cm_step P d calls mi pc (.putfield n, cm_il (.putfield n), x, y, z, v) L st σ) := by
      match z with
      | 1 => exact cm_sm_pl fun _ _ => cm_sm_pr fun _ _ => cm_sm_if (cm_sm_go ⟨rfl, rfl⟩) cm_sm_no
      | 2 => exact cm_sm_pr fun _ _ => cm_sm_pr fun _ _ => cm_sm_if (cm_sm_go ⟨rfl, rfl⟩) cm_sm_no
      | 0 => exact cm_sm_pi fun _ _ => cm_sm_pr fun _ _ => cm_sm_if (cm_sm_go ⟨rfl, rfl⟩) cm_sm_no
      | _ + 3 => exact cm_sm_pi fun _ _ => cm_sm_pr fun _ _ => cm_sm_if (cm_sm_go ⟨rfl, rfl⟩) cm_sm_no
    exact cm_liftH (q _ h).1 (q _ h).2 (fun k => cs_putfield hx hb hd hL hA hJ hak hown hts hC hT hK ho.1 (by rw [hmn]; exact ho.2) h k) k
  | iastore =>
    have q : cm_sm σ (cm_step P d calls mi pc (.iastore, cm_il .iastore, x, y, z, v) L st σ) := cm_sm_pi fun _ _ => cm_sm_pi fun _ _ => cm_sm_pr fun _ _ => cm_sm_if (cm_sm_go ⟨rfl, rfl⟩) cm_sm_no
    exact cm_liftH (q _ h).1 (q _ h).2 (fun k => cs_iastore hx hb hd hL hA hJ hak h k) k
  | lastore =>
    have q : cm_sm σ (cm_step P d calls mi pc (.lastore, cm_il .lastore, x, y, z, v) L st σ) := cm_sm_pl fun _ _ => cm_sm_pi fun _ _ => cm_sm_pr fun _ _ => cm_sm_if (cm_sm_go ⟨rfl, rfl⟩) cm_sm_no
    exact cm_liftH (q _ h).1 (q _ h).2 (fun k => cs_lastore hx hb hd hL hA hJ hak h k) k
  | bastore =>
    have q : cm_sm σ (cm_step P d calls mi pc (.bastore, cm_il .bastore, x, y, z, v) L st σ) := cm_sm_pi fun _ _ => cm_sm_pi fun _ _ => cm_sm_pr fun _ _ => cm_sm_if (cm_sm_go ⟨rfl, rfl⟩) cm_sm_no
    exact cm_liftH (q _ h).1 (q _ h).2 (fun k => cs_bastore hx hb hd hL hA hJ hak h k) k
  | aastore =>
    have q : cm_sm σ (cm_step P d calls mi pc (.aastore, cm_il .aastore, x, y, z, v) L st σ) := cm_sm_pr fun _ _ => cm_sm_pi fun _ _ => cm_sm_pr fun _ _ => cm_sm_if (cm_sm_go ⟨rfl, rfl⟩) cm_sm_no
    exact cm_liftH (q _ h).1 (q _ h).2 (fun k => cs_aastore hx hb hd hL hA hJ hak hAs hR2 hC hPk h k) k
  | iaload => exact cm_lift hJ (fun Q k => cs_iaload hx hb hd hL hA hJ hak h k) k
  | laload => exact cm_lift hJ (fun Q k => cs_laload hx hb hd hL hA hJ hak h k) k
  | baload => exact cm_lift hJ (fun Q k => cs_baload hx hb hd hL hA hJ hak h k) k
  | aaload => exact cm_lift hJ (fun Q k => cs_aaload hx hb hd hL hA hJ hak h k) k
  | arraylength => exact cm_lift hJ (fun Q k => cs_arraylength hx hb hd hL hA hJ hak h k) k
  | new n =>
    rcases ho with ⟨hz, ho⟩ | ⟨hz, ho⟩
    · have e9 : cm_nx σ2 = cm_nx σ + 1 := by
        subst hz
        have := (cm_go_inj h).2.2.2
        rw [this]; rfl
      obtain ⟨r1, r2⟩ := hrm
      change cells + (cm_nx σ2 - cm_nx σ) ≤ R.cells at r1
      change slots + (cm_sz σ2 - cm_sz σ) ≤ R.slots at r2
      refine cs_new hx hb hd hL hA hJ hak hown hts hC hK hz ho (by omega) r2 h (fun H2 ls2 j2 l2 => ?_)
      have := k H2 locs ls2 j2 l2
      rw [show cm_nx σ2 - cm_nx σ = 1 by omega] at this
      exact this
    · have e9 : cm_nx σ2 = cm_nx σ + 1 := by
        rw [(cm_macro hz h).2.2.2.2.2]; rfl
      obtain ⟨r1, r2⟩ := hrm
      change cells + (cm_nx σ2 - cm_nx σ) ≤ R.cells at r1
      change slots + (cm_sz σ2 - cm_sz σ) ≤ R.slots at r2
      have hmc : decode cc (pc + 3) = .ok (.dup, 1) ∧ decode cc (pc + 4) = .ok (.invokespecial 15, 3) := by
        have h9 : (z == 0 || (decide (decode cc (pc + 3) = .ok (.dup, 1)) && decide (decode cc (pc + 4) = .ok (.invokespecial 15, 3)))) = true := hmac
        simpa [hz] using h9
      refine cs_newX hx hb hd hmc.1 hmc.2 hL hA hJ hown hts hml hR hC hT hTh hst hz (cm_macro hz h).1 ho (by omega) r2 h (fun H2 ls2 j2 l2 => ?_)
      have := k H2 locs ls2 j2 l2
      rw [show cm_nx σ2 - cm_nx σ = 1 by omega] at this
      exact this
  | newarray t =>
    have e9 : cm_nx σ2 = cm_nx σ + 1 := by
      obtain ⟨n0, r, -, g⟩ := cm_pi_some h
      obtain ⟨-, g⟩ := cm_if_some g
      have := (cm_go_inj g).2.2.2
      rw [this]; rfl
    obtain ⟨r1, r2⟩ := hrm
    change cells + (cm_nx σ2 - cm_nx σ) ≤ R.cells at r1
    change slots + (cm_sz σ2 - cm_sz σ) ≤ R.slots at r2
    refine cs_newarray hx hb hd hL hA hJ hak hown hts hR2 ho (by omega) r2 h (fun H2 ls2 j2 l2 => ?_)
    have := k H2 locs ls2 j2 l2
    rw [show cm_nx σ2 - cm_nx σ = 1 by omega] at this
    exact this
  | anewarray n =>
    have e9 : cm_nx σ2 = cm_nx σ + 1 := by
      obtain ⟨n0, r, -, g⟩ := cm_pi_some h
      obtain ⟨-, g⟩ := cm_if_some g
      have := (cm_go_inj g).2.2.2
      rw [this]; rfl
    obtain ⟨r1, r2⟩ := hrm
    change cells + (cm_nx σ2 - cm_nx σ) ≤ R.cells at r1
    change slots + (cm_sz σ2 - cm_sz σ) ≤ R.slots at r2
    refine cs_anewarray hx hb hd hL hA hJ hak hown hts hR2 hT ho (by omega) r2 h (fun H2 ls2 j2 l2 => ?_)
    have := k H2 locs ls2 j2 l2
    rw [show cm_nx σ2 - cm_nx σ = 1 by omega] at this
    exact this
  | checkcast n => exact cm_lift hJ (fun Q k => cs_checkcast hx hb hd hL hA hJ hown hts hC hCa hPk ho h k) k
  | instanceof n => exact cm_lift hJ (fun Q k => cs_instanceof hx hb hd hL hA hJ hown hts hC hCa hPk ho h k) k
  | ldc n => exact cm_lift hJ (fun Q k => cs_ldc hx hb hd hL hown hts hStr hMi ho h k) k
  | ldc_w n => exact cm_lift hJ (fun Q k => cs_ldc_w hx hb hd hL hown hts ho h k) k
  | ldc2_w n => exact cm_lift hJ (fun Q k => cs_ldc2_w hx hb hd hL hown hts ho h k) k
  | getstatic n =>
    rcases ho with ⟨hz, ho⟩ | ⟨hz, hy, hlk, hsk⟩
    · exact cm_lift hJ (fun Q k => cs_getstatic hx hb hd hL hJ hown hts hSt hT hz ho h k) k
    · have hmc : decode cc (pc + 3) = .ok (.invokestatic 1059, 3) := by
        have h9 : (z == 0 || decide (decode cc (pc + 3) = .ok (.invokestatic 1059, 3))) = true := hmac
        simpa [hz] using h9
      have g : (cm_pi st fun n st => cm_pi st fun i st => cm_sio P d calls mi pc x y i n st σ (cm_go (pc + 6) L (.int i :: st) σ)) = some (.inl (pc2, L2, st2, σ2)) := by
        revert h
        cases z with
        | zero => exact absurd rfl hz
        | succ z => intro h; exact h
      clear h
      obtain ⟨n0, r1, rfl, g1⟩ := cm_pi_some g
      clear g
      obtain ⟨i0, r2, rfl, g2⟩ := cm_pi_some g1
      clear g1
      obtain ⟨⟨hd0, hw, hrk, hhd, c1, c2⟩, g3⟩ := cm_sio_some g2
      clear g2
      obtain ⟨rfl, rfl, rfl, rfl⟩ := cm_go_inj g3
      have hc2 : cm_hc p l e R s m args below meth c P mi (pc + 3) := fun q hq => by rw [hhd] at hq; cases hq
      have go : ∀ a : Nat, calls x [.int i0, .int n0, .ref a] σ2 = some (false, .int i0, σ2) → W p l e R s m args below meth c H locs cells slots Q (F0 m (pc + 3) ls ((Value.ref a :: Value.int n0 :: Value.int i0 :: r2).map (cm_tv (cg_f G)))) := by
        intro a ca
        refine cm_inv_static (x := x) (y := 3) (z := 0) (v := .null) (len := 3) (Rr := .inl (pc + 6, L2, .int i0 :: r2, σ2)) S hmc hL hEn hJ hR hcl rfl hsk hc2 hrm ?_ kN (fun _ _ e1 => by cases e1)
        show (if d = 0 then none else _) = _
        rw [if_neg hd0]
        show (if _ then _ else _) = _
        rw [if_pos hw, ca, hrk]
        rfl
      rcases hSio with hs | hs
      · refine va_gets hx hb hs hJ.2.2.2 hown (hts _ hlk) (fun _ e => e) hd ?_
        have := go 0 c1
        rwa [List.map_cons, cm_tv_0] at this
      · refine va_gets hx hb hs hJ.2.2.2 hown (hts _ hlk) (fun _ e => e) hd ?_
        have := go y c2
        rwa [List.map_cons, hy, cm_tv_ref (by decide)] at this
  | invokestatic n =>
    rcases ho with ⟨hz, ho⟩ | ⟨hz, ho⟩
    · exact cm_inv_static S hd hL hEn hJ hR hcl hz ho hc hrm h kN kE
    · have q : cm_sm σ (cm_step P d calls mi pc (.invokestatic n, cm_il (.invokestatic n), x, y, z, v) L st σ) := by
        obtain ⟨z, rfl⟩ : ∃ q, z = q + 1 := ⟨z - 1, by omega⟩
        exact cm_sm_if cm_sm_no (cm_sm_pi fun _ _ => cm_sm_pi fun _ _ => cm_sm_pr fun _ _ => cm_sm_pi fun _ _ => cm_sm_pr fun _ _ => cm_sm_if (cm_sm_copy fun _ h => cm_sm_go h) cm_sm_no)
      exact cm_liftH (q _ h).1 (q _ h).2 (fun k => cs_arraycopy hx hb hd hL hA hJ hak hown hts hml hR hz hC hR2 hAs hPk ho h k) k
  | invokespecial n =>
    rcases ho with ⟨hz, ho⟩ | ⟨hz, ho⟩
    · exact cm_inv_special S hd hL hEn hJ hR hcl hz ho hc hrm h kN kE
    · exact cm_lift hJ (fun Q k => cs_objinit hx hb hd hL hown hts hml hR hz ho hJ h k) k
  | invokevirtual n =>
    rcases ho with ⟨hz, ho⟩ | ⟨hz, ho⟩ | ⟨hz, ad, ho⟩
    · exact cm_inv_virtual S hd hL hEn hJ hR hcl hz ho hc hrm h kN kE
    · exact cm_lift hJ (fun Q k => cs_getClass hx hb hd hL hJ hak hown hts hml hR hz hR2 hMi ho h k) k
    · have e9 : cm_nx σ2 = cm_nx σ + 1 := by
        obtain ⟨-, g⟩ := cm_ifn_some h
        have g : (cm_pr st fun a st => if cm_wd st ≤ 8 ∧ cm_tg σ a = x ∧ 100 < x ∧ (cm_K P ≤ a ∨ 104 < x) ∧ cm_ln σ a ≤ 60000000 then cm_go (pc + 3) L (.ref (cm_nx σ) :: st) (cm_cl σ x a) else none) = some (.inl (pc2, L2, st2, σ2)) := by
          revert g
          match z, hz with
          | 0, hz => exact absurd rfl hz.2
          | 2, hz => exact absurd rfl hz.1
          | 1, _ => intro h; exact h
          | z + 3, _ => intro h; exact h
        obtain ⟨a, r, -, g⟩ := cm_pr_some g
        obtain ⟨-, g⟩ := cm_if_some g
        have := (cm_go_inj g).2.2.2
        rw [this]; rfl
      obtain ⟨r1, r2⟩ := hrm
      change cells + (cm_nx σ2 - cm_nx σ) ≤ R.cells at r1
      change slots + (cm_sz σ2 - cm_sz σ) ≤ R.slots at r2
      refine cs_clone hx hb hd hL hA hJ hak hown hts hml hR hz hR2 hT ho (by omega) r2 h (fun H2 ls2 j2 l2 => ?_)
      have := k H2 locs ls2 j2 l2
      rw [show cm_nx σ2 - cm_nx σ = 1 by omega] at this
      exact this
  | invokeinterface n q =>
    exact cm_inv_face S hd hL hEn hJ hR hcl ho hc hrm h kN kE
  | athrow =>
    obtain ⟨a, r, rfl, g⟩ := cm_pr_some h
    obtain ⟨⟨hta, hx0, haK⟩, g⟩ := cm_if_some g
    obtain ⟨w0, -, cell, c1, c2, c3, c4, c5, -⟩ := hJ.2.2.1 a (by rw [hta]; exact hx0)
    obtain ⟨q1, r2, q2, -⟩ := c5 (by rw [hta]; exact ho.1)
    rw [hta] at q1 q2
    have hEN := ho.2 _ q2
    have hfc : s.vm.findClass cm_EN = some cell.cls := by rw [← hEN, q1]; exact (hC _ _ q2).2.1
    have hvm := c4 haK
    cases hh : cm_hd P mi pc with
    | none => rw [hh] at g; cases g
    | some q =>
      rw [hh] at g
      cases q with
      | zero => cases g
      | succ q =>
        obtain ⟨rfl, rfl, rfl, rfl⟩ := cm_go_inj g
        have k2 := k H locs ls hJ hL
        simp only [Nat.sub_self, Nat.add_zero] at k2
        rw [List.map_cons, cm_tv_ref (by omega), List.map_nil] at k2
        rw [List.map_cons, cm_tv_ref (by omega)]
        exact vx_athrow hx hb hd (hc q hh Q _ cell H locs cells slots ls _ c1 hvm hfc k2)
  | ireturn =>
    obtain ⟨a, r, -, g⟩ := cm_pi_some h
    obtain ⟨-, g⟩ := cm_if_some g
    cases g
  | lreturn =>
    obtain ⟨a, r, -, g⟩ := cm_pl_some h
    obtain ⟨-, g⟩ := cm_if_some g
    cases g
  | areturn =>
    obtain ⟨a, r, -, g⟩ := cm_pr_some h
    obtain ⟨-, g⟩ := cm_if_some g
    cases g
  | return_ =>
    obtain ⟨-, g⟩ := cm_if_some h
    cases g
  | tableswitch a1 a2 a3 a4 => exact absurd rfl hsw
  | lookupswitch a1 a2 => exact absurd rfl hsw
  | _ => exact (by have h2 : (none : cm_X) = some _ := h; cases h2)
end
