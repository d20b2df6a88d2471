/-! SOUNDNESS: ends, runs, methods -/
/-- an instruction that cannot end a method -/
def cm_ne (X : cm_X) : Prop := ∀ r, ¬ X = some (.inr r)
theorem cm_ne_no : cm_ne none := fun r e => by cases e
theorem cm_ne_go {pc : Nat} {ls st : List Value} {τ : cm_S} : cm_ne (cm_go pc ls st τ) := fun r e => by cases e
theorem cm_ne_pi {st : List Value} {k : Int32 → List Value → cm_X} (h : ∀ x r, cm_ne (k x r)) : cm_ne (cm_pi st k) := fun r e => by
  obtain ⟨x, t, -, g⟩ := cm_pi_some e; exact h x t r g
theorem cm_ne_pl {st : List Value} {k : Int64 → List Value → cm_X} (h : ∀ x r, cm_ne (k x r)) : cm_ne (cm_pl st k) := fun r e => by
  obtain ⟨x, t, -, g⟩ := cm_pl_some e; exact h x t r g
theorem cm_ne_pr {st : List Value} {k : Nat → List Value → cm_X} (h : ∀ x r, cm_ne (k x r)) : cm_ne (cm_pr st k) := fun r e => by
  obtain ⟨x, t, -, g⟩ := cm_pr_some e; exact h x t r g
theorem cm_ne_pa {st : List Value} {k : Value → List Value → cm_X} (h : ∀ x r, cm_ne (k x r)) : cm_ne (cm_pa st k) := fun r e => by
  obtain ⟨x, t, -, g⟩ := cm_pa_some e; exact h x t r g
theorem cm_ne_li {ls : List Value} {i : Nat} {k : Int32 → cm_X} (h : ∀ x, cm_ne (k x)) : cm_ne (cm_li ls i k) := fun r e => by
  obtain ⟨x, -, g⟩ := cm_li_some e; exact h x r g
theorem cm_ne_ll {ls : List Value} {i : Nat} {k : Int64 → cm_X} (h : ∀ x, cm_ne (k x)) : cm_ne (cm_ll ls i k) := fun r e => by
  obtain ⟨x, -, g⟩ := cm_ll_some e; exact h x r g
theorem cm_ne_lr {ls : List Value} {i : Nat} {k : Nat → cm_X} (h : ∀ x, cm_ne (k x)) : cm_ne (cm_lr ls i k) := fun r e => by
  obtain ⟨x, -, g⟩ := cm_lr_some e; exact h x r g
theorem cm_ne_if {c : Prop} [Decidable c] {a b : cm_X} (h1 : cm_ne a) (h2 : cm_ne b) : cm_ne (if c then a else b) := by
  by_cases hc : c
  · rw [if_pos hc]; exact h1
  · rw [if_neg hc]; exact h2
def cm_en (i : Instr) : Bool := match i with
  | .ireturn => false
  | .lreturn => false
  | .areturn => false
  | .return_ => false
  | .athrow => false
  | .invokestatic _ => false
  | .invokespecial _ => false
  | .invokevirtual _ => false
  | .invokeinterface _ _ => false
  | _ => true
set_option maxHeartbeats 2000000 in
theorem cm_noend {P : cm_P} {d : Nat} {calls : Nat → List Value → cm_S → Option cm_O} {m pc : Nat} {L st : List Value} {σ : cm_S} (e : cm_E) (h : cm_en e.1 = true) {r : cm_O} : ¬ cm_step P d calls m pc e L st σ = some (.inr r) := by
  obtain ⟨i, len, x, y, z, v⟩ := e
  suffices hs : cm_ne (cm_step P d calls m pc (i, len, x, y, z, v) L st σ) from hs r
  cases i <;> first | (exfalso; exact Bool.noConfusion h) | skip
  all_goals unfold cm_step <;> dsimp only <;>
    repeat' (first
      | exact cm_ne_no
      | exact cm_ne_go
      | exact fun r e => cm_ne_go r (cm_sio_some e).2
      | refine cm_ne_if ?_ ?_
      | refine cm_ne_pi fun _ _ => ?_
      | refine cm_ne_pl fun _ _ => ?_
      | refine cm_ne_pr fun _ _ => ?_
      | refine cm_ne_pa fun _ _ => ?_
      | refine cm_ne_li fun _ => ?_
      | refine cm_ne_ll fun _ => ?_
      | refine cm_ne_lr fun _ => ?_
      | split)
section
variable {p : Program} {l : Launch} {e : Env} {R : Room} {s : State} {m : MethodId} {args : Array Value} {below : List Frame} {meth : Method} {c : Code} {H : Heap} {locs : List Loc} {cells slots mc ms : Nat} {Q : State → Prop} {cc : ByteArray} {P : cm_P} {G : cm_G} {N : cm_N} {M : Nat → cm_D} {d : Nat} {calls : Nat → List Value → cm_S → Option cm_O} {mi pc nL : Nat} {ls : Array Slot} {L st : List Value} {σ σ2 : cm_S} {own mn : String} {ret : Option FieldType} {rk : Nat} {b : Bool} {v : Value}
theorem cm_Jp_of (hJ : cm_J P G s σ H locs) {t : State} (ht : t.heap = H) (hal : s.vm.Alike t.vm) : cm_Jp P G σ t ∧ va_F (fun q => cg_b G ≤ q) s t := by
  obtain ⟨j1, j2, j3, j4, j5, j6⟩ := hJ
  refine ⟨⟨j1, by rw [ht]; exact j2, fun a ha => ?_⟩, by rw [ht]; exact j4, fun q h1 h2 => by rw [ht]; exact j5 q h1 h2⟩
  obtain ⟨a1, a2, a3⟩ := j3 a ha
  exact ⟨a1, a2, by rw [ht]; exact a3.moved hal⟩
set_option maxHeartbeats 4000000 in
theorem cm_endW (S : CallFix p m c cc nL s args lw_all own) (hEn : cm_env P G N s s.heap) (hR : cm_rm R d) (hcl : cm_hcl P G N M l d calls) (hret : meth.sig.returnType = ret) (hlocks : meth.locks = false) {en : cm_E} (ho : cm_eok P G N M own mn ret rk cc pc en) (hc : cm_hc p l e R s m args below meth c P mi pc) (hou : cm_hd P mi pc = none → ∀ x ∈ c.exceptionTable.toList, covers x pc = false) (hL : cm_LR (cg_f G) nL L ls) (hJ : cm_J P G s σ H locs)
    (hmc : cells + (cm_nx σ2 - cm_nx σ) = mc) (hms : slots + (cm_sz σ2 - cm_sz σ) = ms) (hrm : cm_hrm R cells slots σ (.inr (b, v, σ2))) (h : cm_step P d calls mi pc en L st σ = some (.inr (b, v, σ2))) :
    W p l e R s m args below meth c H locs cells slots (vx_MQ below (cm_Qc P G rk b v σ2) (cm_XC P G b v σ2) args s mc ms (fun q => cg_b G ≤ q)) (F0 m pc ls (st.map (cm_tv (cg_f G)))) := by
  obtain ⟨i, len, x, y, z, w⟩ := en
  obtain ⟨hd, hlen, ho, -⟩ := ho
  dsimp only at hd hlen
  have hx := S.1
  have hb := S.2.1
  have hts := S.2.2.2.2
  have hC := hEn.2.1
  have fin : ∀ q ∈ locs, cg_b G ≤ q.base := hJ.2.2.2.2.2
  have kN : cm_kN p l e R s m args below meth c cells slots (vx_MQ below (cm_Qc P G rk b v σ2) (cm_XC P G b v σ2) args s mc ms (fun q => cg_b G ≤ q)) P G nL σ (.inr (b, v, σ2)) := fun _ _ _ _ e1 => by cases e1
  have kE : cm_kE p l e R s m args below meth c cells slots (vx_MQ below (cm_Qc P G rk b v σ2) (cm_XC P G b v σ2) args s mc ms (fun q => cg_b G ≤ q)) P G mi pc ls σ (.inr (b, v, σ2)) := by
    intro v' τ e1 hh q ce H1 locs1 rest hv j1 h1 h2 h3
    cases e1
    exact vx_out (hou hh) hlocks h1 h2 h3 (fun t ht hal => ⟨rfl, rfl, hv, (cm_Jp_of j1 ht hal).1, (cm_Jp_of j1 ht hal).2⟩) j1.2.2.2.2.2 (by omega) (by omega)
  by_cases hsw : cm_sw i = true
  · exfalso
    cases i with
    | tableswitch dflt lo hi offs =>
      obtain ⟨q, r, -, g⟩ := cm_pi_some h
      by_cases h1 : q.toInt < lo ∨ hi < q.toInt
      · rw [if_pos h1] at g
        obtain ⟨-, g⟩ := cm_if_some g
        cases g
      · rw [if_neg h1] at g
        cases ho : offs[(q.toInt - lo).toNat]? with
        | none => rw [ho] at g; cases g
        | some off =>
          rw [ho] at g
          obtain ⟨-, g⟩ := cm_if_some g
          cases g
    | lookupswitch dflt ps =>
      obtain ⟨q, r, -, g⟩ := cm_pi_some h
      obtain ⟨-, g⟩ := cm_if_some g
      cases g
    | iinc n q =>
      obtain ⟨w, -, g⟩ := cm_li_some h
      cases g
    | _ => exact absurd hsw (by simp [cm_sw])
  have hlen := hlen.resolve_left hsw
  subst hlen
  have no : ∀ {X : cm_X}, (∀ r, X = some r → ∃ f, r = .inl f) → X = some (.inr (b, v, σ2)) → False := fun hX e1 => by
    obtain ⟨f, hf⟩ := hX _ e1
    cases hf
  cases i with
  | ireturn =>
    obtain ⟨a, r, rfl, g⟩ := cm_pi_some h
    obtain ⟨⟨hfit, hst⟩, g2⟩ := cm_if_some g
    clear g h
    subst hst
    cases g2
    obtain ⟨ty, e1, e2, e3, e4, e5, e6⟩ := ho
    obtain ⟨n1, -⟩ := cm_narrow_int ty z e2 e3 e4 e5 a hfit
    simp only [Nat.sub_self, Nat.add_zero] at hmc hms
    subst hmc; subst hms; subst e6
    exact vx_ret (W.zret hx hb (hret.trans e1) n1 (fun t ht hW => ⟨rfl, rfl, (cm_Jp_of hJ ht hW.alike).1, (cm_Jp_of hJ ht hW.alike).2⟩) fin hd hlocks)
  | lreturn =>
    obtain ⟨a, r, rfl, g⟩ := cm_pl_some h
    obtain ⟨rfl, g⟩ := cm_if_some g
    cases g
    obtain ⟨e1, e6⟩ := ho
    simp only [Nat.sub_self, Nat.add_zero] at hmc hms
    subst hmc; subst hms; subst e6
    exact vx_ret (W.lret hx hb (hret.trans e1) (fun t ht hW => ⟨rfl, rfl, (cm_Jp_of hJ ht hW.alike).1, (cm_Jp_of hJ ht hW.alike).2⟩) fin hd hlocks)
  | areturn =>
    obtain ⟨a, r, rfl, g⟩ := cm_pr_some h
    obtain ⟨rfl, g⟩ := cm_if_some g
    cases g
    obtain ⟨rt, e1, e2, e6⟩ := ho
    simp only [Nat.sub_self, Nat.add_zero] at hmc hms
    subst hmc; subst hms; subst e6
    refine vx_ret (W.aret (v := cm_tv (cg_f G) (.ref a)) hx hb (hret.trans e1) e2 ?_ (fun t ht hW => ⟨rfl, rfl, (cm_Jp_of hJ ht hW.alike).1, (cm_Jp_of hJ ht hW.alike).2⟩) fin hd hlocks)
    by_cases h0 : a = 0
    · subst h0; exact Or.inl cm_tv_0
    · exact Or.inr ⟨_, cm_tv_ref h0⟩
  | return_ =>
    obtain ⟨rfl, g⟩ := cm_if_some h
    cases g
    obtain ⟨e1, e6⟩ := ho
    simp only [Nat.sub_self, Nat.add_zero] at hmc hms
    subst hmc; subst hms; subst e6
    exact vx_ret (W.vret hx hb (hret.trans e1) (fun t ht hW => ⟨rfl, rfl, (cm_Jp_of hJ ht hW.alike).1, (cm_Jp_of hJ ht hW.alike).2⟩) fin hd hlocks)
  | athrow =>
    obtain ⟨a, r, rfl, g⟩ := cm_pr_some h
    obtain ⟨⟨hta, hx0, haK⟩, g⟩ := cm_if_some g
    obtain ⟨w0, -, cell, c1, c2, c3, c4, c5, -⟩ := hJ.2.2.1 a (by rw [hta]; exact hx0)
    obtain ⟨q1, r2, q2, -⟩ := c5 (by rw [hta]; exact ho.1)
    rw [hta] at q1 q2
    have hEN := ho.2 _ q2
    have hfc : s.vm.findClass cm_EN = some cell.cls := by rw [← hEN, q1]; exact (hC _ _ q2).2.1
    have hvm := c4 haK
    cases hh : cm_hd P mi pc with
    | none =>
      rw [hh] at g
      cases g
      rw [List.map_cons, cm_tv_ref (by omega)]
      exact vx_athrow hx hb hd (vx_out (hou hh) hlocks c1 hvm hfc (fun t ht hal => ⟨rfl, rfl, cm_tv_ref (by omega), (cm_Jp_of hJ ht hal).1, (cm_Jp_of hJ ht hal).2⟩) fin (by omega) (by omega))
    | some q =>
      rw [hh] at g
      cases q with
      | zero => cases g
      | succ q => cases g
  | invokestatic n =>
    rcases ho with ⟨hz, ho⟩ | ⟨hz, -⟩
    · exact cm_inv_static S hd hL hEn hJ hR hcl hz ho hc hrm h kN kE
    · exfalso
      obtain ⟨z, rfl⟩ : ∃ q, z = q + 1 := ⟨z - 1, by omega⟩
      obtain ⟨-, g⟩ := cm_ifn_some h
      obtain ⟨a1, r1, -, g⟩ := cm_pi_some g
      obtain ⟨a2, r2, -, g⟩ := cm_pi_some g
      obtain ⟨a3, r3, -, g⟩ := cm_pr_some g
      obtain ⟨a4, r4, -, g⟩ := cm_pi_some g
      obtain ⟨a5, r5, -, g⟩ := cm_pr_some g
      obtain ⟨-, g⟩ := cm_if_some g
      unfold cm_copy at g
      obtain ⟨-, g⟩ := cm_if_some g
      split at g
      · cases g
      · split at g
        · cases g
        · obtain ⟨-, g⟩ := cm_if_some g
          cases g
  | invokespecial n =>
    rcases ho with ⟨hz, ho⟩ | ⟨hz, -⟩
    · exact cm_inv_special S hd hL hEn hJ hR hcl hz ho hc hrm h kN kE
    · exfalso
      obtain ⟨z, rfl⟩ : ∃ q, z = q + 1 := ⟨z - 1, by omega⟩
      obtain ⟨-, g⟩ := cm_ifn_some h
      obtain ⟨a1, r1, -, g⟩ := cm_pr_some g
      obtain ⟨-, g⟩ := cm_if_some g
      cases g
  | invokevirtual n =>
    rcases ho with ⟨hz, ho⟩ | ⟨hz, -⟩ | ⟨hz, -⟩
    · exact cm_inv_virtual S hd hL hEn hJ hR hcl hz ho hc hrm h kN kE
    · exfalso
      subst hz
      obtain ⟨-, g⟩ := cm_ifn_some h
      obtain ⟨a1, r1, -, g⟩ := cm_pr_some g
      obtain ⟨-, g⟩ := cm_if_some g
      cases g
    · exfalso
      obtain ⟨-, g⟩ := cm_ifn_some h
      match z, hz with
      | 0, hz => exact absurd rfl hz.2
      | 2, hz => exact absurd rfl hz.1
      | 1, _ =>
        obtain ⟨a1, r1, -, g⟩ := cm_pr_some g
        obtain ⟨-, g⟩ := cm_if_some g
        cases g
      | z + 3, _ =>
        obtain ⟨a1, r1, -, g⟩ := cm_pr_some g
        obtain ⟨-, g⟩ := cm_if_some g
        cases g
  | invokeinterface n q => exact cm_inv_face S hd hL hEn hJ hR hcl ho hc hrm h kN kE
  | _ => exact absurd h (cm_noend _ rfl)
/-- a run of a method's body, whatever its end is for -/
theorem cm_runW (hst : l.stackTraces = false) (S : CallFix p m c cc nL s args lw_all own) (hA : cm_ad P G) (hPk : cm_Pok P) (hK : cm_clok G) (hEn : cm_env P G N s s.heap) (hR : cm_rm R d) (hcl : cm_hcl P G N M l d calls) (hcm : ∀ m as σ b v τ, calls m as σ = some (b, v, τ) → cm_le σ τ) (hmn : meth.name = mn) (ho : ∀ pc en, cm_at P mi pc = some en → cm_eok P G N M own mn ret rk cc pc en) (hc : ∀ pc, cm_hc p l e R s m args below meth c P mi pc) {σ0 : cm_S}
    (hrc : cm_nx σ2 - cm_nx σ0 ≤ R.cells) (hrs : cm_sz σ2 - cm_sz σ0 ≤ R.slots)
    (hend : ∀ pc en L st σ H locs ls, cm_at P mi pc = some en → cm_J P G s σ H locs → cm_LR (cg_f G) nL L ls → cm_le σ0 σ → cm_le σ σ2 → cm_step P d calls mi pc en L st σ = some (.inr (b, v, σ2)) → W p l e R s m args below meth c H locs (cm_nx σ - cm_nx σ0) (cm_sz σ - cm_sz σ0) Q (F0 m pc ls (st.map (cm_tv (cg_f G))))) :
    ∀ n pc L st σ, cm_it P d calls mi n (pc, L, st, σ) = some (b, v, σ2) → cm_le σ0 σ → ∀ H locs ls, cm_J P G s σ H locs → cm_LR (cg_f G) nL L ls → W p l e R s m args below meth c H locs (cm_nx σ - cm_nx σ0) (cm_sz σ - cm_sz σ0) Q (F0 m pc ls (st.map (cm_tv (cg_f G)))) := by
  intro n
  induction n with
  | zero => intro pc L st σ h; cases h
  | succ n ih =>
    intro pc L st σ h h0 H locs ls hJ hL
    have hle := cm_it_mn hcm mi (n + 1) _ _ h
    dsimp only at hle
    unfold cm_it at h
    cases ha : cm_at P mi pc with
    | none =>
      have : cm_one P d calls mi (pc, L, st, σ) = none := by unfold cm_one; dsimp only; rw [ha]
      rw [this] at h
      cases h
    | some en =>
      have h1 : cm_one P d calls mi (pc, L, st, σ) = cm_step P d calls mi pc en L st σ := by unfold cm_one; dsimp only; rw [ha]
      rw [h1] at h
      cases hs : cm_step P d calls mi pc en L st σ with
      | none => rw [hs] at h; cases h
      | some r =>
        rw [hs] at h
        cases r with
        | inr o =>
          cases h
          exact hend pc en L st σ H locs ls ha hJ hL h0 hle hs
        | inl g =>
          obtain ⟨pc2, L2, st2, τ⟩ := g
          dsimp only at h
          have h2 : cm_le σ τ := (cm_step_mn hcm mi pc en L st σ) _ hs
          have h3 : cm_le τ σ2 := cm_it_mn hcm mi n _ _ h
          have e1 : cm_nx σ - cm_nx σ0 + (cm_nx τ - cm_nx σ) = cm_nx τ - cm_nx σ0 := by have := h0.1; have := h2.1; omega
          have e2 : cm_sz σ - cm_sz σ0 + (cm_sz τ - cm_sz σ) = cm_sz τ - cm_sz σ0 := by have := h0.2; have := h2.2; omega
          refine cm_stepW hst S hA hPk hK hEn hR hcl hmn (ho pc en ha) (hc pc) hL hJ ⟨?_, ?_⟩ hs (fun H2 locs2 ls2 j2 l2 => ?_)
          · show _ + (cm_nx τ - cm_nx σ) ≤ _
            rw [e1]
            have := h3.1
            omega
          · show _ + (cm_sz τ - cm_sz σ) ≤ _
            rw [e2]
            have := h3.2
            omega
          · rw [e1, e2]
            exact ih pc2 L2 st2 τ h (h0.trans h2) H2 locs2 ls2 j2 l2
end
/-- a method of the program is what the tables say -/
def cm_mok (P : cm_P) (G : cm_G) (N : cm_N) (M : Nat → cm_D) (mi : Nat) : Prop := cm_nl P mi = (M mi).2.2.1 ∧ plainFor (M mi).1 = true ∧ (∀ pc en, cm_at P mi pc = some en → cm_eok P G N M (M mi).1.cls (M mi).1.name (M mi).2.2.2.1 (cm_rk P mi) (M mi).2.1 pc en) ∧
  match (M mi).2.2.2.2 with
  | none => ∀ pc, cm_hd P mi pc = none
  | some hh => (∀ pc q, cm_hd P mi pc = some (q + 1) → ∃ pre x suf, tableOf hh = pre ++ x :: suf ∧ (∀ z ∈ pre, covers z pc = false) ∧ covers x pc = true ∧ x.catchType ≠ 0 ∧ x.handlerPc = q + 1 ∧ Cond.classLink (M mi).1.cls x.catchType cm_EN ∈ lw_all ∧ Cond.castable cm_EN cm_EN ∈ lw_tbl) ∧ ∀ pc, cm_hd P mi pc = none → ∀ x ∈ tableOf hh, covers x pc = false
theorem cm_okv_of {as : List Value} (h : as.all cm_okv = true) : ∀ v ∈ as, (∃ x, v = .int x) ∨ (∃ x, v = .long x) ∨ ∃ x, v = .ref x := by
  intro v hv
  have := List.all_eq_true.mp h v hv
  cases v <;> simp [cm_okv] at this ⊢
/-- EVERY CLEAN CALL IS A CALL OF THE MACHINE -/
theorem cm_sound {P : cm_P} {G : cm_G} {N : cm_N} {M : Nat → cm_D} (l : Launch) (hst : l.stackTraces = false) (hA : cm_ad P G) (hPk : cm_Pok P) (hK : cm_clok G) (hM : ∀ mi, cm_code P mi ≠ [] → cm_mok P G N M mi) : ∀ d mi as σ b v τ, cm_call P d mi as σ = some (b, v, τ) → cm_Con P G N l (M mi) (cm_rk P mi) (d - 1) as σ b v τ := by
  intro d
  induction d with
  | zero => intro mi as σ b v τ h; cases h
  | succ d ih =>
    intro mi as σ b v τ h
    unfold cm_call at h
    split at h
    · rename_i hok
      obtain ⟨n, hn⟩ := cm_run_spec h
      have hne : cm_code P mi ≠ [] := by
        intro e
        cases n with
        | zero => cases hn
        | succ n =>
          unfold cm_it at hn
          have : cm_one P d (cm_call P d) mi (0, cm_el (cm_nl P mi) as, [], σ) = none := by
            unfold cm_one cm_at
            rw [e]
            rfl
          rw [this] at hn
          cases hn
      obtain ⟨hnl, hpn, hent, hhd⟩ := hM mi hne
      show vx_Met l _ _ ({ frames := d, cells := _, slots := _, locals := 64 * d } : Room) _ _ _ _ _ _
      have hle : cm_le σ τ := cm_it_mn (cm_call_mn P d) mi n _ _ hn
      have hv := cm_okv_of hok.1
      have body : ∀ p e s m args below meth c s₁, BodyLoose p l (M mi).1 (headSpec (cm_ws (M mi)) ({ frames := d, cells := cm_nx τ - cm_nx σ, slots := cm_sz τ - cm_sz σ, locals := 64 * d } : Room)) (M mi).2.1 (M mi).2.2.1 (M mi).2.2.2.1 e s m args below meth c s₁ → c.maxLocals = (M mi).2.2.1 → (∀ pc, cm_hc p l e ({ frames := d, cells := cm_nx τ - cm_nx σ, slots := cm_sz τ - cm_sz σ, locals := 64 * d } : Room) s m args below meth c P mi pc) → (∀ pc, cm_hd P mi pc = none → ∀ x ∈ c.exceptionTable.toList, covers x pc = false) → cm_Pc P G N as σ args s →
          W p l e ({ frames := d, cells := cm_nx τ - cm_nx σ, slots := cm_sz τ - cm_sz σ, locals := 64 * d } : Room) s m args below meth c s.heap [] 0 0 (vx_MQ below (cm_Qc P G (cm_rk P mi) b v τ) (cm_XC P G b v τ) args s (cm_nx τ - cm_nx σ) (cm_sz τ - cm_sz σ) (fun q => cg_b G ≤ q)) (entryFrame m args (M mi).2.2.1) := by
        intro p e s m args below meth c s₁ B hml hc hou hpc
        obtain ⟨rfl, hEn, j1, j2, j3⟩ := hpc
        have hts0 := atoms_spec (ws := cm_ws (M mi)) B.pre
        have hts : ∀ w ∈ lw_all, w.before _ s = true := fun w h => hts0 w (List.mem_cons_of_mem _ h)
        have hown : s.vm.findClass (M mi).1.cls = some m.cls := findClass_of_methodNamed B.named
        have hJ : cm_J P G s σ s.heap [] := ⟨j1, j2, j3, va_S.rf⟩
        have S : CallFix p m c (M mi).2.1 (M mi).2.2.1 s _ lw_all (M mi).1.cls := ⟨B.exec, B.bytes, hml, hown, hts⟩
        rw [lg_entry_eq]
        have hL := cm_LR_entry (cg_f G) as hv (n := (M mi).2.2.1) (by rw [← hnl]; exact hok.2)
        have key := cm_runW (Q := vx_MQ below (cm_Qc P G (cm_rk P mi) b v τ) (cm_XC P G b v τ) _ s (cm_nx τ - cm_nx σ) (cm_sz τ - cm_sz σ) (fun q => cg_b G ≤ q)) (R := ({ frames := d, cells := cm_nx τ - cm_nx σ, slots := cm_sz τ - cm_sz σ, locals := 64 * d } : Room)) (below := below) (meth := meth) (e := e) (σ0 := σ) hst S hA hPk hK hEn ⟨Nat.le_refl _, Nat.le_refl _⟩ ih (cm_call_mn P d) (name_of_methodNamed B.named B.method).1 hent hc (Nat.le_refl _) (Nat.le_refl _)
          (fun pc en L st υ H locs ls ha hJ hL h0 h1 hs => cm_endW S hEn ⟨Nat.le_refl _, Nat.le_refl _⟩ ih B.returns B.notSynchronized (hent pc en ha) (hc pc) (hou pc) hL hJ (by have := h0.1; have := h1.1; omega) (by have := h0.2; have := h1.2; omega) ⟨by show _ + (cm_nx τ - cm_nx υ) ≤ _; have := h0.1; have := h1.1; show _ ≤ cm_nx τ - cm_nx σ; omega, by show _ + (cm_sz τ - cm_sz υ) ≤ _; have := h0.2; have := h1.2; show _ ≤ cm_sz τ - cm_sz σ; omega⟩ hs)
          n 0 (cm_el (cm_nl P mi) as) [] σ hn (cm_le_rf σ) s.heap [] _ hJ (by rw [hnl]; exact hL)
        simpa using key
      cases hD : (M mi).2.2.2.2 with
      | none =>
        rw [hD] at hhd
        obtain ⟨e1, e2⟩ := cm_ws_none hD
        rw [e1]
        refine vx_ofW (cc := (M mi).2.1) (maxL := (M mi).2.2.1) (ret := (M mi).2.2.2.1) hpn rfl ?_
        intro p e s m args below meth c s₁ B hml htb hpc
        rw [← e1] at B
        exact body p e s m args below meth c s₁ B hml (fun pc q hq => by rw [hhd pc] at hq; cases hq) (fun pc _ x hx => (htb x hx).elim) hpc
      | some hh =>
        rw [hD] at hhd
        obtain ⟨e1, e2⟩ := cm_ws_some hD
        rw [e1]
        refine vx_ofWH (cc := (M mi).2.1) (maxL := (M mi).2.2.1) (ret := (M mi).2.2.2.1) (hh := hh) hpn rfl ?_
        intro p e s m args below meth c s₁ B hml hpc
        have hts0 := atoms_spec (ws := wsW_ (M mi).1 (M mi).2.1 (M mi).2.2.1 (M mi).2.2.2.1 hh) B.pre
        have htab : c.exceptionTable.toList = tableOf hh := vx_table (x := (M mi).1) B (hts0 _ List.mem_cons_self)
        have hts : ∀ w ∈ lw_all, w.before _ s = true := fun w h => hts0 w (List.mem_cons_of_mem _ h)
        have hown : s.vm.findClass (M mi).1.cls = some m.cls := findClass_of_methodNamed B.named
        have hEn := hpc.2.1
        rw [← e1] at B
        refine body p e s m args below meth c s₁ B hml (fun pc q hq => ?_) (fun pc hq => by rw [htab]; exact hhd.2 pc hq) hpc
        intro Q a ce H1 locs1 cells1 slots1 ls rest h1 h2 h3 kk
        obtain ⟨pre, x, suf, t1, t2, t3, t4, t5, t6, t7⟩ := hhd.1 pc q hq
        exact vx_catch hown pre x suf (by rw [htab]; exact t1) (fun z hz => Or.inl (t2 z hz)) t3 t4 (hts _ t6) (va_Nw.use rfl (hEn.2.2.2.1.1 _ t7 rfl)) h1 h2 h3 (by rw [t5]; exact kk)
    · cases h
