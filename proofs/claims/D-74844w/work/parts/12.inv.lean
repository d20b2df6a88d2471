/-! SOUNDNESS: the four kinds of invocation -/
theorem cm_args_some {k : List Value → List Value → cm_X} {r : cm_F ⊕ cm_O} : ∀ (n : Nat) (st acc : List Value), cm_args n st acc k = some r → ∃ a1 st1, st = a1 ++ st1 ∧ a1.length = n ∧ k (a1.reverse ++ acc) st1 = some r := by
  intro n
  induction n with
  | zero => intro st acc h; exact ⟨[], st, rfl, rfl, h⟩
  | succ n ih =>
    intro st acc h
    cases st with
    | nil => cases h
    | cons v st =>
      obtain ⟨a1, st1, e1, e2, e3⟩ := ih st (v :: acc) h
      refine ⟨v :: a1, st1, by rw [e1]; rfl, by simp [e2], ?_⟩
      simpa using e3
theorem cm_args0 {k : List Value → List Value → cm_X} {r : cm_F ⊕ cm_O} {n : Nat} {st : List Value} (h : cm_args n st [] k = some r) : ∃ as st1, st = as.reverse ++ st1 ∧ as.length = n ∧ k as st1 = some r := by
  obtain ⟨a1, st1, e1, e2, e3⟩ := cm_args_some n st [] h
  exact ⟨a1.reverse, st1, by simpa using e1, by simpa using e2, by simpa using e3⟩
theorem cm_bk_cases {P : cm_P} {mi pc len rk : Nat} {L st : List Value} {r : Option cm_O} {Rr : cm_F ⊕ cm_O} (h : cm_bk P mi pc len rk L st r = some Rr) : ∃ b v τ, r = some (b, v, τ) ∧
    ((b = false ∧ ∃ st2, Rr = .inl (pc + len, L, st2, τ) ∧ ∀ f, st2.map (cm_tv f) = (cm_rt rk f v).toList ++ st.map (cm_tv f)) ∨ (b = true ∧ ((∃ q, cm_hd P mi pc = some (q + 1) ∧ Rr = .inl (q + 1, L, [v], τ)) ∨ (cm_hd P mi pc = none ∧ Rr = .inr (true, v, τ))))) := by
  unfold cm_bk at h
  split at h
  · cases h
  · rename_i v τ
    refine ⟨true, v, τ, rfl, Or.inr ⟨rfl, ?_⟩⟩
    split at h
    · rename_i q hq
      cases h
      exact Or.inl ⟨q, hq, rfl⟩
    · cases h
    · rename_i hq
      cases h
      exact Or.inr ⟨hq, rfl⟩
  · rename_i v τ
    refine ⟨false, v, τ, rfl, Or.inl ⟨rfl, ?_⟩⟩
    split at h
    · cases h; exact ⟨st, rfl, fun f => rfl⟩
    · cases h; exact ⟨_, rfl, fun f => rfl⟩
    · cases h; exact ⟨_, rfl, fun f => rfl⟩
    · cases h; exact ⟨_, rfl, fun f => rfl⟩
    · cases h
section
variable {p : Program} {l : Launch} {e : Env} {R : Room} {s : State} {m : MethodId} {args : Array Value} {below : List Frame} {meth : Method} {c : Code} {H : Heap} {locs : List Loc} {cells slots : Nat} {Q : State → Prop} {cc : ByteArray} {P : cm_P} {G : cm_G} {N : cm_N} {M : Nat → cm_D} {d : Nat} {calls : Nat → List Value → cm_S → Option cm_O} {mi pc nL x y z len n : Nat} {v : Value} {ls : Array Slot} {L st : List Value} {σ : cm_S} {own : String} {Rr : cm_F ⊕ cm_O}
/-- what follows an invocation -/
def cm_kN (p : Program) (l : Launch) (e : Env) (R : Room) (s : State) (m : MethodId) (args : Array Value) (below : List Frame) (meth : Method) (c : Code) (cells slots : Nat) (Q : State → Prop) (P : cm_P) (G : cm_G) (nL : Nat) (σ : cm_S) (Rr : cm_F ⊕ cm_O) : Prop := ∀ pc2 L2 st2 σ2, Rr = .inl (pc2, L2, st2, σ2) → ∀ H2 locs2 ls2, cm_J P G s σ2 H2 locs2 → cm_LR (cg_f G) nL L2 ls2 → W p l e R s m args below meth c H2 locs2 (cells + (cm_nx σ2 - cm_nx σ)) (slots + (cm_sz σ2 - cm_sz σ)) Q (F0 m pc2 ls2 (st2.map (cm_tv (cg_f G))))
def cm_kE (p : Program) (l : Launch) (e : Env) (R : Room) (s : State) (m : MethodId) (args : Array Value) (below : List Frame) (meth : Method) (c : Code) (cells slots : Nat) (Q : State → Prop) (P : cm_P) (G : cm_G) (mi pc : Nat) (ls : Array Slot) (σ : cm_S) (Rr : cm_F ⊕ cm_O) : Prop := ∀ v σ2, Rr = .inr (true, v, σ2) → cm_hd P mi pc = none → ∀ (q : Addr) (ce : Cell) H1 locs1 rest, cm_tv (cg_f G) v = .ref q → cm_J P G s σ2 H1 locs1 → H1[q]? = some ce → ce.vm = .none → s.vm.findClass cm_EN = some ce.cls → vx_W p l e R s m args below meth c H1 locs1 (cells + (cm_nx σ2 - cm_nx σ)) (slots + (cm_sz σ2 - cm_sz σ)) Q (F0 m pc ls rest) q
/-- where a thrown thing is caught -/
def cm_hc (p : Program) (l : Launch) (e : Env) (R : Room) (s : State) (m : MethodId) (args : Array Value) (below : List Frame) (meth : Method) (c : Code) (P : cm_P) (mi pc : Nat) : Prop := ∀ q, cm_hd P mi pc = some (q + 1) → ∀ (Q : State → Prop) (a : Addr) (ce : Cell) H1 locs1 cells1 slots1 ls rest, H1[a]? = some ce → ce.vm = .none → s.vm.findClass cm_EN = some ce.cls → W p l e R s m args below meth c H1 locs1 cells1 slots1 Q (F0 m (q + 1) ls [.ref a]) → vx_W p l e R s m args below meth c H1 locs1 cells1 slots1 Q (F0 m pc ls rest) a
theorem cm_fin3 (hJ : cm_J P G s σ H locs) (hL : cm_LR (cg_f G) nL L ls) (hc : cm_hc p l e R s m args below meth c P mi pc) (hN : cm_kN p l e R s m args below meth c cells slots Q P G nL σ Rr) (hE : cm_kE p l e R s m args below meth c cells slots Q P G mi pc ls σ Rr) {rk : Nat} {stk rest : List Value} {r : Option cm_O} {st1 : List Value} {X : Array Value} (hst : rest = st1.map (cm_tv (cg_f G))) (hbk : cm_bk P mi pc 3 rk L st1 r = some Rr)
    (hr : ∀ b v τ, r = some (b, v, τ) → vx_Run p l e R s m args below meth c H locs cells slots (cm_nx τ - cm_nx σ) (cm_sz τ - cm_sz σ) (F0 m pc ls stk) rest (cm_Qc P G rk b v τ X) (cm_XC P G b v τ) (fun q => cg_b G ≤ q)) : W p l e R s m args below meth c H locs cells slots Q (F0 m pc ls stk) := by
  obtain ⟨b, v, τ, e1, hh⟩ := cm_bk_cases hbk
  subst hst
  refine cm_callW (hr b v τ e1) hJ (fun hb H1 locs1 j1 => ?_) (fun hb q ce H1 locs1 hv j1 h1 h2 h3 => ?_)
  · rcases hh with ⟨-, st2, e2, e3⟩ | ⟨hb2, -⟩
    · have := hN _ _ _ _ e2 H1 locs1 ls j1 hL
      rw [e3] at this
      exact this
    · rw [hb] at hb2; cases hb2
  · rcases hh with ⟨hb2, -⟩ | ⟨-, ⟨q2, e2, e3⟩ | ⟨e2, e3⟩⟩
    · rw [hb] at hb2; cases hb2
    · have := hN _ _ _ _ e3 H1 locs1 ls j1 hL
      rw [List.map_cons, hv] at this
      exact hc q2 e2 Q q ce H1 locs1 _ _ ls _ h1 h2 h3 this
    · exact hE _ _ e3 e2 q ce H1 locs1 _ hv j1 h1 h2 h3
theorem cm_fin5 (hJ : cm_J P G s σ H locs) (hL : cm_LR (cg_f G) nL L ls) (hc : cm_hc p l e R s m args below meth c P mi pc) (hN : cm_kN p l e R s m args below meth c cells slots Q P G nL σ Rr) (hE : cm_kE p l e R s m args below meth c cells slots Q P G mi pc ls σ Rr) {rk : Nat} {stk rest : List Value} {r : Option cm_O} {st1 : List Value} {X : Array Value} (hst : rest = st1.map (cm_tv (cg_f G))) (hbk : cm_bk P mi pc 5 rk L st1 r = some Rr)
    (hr : ∀ b v τ, r = some (b, v, τ) → vx_Run5 p l e R s m args below meth c H locs cells slots (cm_nx τ - cm_nx σ) (cm_sz τ - cm_sz σ) (F0 m pc ls stk) rest (cm_Qc P G rk b v τ X) (cm_XC P G b v τ) (fun q => cg_b G ≤ q)) : W p l e R s m args below meth c H locs cells slots Q (F0 m pc ls stk) := by
  obtain ⟨b, v, τ, e1, hh⟩ := cm_bk_cases hbk
  subst hst
  refine cm_callW5 (hr b v τ e1) hJ (fun hb H1 locs1 j1 => ?_) (fun hb q ce H1 locs1 hv j1 h1 h2 h3 => ?_)
  · rcases hh with ⟨-, st2, e2, e3⟩ | ⟨hb2, -⟩
    · have := hN _ _ _ _ e2 H1 locs1 ls j1 hL
      rw [e3] at this
      exact this
    · rw [hb] at hb2; cases hb2
  · rcases hh with ⟨hb2, -⟩ | ⟨-, ⟨q2, e2, e3⟩ | ⟨e2, e3⟩⟩
    · rw [hb] at hb2; cases hb2
    · have := hN _ _ _ _ e3 H1 locs1 ls j1 hL
      rw [List.map_cons, hv] at this
      exact hc q2 e2 Q q ce H1 locs1 _ _ ls _ h1 h2 h3 this
    · exact hE _ _ e3 e2 q ce H1 locs1 _ hv j1 h1 h2 h3
/-- callees keep their contracts -/
def cm_hcl (P : cm_P) (G : cm_G) (N : cm_N) (M : Nat → cm_D) (l : Launch) (d : Nat) (calls : Nat → List Value → cm_S → Option cm_O) : Prop := ∀ mm as σ b v τ, calls mm as σ = some (b, v, τ) → cm_Con P G N l (M mm) (cm_rk P mm) (d - 1) as σ b v τ
/-- room for what the callee makes -/
def cm_hrm (R : Room) (cells slots : Nat) (σ : cm_S) (Rr : cm_F ⊕ cm_O) : Prop := cells + (cm_nx (cm_ro Rr) - cm_nx σ) ≤ R.cells ∧ slots + (cm_sz (cm_ro Rr) - cm_sz σ) ≤ R.slots
theorem cm_bk_ro {rk : Nat} {st1 : List Value} {b : Bool} {w : Value} {τ : cm_S} {ln : Nat} (h : cm_bk P mi pc ln rk L st1 (some (b, w, τ)) = some Rr) : cm_ro Rr = τ := by
  obtain ⟨b', v', τ', e1, hh⟩ := cm_bk_cases h
  cases e1
  rcases hh with ⟨-, st2, e2, -⟩ | ⟨-, ⟨q2, -, e3⟩ | ⟨-, e3⟩⟩
  · rw [e2]; rfl
  · rw [e3]; rfl
  · rw [e3]; rfl
theorem cm_map_rev (f : Nat → Nat) (as st1 : List Value) : (as.reverse ++ st1).map (cm_tv f) = (as.map (cm_tv f)).reverse ++ st1.map (cm_tv f) := by simp
theorem cm_map_rev2 (f : Nat → Nat) (a : Nat) (as st1 : List Value) (h : a ≠ 0) : ((Value.ref a :: as).reverse ++ st1).map (cm_tv f) = (as.map (cm_tv f)).reverse ++ .ref (f a) :: st1.map (cm_tv f) := by simp [cm_tv, h]
theorem cm_inv_static (S : CallFix p m c cc nL s args lw_all own) (hd : decode cc pc = .ok (.invokestatic n, 3)) (hL : cm_LR (cg_f G) nL L ls) (hEn : cm_env P G N s s.heap) (hJ : cm_J P G s σ H locs) (hR : cm_rm R d) (hcl : cm_hcl P G N M l d calls) (hz : z = 0) (ho : cm_sk own n (M x) y) (hc : cm_hc p l e R s m args below meth c P mi pc) (hrm : cm_hrm R cells slots σ Rr)
    (h : cm_step P d calls mi pc (.invokestatic n, len, x, y, z, v) L st σ = some Rr) (hN : cm_kN p l e R s m args below meth c cells slots Q P G nL σ Rr) (hE : cm_kE p l e R s m args below meth c cells slots Q P G mi pc ls σ Rr) : W p l e R s m args below meth c H locs cells slots Q (F0 m pc ls (st.map (cm_tv (cg_f G)))) := by
  subst hz
  obtain ⟨hd0, h⟩ := cm_ifn_some h
  obtain ⟨as, st1, rfl, e2, g⟩ := cm_args0 h
  obtain ⟨hw, g⟩ := cm_if_some g
  obtain ⟨d, rfl⟩ : ∃ q, d = q + 1 := ⟨d - 1, by omega⟩
  rw [cm_map_rev]
  refine cm_fin3 hJ hL hc hN hE rfl g (X := (as.map (cm_tv (cg_f G))).toArray) (fun b w τ e1 => ?_)
  have hrr : cm_ro Rr = τ := by rw [e1] at g; exact cm_bk_ro g
  unfold cm_hrm at hrm
  rw [hrr] at hrm
  exact cs_runS (k := y) S hEn.2.2.2.1 (hcl x as σ b w τ e1) ho hR ⟨cm_blind P G N as σ, cm_pre hEn hJ as⟩ (by simpa using e2) hL.2.1 (by rw [cm_wd_map]; exact hw) hd hrm
theorem cm_recvV (hJ : cm_J P G s σ H locs) (hC : ce_cls G s) {a : Nat} (h0 : cm_tg σ a ≠ 0) (h1 : cm_tg σ a < 100) : ∃ r : vw_C, (cg_cl G)[cm_tg σ a]? = some r ∧ a ≠ 0 ∧ (cm_tg σ a < 60 → ClassAt s r.1 ((cg_D G).1 (cm_tg σ a))) ∧ ∃ cellB : Cell, H[cg_f G a]? = some cellB ∧ cellB.vm.isStatics = false ∧ s.vm.findClass r.1 = some cellB.cls := by
  obtain ⟨w0, -, cv, d1, d2, d3, d4, d5, d6⟩ := hJ.2.2.1 a h0
  obtain ⟨f1, rr, f2, -⟩ := d5 h1
  obtain ⟨-, hk, hk2⟩ := hC _ _ f2
  exact ⟨rr, f2, by omega, fun q => ⟨hk, hk2 q⟩, cv, d1, d2, by rw [f1]; exact hk⟩
theorem cm_inv_special (S : CallFix p m c cc nL s args lw_all own) (hd : decode cc pc = .ok (.invokespecial n, 3)) (hL : cm_LR (cg_f G) nL L ls) (hEn : cm_env P G N s s.heap) (hJ : cm_J P G s σ H locs) (hR : cm_rm R d) (hcl : cm_hcl P G N M l d calls) (hz : z = 0) (ho : 0 < y ∧ cm_ik own n (M x) (y - 1)) (hc : cm_hc p l e R s m args below meth c P mi pc) (hrm : cm_hrm R cells slots σ Rr)
    (h : cm_step P d calls mi pc (.invokespecial n, len, x, y, z, v) L st σ = some Rr) (hN : cm_kN p l e R s m args below meth c cells slots Q P G nL σ Rr) (hE : cm_kE p l e R s m args below meth c cells slots Q P G mi pc ls σ Rr) : W p l e R s m args below meth c H locs cells slots Q (F0 m pc ls (st.map (cm_tv (cg_f G)))) := by
  subst hz
  obtain ⟨hd0, h⟩ := cm_ifn_some h
  obtain ⟨as, st1, rfl, e2, g⟩ := cm_args0 h
  split at g
  · rename_i a as hold
    obtain ⟨⟨h0, h1, hw⟩, g⟩ := cm_if_some g
    obtain ⟨d, rfl⟩ : ∃ q, d = q + 1 := ⟨d - 1, by omega⟩
    obtain ⟨r, hr, ha0, hat, hcell⟩ := cm_recvV hJ hEn.2.1 h0 (by omega)
    have hat := hat h1
    rw [cm_map_rev2 _ _ _ _ ha0]
    refine cm_fin3 hJ hL hc hN hE rfl g (X := (Value.ref (cg_f G a) :: as.map (cm_tv (cg_f G))).toArray) (fun b w τ e1 => ?_)
    have hrr : cm_ro Rr = τ := by rw [e1] at g; exact cm_bk_ro g
    unfold cm_hrm at hrm
    rw [hrr] at hrm
    have hpre := cm_pre hEn hJ (Value.ref a :: as)
    rw [List.map_cons, cm_tv_ref ha0] at hpre
    exact cs_runI (k := y - 1) S hEn.2.2.2.1 (hcl x _ σ b w τ e1) ho.2 hR ⟨cm_blind P G N _ σ, hcell, hpre⟩ hat (by simp at e2 ⊢; omega) hL.2.1 (by rw [cm_wd_map]; exact hw) hd hrm
  · cases g
theorem cm_inv_virtual (S : CallFix p m c cc nL s args lw_all own) (hd : decode cc pc = .ok (.invokevirtual n, 3)) (hL : cm_LR (cg_f G) nL L ls) (hEn : cm_env P G N s s.heap) (hJ : cm_J P G s σ H locs) (hR : cm_rm R d) (hcl : cm_hcl P G N M l d calls) (hz : z = 0) (ho : 0 < y ∧ ∀ t mm, cm_disp P x t = some mm → t ≠ 0 ∧ t < 100 ∧ ∀ r : vw_C, (cg_cl G)[t]? = some r → cm_vk own n r.1 (M mm) (y - 1)) (hc : cm_hc p l e R s m args below meth c P mi pc) (hrm : cm_hrm R cells slots σ Rr)
    (h : cm_step P d calls mi pc (.invokevirtual n, len, x, y, z, v) L st σ = some Rr) (hN : cm_kN p l e R s m args below meth c cells slots Q P G nL σ Rr) (hE : cm_kE p l e R s m args below meth c cells slots Q P G mi pc ls σ Rr) : W p l e R s m args below meth c H locs cells slots Q (F0 m pc ls (st.map (cm_tv (cg_f G)))) := by
  subst hz
  obtain ⟨hd0, h⟩ := cm_ifn_some h
  obtain ⟨as, st1, rfl, e2, g⟩ := cm_args0 h
  split at g
  · rename_i a as hold
    split at g
    · rename_i mm hmm
      obtain ⟨hw, g⟩ := cm_if_some g
      obtain ⟨h0, h1, hv⟩ := ho.2 _ _ hmm
      obtain ⟨d, rfl⟩ : ∃ q, d = q + 1 := ⟨d - 1, by omega⟩
      obtain ⟨r, hr, ha0, hat, hcell⟩ := cm_recvV hJ hEn.2.1 h0 h1
      rw [cm_map_rev2 _ _ _ _ ha0]
      refine cm_fin3 hJ hL hc hN hE rfl g (X := (Value.ref (cg_f G a) :: as.map (cm_tv (cg_f G))).toArray) (fun b w τ e1 => ?_)
      have hrr : cm_ro Rr = τ := by rw [e1] at g; exact cm_bk_ro g
      unfold cm_hrm at hrm
      rw [hrr] at hrm
      have hpre := cm_pre hEn hJ (Value.ref a :: as)
      rw [List.map_cons, cm_tv_ref ha0] at hpre
      exact cs_runV (k := y - 1) S hEn.2.2.2.1 (hcl mm _ σ b w τ e1) (hv r hr) hR ⟨cm_blind P G N _ σ, hcell, hpre⟩ (by simp at e2 ⊢; omega) hL.2.1 (by rw [cm_wd_map]; exact hw) hd hrm
    · cases g
  · cases g
theorem cm_inv_face (S : CallFix p m c cc nL s args lw_all own) {count : Nat} (hd : decode cc pc = .ok (.invokeinterface n count, 5)) (hL : cm_LR (cg_f G) nL L ls) (hEn : cm_env P G N s s.heap) (hJ : cm_J P G s σ H locs) (hR : cm_rm R d) (hcl : cm_hcl P G N M l d calls) (ho : 0 < y ∧ ∀ t mm, cm_disp P x t = some mm → t ≠ 0 ∧ t < 60 ∧ ∀ r : vw_C, (cg_cl G)[t]? = some r → cm_fk own n r.1 (M mm) (y - 1)) (hc : cm_hc p l e R s m args below meth c P mi pc) (hrm : cm_hrm R cells slots σ Rr)
    (h : cm_step P d calls mi pc (.invokeinterface n count, len, x, y, z, v) L st σ = some Rr) (hN : cm_kN p l e R s m args below meth c cells slots Q P G nL σ Rr) (hE : cm_kE p l e R s m args below meth c cells slots Q P G mi pc ls σ Rr) : W p l e R s m args below meth c H locs cells slots Q (F0 m pc ls (st.map (cm_tv (cg_f G)))) := by
  obtain ⟨hd0, h⟩ := cm_ifn_some h
  obtain ⟨as, st1, rfl, e2, g⟩ := cm_args0 h
  split at g
  · rename_i a as hold
    split at g
    · rename_i mm hmm
      obtain ⟨hw, g⟩ := cm_if_some g
      obtain ⟨h0, h1, hv⟩ := ho.2 _ _ hmm
      obtain ⟨d, rfl⟩ : ∃ q, d = q + 1 := ⟨d - 1, by omega⟩
      obtain ⟨r, hr, ha0, hat, hcell⟩ := cm_recvV hJ hEn.2.1 h0 (by omega)
      have hat := hat h1
      rw [cm_map_rev2 _ _ _ _ ha0]
      refine cm_fin5 hJ hL hc hN hE rfl g (X := (Value.ref (cg_f G a) :: as.map (cm_tv (cg_f G))).toArray) (fun b w τ e1 => ?_)
      have hrr : cm_ro Rr = τ := by rw [e1] at g; exact cm_bk_ro g
      unfold cm_hrm at hrm
      rw [hrr] at hrm
      have hpre := cm_pre hEn hJ (Value.ref a :: as)
      rw [List.map_cons, cm_tv_ref ha0] at hpre
      exact cs_runF (k := y - 1) S hEn.2.2.2.1 (hcl mm _ σ b w τ e1) (hv r hr) hR ⟨cm_blind P G N _ σ, hcell, hpre⟩ hat (by simp at e2 ⊢; omega) hL.2.1 (by rw [cm_wd_map]; exact hw) hd hrm
    · cases g
  · cases g
end
