/-! SOUNDNESS: calls -/
abbrev cm_D : Type := MethodName × ByteArray × Nat × Option FieldType × Option (List (Nat × Nat × Nat × Nat))
def cm_cd (D : cm_D) : Cond := match D.2.2.2.2 with
  | none => .code D.1 D.2.1 D.2.2.1 D.2.2.2.1
  | some hh => .codeWith D.1 D.2.1 D.2.2.1 D.2.2.2.1 hh
def cm_ws (D : cm_D) : List Cond := cm_cd D :: lw_all
def cm_rt (rk : Nat) (f : Nat → Nat) (v : Value) : Option Value := if rk = 0 then none else some (cm_tv f v)
def cm_Jp (P : cm_P) (G : cm_G) (σ : cm_S) (t : State) : Prop := cm_K P ≤ cm_nx σ ∧ t.heap.size = cg_b G + (cm_nx σ - cm_K P) ∧ ∀ a, cm_tg σ a ≠ 0 → 0 < a ∧ a < cm_nx σ ∧ cm_cell P G t σ a t.heap
def cm_Pc (P : cm_P) (G : cm_G) (N : cm_N) (as : List Value) (σ : cm_S) : Array Value → State → Prop := va_Pc (as.map (cm_tv (cg_f G))) (fun U => cm_env P G N U U.heap ∧ cm_Jp P G σ U)
def cm_Qc (P : cm_P) (G : cm_G) (rk : Nat) (b : Bool) (v : Value) (σ2 : cm_S) : Array Value → State → Outcome → State → Prop := fun _ st o t => b = false ∧ o = .returned (cm_rt rk (cg_f G) v) ∧ cm_Jp P G σ2 t ∧ va_F (fun q => cg_b G ≤ q) st t
def cm_EN : String := "SpreadsheetEngine$SyntaxError"
def cm_XC (P : cm_P) (G : cm_G) (b : Bool) (v : Value) (σ2 : cm_S) : Addr → String → State → State → Prop := fun q E st t => b = true ∧ E = cm_EN ∧ cm_tv (cg_f G) v = .ref q ∧ cm_Jp P G σ2 t ∧ va_F (fun q => cg_b G ≤ q) st t
/-- the contract of one run of a method -/
def cm_Con (P : cm_P) (G : cm_G) (N : cm_N) (l : Launch) (D : cm_D) (rk d : Nat) (as : List Value) (σ : cm_S) (b : Bool) (v : Value) (σ2 : cm_S) : Prop :=
  vx_Met l D.1 (cm_ws D) ({ frames := d, cells := cm_nx σ2 - cm_nx σ, slots := cm_sz σ2 - cm_sz σ, locals := 64 * d } : Room) (cm_Pc P G N as σ) (cm_Qc P G rk b v σ2) (cm_XC P G b v σ2) (cm_nx σ2 - cm_nx σ) (cm_sz σ2 - cm_sz σ) (fun q => cg_b G ≤ q)
theorem cm_Jp.same {P : cm_P} {G : cm_G} {σ : cm_S} {s U : State} (hal : s.vm.Alike U.vm) (hh : U.heap = s.heap) (h : cm_Jp P G σ s) : cm_Jp P G σ U := by
  obtain ⟨h1, h2, h3⟩ := h
  refine ⟨h1, by rw [hh]; exact h2, fun a ha => ?_⟩
  obtain ⟨a1, a2, a3⟩ := h3 a ha
  exact ⟨a1, a2, by rw [hh]; exact a3.moved hal⟩
theorem cm_blind (P : cm_P) (G : cm_G) (N : cm_N) (as : List Value) (σ : cm_S) : FrameBlind (cm_Pc P G N as σ) := by
  intro a U g mk h
  obtain ⟨h1, h2, h3⟩ := h
  exact ⟨h1, cm_env.moved (U := U.calling g mk a) (State.WarmedH.refl U) h2 (fun _ _ _ => rfl), cm_Jp.same (s := U) (U := U.calling g mk a) (Vm.Alike.refl U.vm) rfl h3⟩
section
variable {p : Program} {l : Launch} {e : Env} {R : Room} {s : State} {m : MethodId} {args : Array Value} {below : List Frame} {meth : Method} {c : Code} {H : Heap} {locs : List Loc} {cells slots : Nat} {Q : State → Prop} {cc : ByteArray} {P : cm_P} {G : cm_G} {N : cm_N} {d pc rk mc ms nL : Nat} {v : Value} {b : Bool} {ls : Array Slot} {σ σ2 : cm_S} {own : String} {stk rest : List Value} {X : Array Value}
/-- what a callee is handed -/
theorem cm_pre (hE : cm_env P G N s s.heap) (hJ : cm_J P G s σ H locs) (as : List Value) : ∀ U : State, U.heap = H → s.WarmedH U.vm → cm_Pc P G N as σ ((as.map (cm_tv (cg_f G))).toArray) U := by
  intro U hU hW
  obtain ⟨j1, j2, j3, j4, j5, j6⟩ := hJ
  refine ⟨rfl, cm_env.moved hW hE (fun q h1 h2 => by rw [hU]; exact j5 q h1 h2), j1, by rw [hU]; exact j2, fun a ha => ?_⟩
  obtain ⟨a1, a2, a3⟩ := j3 a ha
  exact ⟨a1, a2, by rw [hU]; exact a3.moved hW.alike⟩
/-- behind a callee -/
theorem cm_post (hJ : cm_J P G s σ H locs) {st t T2 : State} {L : List Loc} (h0 : st.heap = H) (h1 : T2.heap = t.heap) (h2 : T2.vm = t.vm) (hW : s.WarmedH T2.vm) (hp : cm_Jp P G σ2 t) (hF : va_F (fun q => cg_b G ≤ q) st t) (hL : ∀ q ∈ L, cg_b G ≤ q.base) : cm_J P G s σ2 T2.heap (locs ++ L) := by
  obtain ⟨j1, j2, j3, j4, j5, j6⟩ := hJ
  obtain ⟨p1, p2, p3⟩ := hp
  have hal : t.vm.Alike s.vm := by rw [← h2]; exact hW.alike.symm
  refine ⟨p1, by rw [h1]; exact p2, fun a ha => ?_, ?_, fun q q1 q2 => ?_, fun q hq => ?_⟩
  · obtain ⟨a1, a2, a3⟩ := p3 a ha
    exact ⟨a1, a2, by rw [h1]; exact a3.moved hal⟩
  · rw [h1]
    exact Nat.le_trans j4 (by rw [← h0]; exact hF.1)
  · rw [h1, hF.2 q (by rw [h0]; omega) q2, h0]
    exact j5 q q1 q2
  · rcases List.mem_append.mp hq with h | h
    · exact j6 q h
    · exact hL q h
theorem cm_callW (hr : vx_Run p l e R s m args below meth c H locs cells slots mc ms (F0 m pc ls stk) rest (cm_Qc P G rk b v σ2 X) (cm_XC P G b v σ2) (fun q => cg_b G ≤ q)) (hJ : cm_J P G s σ H locs)
    (kr : b = false → ∀ H1 locs1, cm_J P G s σ2 H1 locs1 → W p l e R s m args below meth c H1 locs1 (cells + mc) (slots + ms) Q (F0 m (pc + 3) ls ((cm_rt rk (cg_f G) v).toList ++ rest)))
    (kx : b = true → ∀ (q : Addr) (ce : Cell) H1 locs1, cm_tv (cg_f G) v = .ref q → cm_J P G s σ2 H1 locs1 → H1[q]? = some ce → ce.vm = .none → s.vm.findClass cm_EN = some ce.cls → vx_W p l e R s m args below meth c H1 locs1 (cells + mc) (slots + ms) Q (F0 m pc ls rest) q) :
    W p l e R s m args below meth c H locs cells slots Q (F0 m pc ls stk) := by
  intro T hT Xs
  rcases hr T hT Xs with ⟨w, st₀, t, T2, L, h0, X2, hL, e1, e2, ⟨hb, ho, hp, hF⟩, st⟩ | ⟨q, st₀, t, T2, L, E, ce, h0, X2, hL, e1, e2, ⟨hb, hE, hv, hp, hF⟩, hce, hcv, hcl, st⟩
  · cases ho
    obtain ⟨t2, a1, b1⟩ := kr hb T2.heap (locs ++ L) (cm_post hJ h0 e1 e2 X2.warmed hp hF hL) T2 rfl X2
    exact ⟨t2, st t2 a1, b1⟩
  · subst hE
    obtain ⟨t2, a1, b1⟩ := kx hb q ce T2.heap (locs ++ L) hv (cm_post hJ h0 e1 e2 X2.warmed hp hF hL) (by rw [e1]; exact hce) hcv hcl T2 rfl X2
    exact ⟨t2, st.trans a1, b1⟩
theorem cm_callW5 (hr : vx_Run5 p l e R s m args below meth c H locs cells slots mc ms (F0 m pc ls stk) rest (cm_Qc P G rk b v σ2 X) (cm_XC P G b v σ2) (fun q => cg_b G ≤ q)) (hJ : cm_J P G s σ H locs)
    (kr : b = false → ∀ H1 locs1, cm_J P G s σ2 H1 locs1 → W p l e R s m args below meth c H1 locs1 (cells + mc) (slots + ms) Q (F0 m (pc + 5) ls ((cm_rt rk (cg_f G) v).toList ++ rest)))
    (kx : b = true → ∀ (q : Addr) (ce : Cell) H1 locs1, cm_tv (cg_f G) v = .ref q → cm_J P G s σ2 H1 locs1 → H1[q]? = some ce → ce.vm = .none → s.vm.findClass cm_EN = some ce.cls → vx_W p l e R s m args below meth c H1 locs1 (cells + mc) (slots + ms) Q (F0 m pc ls rest) q) :
    W p l e R s m args below meth c H locs cells slots Q (F0 m pc ls stk) := by
  intro T hT Xs
  rcases hr T hT Xs with ⟨w, st₀, t, T2, L, h0, X2, hL, e1, e2, ⟨hb, ho, hp, hF⟩, st⟩ | ⟨q, st₀, t, T2, L, E, ce, h0, X2, hL, e1, e2, ⟨hb, hE, hv, hp, hF⟩, hce, hcv, hcl, st⟩
  · cases ho
    obtain ⟨t2, a1, b1⟩ := kr hb T2.heap (locs ++ L) (cm_post hJ h0 e1 e2 X2.warmed hp hF hL) T2 rfl X2
    exact ⟨t2, st t2 a1, b1⟩
  · subst hE
    obtain ⟨t2, a1, b1⟩ := kx hb q ce T2.heap (locs ++ L) hv (cm_post hJ h0 e1 e2 X2.warmed hp hF hL) (by rw [e1]; exact hce) hcv hcl T2 rfl X2
    exact ⟨t2, st.trans a1, b1⟩
end
/-! what the tables say of a call -/
def cm_pn (y : MethodName) (k : Nat) : Prop := y.cls ≠ "java/lang/invoke/MethodHandle" ∧ y.cls ≠ "java/lang/invoke/VarHandle" ∧ (parseMethodDescriptor y.desc).map (fun d => d.parameters.length) = some k
def cm_lk (own : String) (n : Nat) (y : MethodName) : Prop := Cond.methodLink own n y ∈ lw_all ∨ ∃ host, Cond.methodLinkNest own n y host ∈ lw_tbl
/-- static -/
def cm_sk (own : String) (n : Nat) (D : cm_D) (k : Nat) : Prop := D.2.2.2.2 = none ∧ cm_cd D ∈ lw_all ∧ D.2.2.1 ≤ 45 ∧ Cond.static D.1 ∈ lw_all ∧ Cond.initialized D.1.cls ∈ lw_all ∧ cm_pn D.1 k ∧ cm_lk own n D.1
/-- invokespecial: a constructor, or super.m -/
def cm_ik (own : String) (n : Nat) (D : cm_D) (k : Nat) : Prop := D.2.2.2.2 = none ∧ cm_cd D ∈ lw_all ∧ D.2.2.1 ≤ 45 ∧ Cond.instanceMethod D.1 ∈ lw_all ∧ Cond.initialized D.1.cls ∈ lw_all ∧ cm_pn D.1 k ∧ ((D.1.name = "<init>" ∧ D.2.2.2.1 = none ∧ cm_lk own n D.1) ∨ (D.1.name ≠ "<init>" ∧ Cond.methodLink own n D.1 ∈ lw_all ∧ Cond.sameMethod D.1.cls D.1.cls D.1.name D.1.desc ∈ lw_all ∧ Cond.superclass own D.1.cls ∈ lw_all))
/-- invokevirtual, the receiver of class C -/
def cm_vk (own : String) (n : Nat) (C : String) (D : cm_D) (k : Nat) : Prop := cm_cd D ∈ lw_all ∧ D.2.2.1 ≤ 45 ∧ Cond.instanceMethod D.1 ∈ lw_all ∧
  ((D.2.2.2.2 = none ∧ D.1.cls = C ∧ Cond.selects C D.1 D.1 ∈ lw_all ∧ Cond.initialized C ∈ lw_all ∧ cm_pn D.1 k ∧ cm_lk own n D.1)
  ∨ (D.2.2.2.2 = none ∧ ∃ (x : MethodName) (owner : String), Cond.methodLink own n x ∈ lw_all ∧ Cond.sameMethod x.cls owner x.name x.desc ∈ lw_all ∧ Cond.selects C x D.1 ∈ lw_all ∧ Cond.initialized D.1.cls ∈ lw_all ∧ (owner ≠ "java/lang/invoke/MethodHandle" ∧ owner ≠ "java/lang/invoke/VarHandle" ∧ (parseMethodDescriptor x.desc).map (fun d => d.parameters.length) = some k) ∧ (D.1 = ⟨owner, x.name, x.desc⟩ ∨ Cond.declares ⟨owner, x.name, x.desc⟩ ∈ lw_tbl ∨ (Cond.instanceMethod ⟨owner, x.name, x.desc⟩ ∈ lw_all ∧ ∃ b0 m0 r0, Cond.code ⟨owner, x.name, x.desc⟩ b0 m0 r0 ∈ lw_all)))
  ∨ (∃ hh, D.2.2.2.2 = some hh ∧ D.1.cls = C ∧ Cond.selects C D.1 D.1 ∈ lw_all ∧ Cond.initialized C ∈ lw_all ∧ cm_pn D.1 k ∧ Cond.methodLink own n D.1 ∈ lw_all))
/-- invokeinterface -/
def cm_fk (own : String) (n : Nat) (C : String) (D : cm_D) (k : Nat) : Prop := D.2.2.2.2 = none ∧ cm_cd D ∈ lw_all ∧ D.2.2.1 ≤ 45 ∧ Cond.instanceMethod D.1 ∈ lw_all ∧ Cond.initialized D.1.cls ∈ lw_all ∧ ∃ x : MethodName, Cond.methodLink own n x ∈ lw_all ∧ Cond.selects C x D.1 ∈ lw_all ∧ cm_pn x k ∧ Cond.declares x ∈ lw_tbl ∧ Cond.interfaceMethod x.cls x.cls x.name x.desc ∈ lw_tbl ∧ Cond.publicMethod D.1 ∈ lw_tbl ∧ Cond.unhidden C x.name x.desc ∈ lw_tbl ∧ Cond.castable C x.cls ∈ lw_tbl
section
variable {p : Program} {l : Launch} {e : Env} {R : Room} {s : State} {m : MethodId} {args : Array Value} {below : List Frame} {meth : Method} {c : Code} {H : Heap} {locs : List Loc} {cells slots : Nat} {cc : ByteArray} {d pc mc ms nL n k : Nat} {ls : Array Slot} {own C : String} {rest As : List Value} {D : cm_D} {Pc : Array Value → State → Prop} {Qc : Array Value → State → Outcome → State → Prop} {XC : Addr → String → State → State → Prop} {free : Addr → Prop} {bb : Addr}
theorem cm_ws_none (h : D.2.2.2.2 = none) : cm_ws D = ws_ D.1 D.2.1 D.2.2.1 D.2.2.2.1 ∧ cm_cd D = Cond.code D.1 D.2.1 D.2.2.1 D.2.2.2.1 := by
  obtain ⟨y, b, L, r, hh⟩ := D
  dsimp only at h
  subst h
  exact ⟨rfl, rfl⟩
theorem cm_ws_some {hh : List (Nat × Nat × Nat × Nat)} (h : D.2.2.2.2 = some hh) : cm_ws D = wsW_ D.1 D.2.1 D.2.2.1 D.2.2.2.1 hh ∧ cm_cd D = Cond.codeWith D.1 D.2.1 D.2.2.1 D.2.2.2.1 hh := by
  obtain ⟨y, b, L, r, hh⟩ := D
  dsimp only at h
  subst h
  exact ⟨rfl, rfl⟩
theorem cs_runS (S : CallFix p m c cc nL s args lw_all own) (hT : ce_tbl s) (hM : vx_Met l D.1 (cm_ws D) ({ frames := d, cells := mc, slots := ms, locals := 64 * d } : Room) Pc Qc XC mc ms free) (ho : cm_sk own n D k) (hR : cm_rm R (d + 1)) (hp : PreS s H Pc As) (hn : As.length = k) (hsize : ls.size = nL) (hW : (rest.map fun v => v.category).sum ≤ 8) (hd : decode cc pc = .ok (.invokestatic n, 3)) (hf : cells + mc ≤ R.cells ∧ slots + ms ≤ R.slots) :
    vx_Run p l e R s m args below meth c H locs cells slots mc ms (F0 m pc ls (As.reverse ++ rest)) rest (Qc As.toArray) XC free := by
  obtain ⟨o0, o1, o2, o3, o4, o5, o6⟩ := ho
  obtain ⟨e1, e2⟩ := cm_ws_none o0
  rw [e1] at hM
  rw [e2] at o1
  have hts := S.2.2.2.2
  have hRR : d + 1 ≤ R.frames ∧ 8 + (D.2.2.1 + 11) + 64 * d ≤ R.locals := ⟨hR.1, by have := hR.2; omega⟩
  rcases o6 with q | ⟨host, q⟩
  · exact vx_runS S hM (va_cwS k hts (lw_S q o3 o4 o1) rfl rfl rfl o5 hRR) hp rfl hn hsize rfl (lv_room hW) hd hf
  · exact vx_runSN S hM ⟨va_cnB k hts (lw_meth o1) rfl rfl rfl (hT.1 _ q rfl) (hts _ o4) o5 hRR, hts _ o3, trivial⟩ hp rfl hn hsize rfl (lv_room hW) hd hf
theorem cs_runI (S : CallFix p m c cc nL s args lw_all own) (hT : ce_tbl s) (hM : vx_Met l D.1 (cm_ws D) ({ frames := d, cells := mc, slots := ms, locals := 64 * d } : Room) Pc Qc XC mc ms free) (ho : cm_ik own n D k) (hR : cm_rm R (d + 1)) (hp : PreV s H C bb Pc As) {cC : ClassId} (hat : ClassAt s C cC) (hn : As.length = k) (hsize : ls.size = nL) (hW : (rest.map fun v => v.category).sum ≤ 8) (hd : decode cc pc = .ok (.invokespecial n, 3)) (hf : cells + mc ≤ R.cells ∧ slots + ms ≤ R.slots) :
    vx_Run p l e R s m args below meth c H locs cells slots mc ms (F0 m pc ls (As.reverse ++ .ref bb :: rest)) rest (Qc (Value.ref bb :: As).toArray) XC free := by
  obtain ⟨o0, o1, o2, o3, o4, o5, o6⟩ := ho
  obtain ⟨e1, e2⟩ := cm_ws_none o0
  rw [e1] at hM
  rw [e2] at o1
  have hts := S.2.2.2.2
  have hRR : d + 1 ≤ R.frames ∧ 8 + (D.2.2.1 + 11) + 64 * d ≤ R.locals := ⟨hR.1, by have := hR.2; omega⟩
  have hpS : PreS s H Pc (.ref bb :: As) := ⟨hp.1, hp.2.2⟩
  rcases o6 with ⟨hnm, hret, q⟩ | ⟨hnm, q1, q2, q3⟩
  · rw [hret] at hM o1
    rcases q with q | ⟨host, q⟩
    · exact vx_runI S hM (cwI k hts (lw_meth o1) rfl rfl rfl (hts _ o4) (hts _ q) (hts _ o3) hnm o5 hRR) hpS rfl hn hsize rfl (lv_room hW) hd hf
    · exact vx_runIN S hM ⟨va_cnB k hts (lw_meth o1) rfl rfl rfl (hT.1 _ q rfl) (hts _ o4) o5 hRR, hnm, hts _ o3⟩ hpS rfl hn hsize rfl (lv_room hW) hd hf
  · refine vx_runSU hat S hM (va_cwSU k hts (lw_app (fun w hw => ?_) (lw_meth o1)) rfl rfl rfl ⟨hnm, o5.2.2⟩ hRR) hp rfl hn hsize rfl (lv_room hW) hd hf
    simp only [List.mem_cons, List.not_mem_nil, or_false] at hw
    rcases hw with rfl | rfl | rfl | rfl | rfl <;> assumption
theorem cs_runV (S : CallFix p m c cc nL s args lw_all own) (hT : ce_tbl s) (hM : vx_Met l D.1 (cm_ws D) ({ frames := d, cells := mc, slots := ms, locals := 64 * d } : Room) Pc Qc XC mc ms free) (ho : cm_vk own n C D k) (hR : cm_rm R (d + 1)) (hp : PreV s H C bb Pc As) (hn : As.length = k) (hsize : ls.size = nL) (hW : (rest.map fun v => v.category).sum ≤ 8) (hd : decode cc pc = .ok (.invokevirtual n, 3)) (hf : cells + mc ≤ R.cells ∧ slots + ms ≤ R.slots) :
    vx_Run p l e R s m args below meth c H locs cells slots mc ms (F0 m pc ls (As.reverse ++ .ref bb :: rest)) rest (Qc (Value.ref bb :: As).toArray) XC free := by
  obtain ⟨o1, o2, o3, o6⟩ := ho
  have hts := S.2.2.2.2
  have hRR : d + 1 ≤ R.frames ∧ 8 + (D.2.2.1 + 11) + 64 * d ≤ R.locals := ⟨hR.1, by have := hR.2; omega⟩
  rcases o6 with ⟨o0, hC, q2, q3, q4, q5⟩ | ⟨o0, x, owner, q1, q2, q3, q4, q5, q6⟩ | ⟨hh, o0, hC, q2, q3, q4, q5⟩
  · obtain ⟨e1, e2⟩ := cm_ws_none o0
    rw [e1] at hM
    rw [e2] at o1
    rcases q5 with q | ⟨host, q⟩
    · exact vx_runV S hM (cwV k hts (lw_V q o3 q2 q3 o1) rfl rfl rfl ⟨hC, q4⟩ hRR) hp rfl hn hsize rfl (lv_room hW) hd hf
    · exact vx_runVN S hM ⟨va_cnB k hts (lw_meth o1) rfl rfl rfl (hT.1 _ q rfl) (by rw [hC]; exact hts _ q3) q4 hRR, hts _ o3, hts _ q2⟩ hp rfl hn hsize rfl (lv_room hW) hd hf
  · obtain ⟨e1, e2⟩ := cm_ws_none o0
    rw [e1] at hM
    rw [e2] at o1
    have hg : GoodIn lw_all (va_wsU own n C owner x D.1 (ws_ D.1 D.2.1 D.2.2.1 D.2.2.2.1)) := by
      refine lw_app (fun w hw => ?_) (lw_meth o1)
      simp only [List.mem_cons, List.not_mem_nil, or_false] at hw
      rcases hw with rfl | rfl | rfl | rfl | rfl <;> assumption
    rcases q6 with q6 | q6 | ⟨q7, b0, m0, r0, q8⟩
    · exact vx_runU S hM (va_cwU k hts hg rfl rfl rfl q6 q5 hRR) hp rfl hn hsize rfl (lv_room hW) hd hf
    · exact vx_runU S hM (va_cwA k hts hg rfl rfl rfl (hT.1 _ q6 rfl) q5 hRR) hp rfl hn hsize rfl (lv_room hW) hd hf
    · have hg2 : GoodIn lw_all (va_wsO own n C owner x D.1 (ws_ D.1 D.2.1 D.2.2.1 D.2.2.2.1)) := by
        refine lw_app (fun w hw => ?_) (lw_meth o1)
        simp only [List.mem_cons, List.not_mem_nil, or_false] at hw
        rcases hw with rfl | rfl | rfl | rfl | rfl | rfl <;> assumption
      exact vx_runU S hM (va_cwO k hts hg2 rfl rfl rfl q8 q5 hRR) hp rfl hn hsize rfl (lv_room hW) hd hf
  · obtain ⟨e1, e2⟩ := cm_ws_some o0
    rw [e1] at hM
    rw [e2] at o1
    exact vx_runVX S hM (vx_cwVW k hts (lw_VW q5 o3 q2 q3 o1) rfl rfl rfl ⟨hC, q4⟩ hRR) hp rfl hn hsize rfl (lv_room hW) hd hf
theorem cs_runF (S : CallFix p m c cc nL s args lw_all own) (hT : ce_tbl s) {count : Nat} (hM : vx_Met l D.1 (cm_ws D) ({ frames := d, cells := mc, slots := ms, locals := 64 * d } : Room) Pc Qc XC mc ms free) (ho : cm_fk own n C D k) (hR : cm_rm R (d + 1)) (hp : PreV s H C bb Pc As) {cC : ClassId} (hat : ClassAt s C cC) (hn : As.length = k) (hsize : ls.size = nL) (hW : (rest.map fun v => v.category).sum ≤ 8) (hd : decode cc pc = .ok (.invokeinterface n count, 5)) (hf : cells + mc ≤ R.cells ∧ slots + ms ≤ R.slots) :
    vx_Run5 p l e R s m args below meth c H locs cells slots mc ms (F0 m pc ls (As.reverse ++ .ref bb :: rest)) rest (Qc (Value.ref bb :: As).toArray) XC free := by
  obtain ⟨o0, o1, o2, o3, o4, x, q1, q2, q3, q4, q5, q6, q7, q8⟩ := ho
  have hts := S.2.2.2.2
  have hRR : d + 1 ≤ R.frames ∧ 8 + (D.2.2.1 + 11) + 64 * d ≤ R.locals := ⟨hR.1, by have := hR.2; omega⟩
  obtain ⟨e1, e2⟩ := cm_ws_none o0
  rw [e1] at hM
  rw [e2] at o1
  have hg : GoodIn lw_all (va_wsF own n C x D.1 (ws_ D.1 D.2.1 D.2.2.1 D.2.2.2.1)) := by
    refine lw_app (fun w hw => ?_) (lw_meth o1)
    simp only [List.mem_cons, List.not_mem_nil, or_false] at hw
    rcases hw with rfl | rfl | rfl | rfl <;> assumption
  exact vx_runF hat S hM (va_cwF k hts hg rfl rfl rfl (hT.2.2 C x D.1 ⟨q3.1, q3.2.1⟩ q4 q5 q6 q7 q8) q3 hRR) hp rfl hn hsize rfl (lv_room hW) hd hf
end
