/-! WHAT THE CLASS TABLES SAY, all through a run -/
def cm_ak (t : Nat) : FieldType := match t with
  | 101 => .int
  | 102 => .long
  | 103 => .byte
  | 104 => .boolean
  | 105 => .object "java/lang/Object"
  | 106 => .object "java/util/BitSet"
  | 107 => .object "SpreadsheetEngine$Content"
  | 108 => .object "SpreadsheetEngine$Function"
  | _ => .object "java/lang/String"
/-- statics, string constants, names of casts, the mirror of Object[] -/
abbrev cm_N : Type := List (String × String × String × Value) × List (String × Nat × String × Nat) × (Nat → String) × Nat
def cm_co (G : cm_G) (t : Nat) : ClassId := if t < 100 then (cg_D G).1 t else cg_dA G t
/-- where an instance field lies -/
def cm_SI (s : State) (C f d : String) (i : Nat) : Prop := ∃ cf kf fi fd, s.fieldFound? C f d = some (cf, kf, fi, fd) ∧ fd.slot = i ∧ fd.isStatic = false
theorem cm_SI.moved {u E : State} {C f d : String} {i : Nat} (hvm : u.vm.Alike E.vm) (h : cm_SI u C f d i) : cm_SI E C f d i := by
  obtain ⟨cf, kf, fi, fd, hi, hs⟩ := h
  obtain ⟨kf', hi', -⟩ := State.fieldFound?_setVm (s := u) hvm hi
  exact ⟨cf, kf', fi, fd, by simpa only [State.fieldFound?, State.vm_setVm] using hi', hs⟩
/-- the classes: those below 60 are ordinary and are made; the others have constants alone -/
def ce_cls (G : cm_G) (s : State) : Prop := ∀ (t : Nat) (r : vw_C), (cg_cl G)[t]? = some r → (∀ k, k < r.2.2 → cm_SI s (r.2.1 k).1 (r.2.1 k).2.1 (r.2.1 k).2.2.1 ((cg_D G).2 t k)) ∧ s.vm.findClass r.1 = some ((cg_D G).1 t) ∧ (t < 60 → ∃ kC : Class, s.vm.classes[(cg_D G).1 t]? = some kC ∧ kC.kind = .ordinary)
theorem ce_cls.kn {G : cm_G} {s : State} (h : ce_cls G s) {t : Nat} {r : vw_C} (hr : (cg_cl G)[t]? = some r) (ht : t < 60) : u_Kn s r.1 r.2.1 r.2.2 ((cg_D G).1 t) ((cg_D G).2 t) := by
  obtain ⟨h1, h2, h3⟩ := h t r hr
  refine ⟨fun k hk => ?_, h2, h3 ht⟩
  obtain ⟨cf, kf, fi, fd, a1, a2, -⟩ := h1 k hk
  exact ⟨cf, kf, fi, fd, a1, a2⟩
theorem ce_cls.moved {G : cm_G} {s U : State} (hal : s.vm.Alike U.vm) (h : ce_cls G s) : ce_cls G U := by
  intro t r hr
  obtain ⟨h1, h2, h3⟩ := h t r hr
  refine ⟨fun k hk => (h1 k hk).moved hal, by rw [hal.findClass]; exact h2, fun ht => ?_⟩
  obtain ⟨kC, hk, hkind⟩ := h3 ht
  obtain ⟨k', hk', he⟩ := hal.2.2 _ _ hk
  exact ⟨k', hk', by rw [he]; exact hkind⟩
def ce_arr (G : cm_G) (s : State) : Prop := ∀ t, 100 < t → t < 110 → s.vm.findClass ("[" ++ (cm_ak t).toString) = some (cg_dA G t) ∧ ArrOfT s (cg_dA G t) (cm_ak t) ∧ va_RA s (cg_dA G t) (cm_ak t)
def cm_mv (w : Cond) : Bool := match w with
  | .fieldLinkNest _ _ _ _ _ _ => true
  | .methodLinkNest _ _ _ _ => true
  | .castable _ _ => true
  | .declares _ => true
  | _ => false
def ce_tbl (s : State) : Prop := (∀ w ∈ lw_tbl, cm_mv w = true → va_Nw w s) ∧ (∀ C, Cond.arrayOver (.object C) ∈ lw_tbl → va_AO C s) ∧ ∀ (C : String) (x y : MethodName), (x.cls ≠ "java/lang/invoke/MethodHandle" ∧ x.cls ≠ "java/lang/invoke/VarHandle") → Cond.declares x ∈ lw_tbl → Cond.interfaceMethod x.cls x.cls x.name x.desc ∈ lw_tbl → Cond.publicMethod y ∈ lw_tbl → Cond.unhidden C x.name x.desc ∈ lw_tbl → Cond.castable C x.cls ∈ lw_tbl → va_Fw C x y s
def ce_sts (G : cm_G) (N : cm_N) (s : State) (H : Heap) : Prop := ∀ q ∈ N.1, va_Z q.1 q.2.1 q.2.2.1 (cm_tv (cg_f G) q.2.2.2) (fun q => cg_b G ≤ q) s H
def ce_str (G : cm_G) (N : cm_N) (s : State) : Prop := ∀ q ∈ N.2.1, vk_R q.1 q.2.1 q.2.2.1 (cg_f G q.2.2.2) s
def ce_cast (P : cm_P) (G : cm_G) (N : cm_N) (s : State) : Prop := (∀ (x t : Nat) (b : Bool), cm_cast P x t = some b → ∃ cn : ClassId, s.vm.findClass (N.2.2.1 x) = some cn ∧ s.vm.assignable (cm_co G t) cn = b) ∧ ∀ t, 100 < t → t < 105 → cg_dA G (t + 100) = cg_dA G t
def ce_asg (P : cm_P) (G : cm_G) (s : State) : Prop := ∀ ta tv, cm_asg P ta tv = true → ∃ C, cm_ak ta = .object C ∧ ∀ comp : ClassId, s.vm.findClass C = some comp → s.vm.assignable (cm_co G tv) comp = true
def ce_mir (G : cm_G) (N : cm_N) (s : State) : Prop := va_Mi "[Ljava/lang/Object;" (cg_f G N.2.2.2) s ∧ va_Dc s
/-- the static that is a reference or null; its number among the constants -/
def cm_sC : String := "jdk/internal/util/Preconditions"
def cm_sF : String := "SIOOBE_FORMATTER"
def cm_sT : String := "Ljava/util/function/BiFunction;"
def cm_sI : Nat := 321
def ce_sio (G : cm_G) (s : State) (H : Heap) : Prop := va_Z cm_sC cm_sF cm_sT .null (fun q => cg_b G ≤ q) s H ∨ va_Z cm_sC cm_sF cm_sT (.ref (cg_f G cm_sI)) (fun q => cg_b G ≤ q) s H
/-- two statics of Throwable -/
def ce_thr (G : cm_G) (s : State) (H : Heap) : Prop := vx_Zq Bundle.tN "UNASSIGNED_STACK" Bundle.steD (fun q => cg_b G ≤ q) s H ∧ vx_Zq Bundle.tN "SUPPRESSED_SENTINEL" Bundle.listD (fun q => cg_b G ≤ q) s H
def cm_env (P : cm_P) (G : cm_G) (N : cm_N) (s : State) (H : Heap) : Prop := cg_ak G = cm_ak ∧ ce_cls G s ∧ ce_arr G s ∧ ce_tbl s ∧ ce_sts G N s H ∧ ce_str G N s ∧ ce_cast P G N s ∧ ce_asg P G s ∧ ce_mir G N s ∧ ce_thr G s H ∧ ce_sio G s H
theorem cm_Nw_warm {w : Cond} (hw : cm_mv w = true) {s U : State} (hW : s.WarmedH U.vm) (h : va_Nw w s) : va_Nw w U := by
  cases w <;> simp [cm_mv] at hw
  all_goals first | exact va_Nw.warmC hW h | exact va_Nw.warmD hW h | exact va_Nw.warmF hW h | exact va_Nw.warmM hW h
theorem cm_env.moved {P : cm_P} {G : cm_G} {N : cm_N} {s U : State} {H H1 : Heap} (hW : s.WarmedH U.vm) (h : cm_env P G N s H) (hH : ∀ q : Nat, q < H.size → ¬ cg_b G ≤ q → H1[q]? = H[q]?) : cm_env P G N U H1 := by
  obtain ⟨h0, h1, h2, h3, h4, h5, h6, h7, h8, h9, h10⟩ := h
  have hal := hW.alike
  refine ⟨h0, h1.moved hal, fun t a b => ?_, ⟨fun w hw hm => cm_Nw_warm hm hW (h3.1 w hw hm), fun C hC => (h3.2.1 C hC).moved hal, fun C x y hx a1 a2 a3 a4 a5 => va_Fw.moved hx hal (h3.2.2 C x y hx a1 a2 a3 a4 a5)⟩, fun q hq => ((h4 q hq).moved hal).kept hH, fun q hq => (h5 q hq).warm hW, ⟨fun x t b hb => ?_, h6.2⟩, fun ta tv hh => ?_, ⟨h8.1.moved hal, h8.2.moved hal⟩, ⟨(vx_Zq.moved hal h9.1).kept hH, (vx_Zq.moved hal h9.2).kept hH⟩, h10.imp (fun q => (q.moved hal).kept hH) (fun q => (q.moved hal).kept hH)⟩
  · obtain ⟨a1, a2, a3⟩ := h2 t a b
    exact ⟨by rw [hal.findClass]; exact a1, arrOfT_moved hal a2, a3.moved hal⟩
  · obtain ⟨cn, e1, e2⟩ := h6.1 x t b hb
    exact ⟨cn, by rw [hal.findClass]; exact e1, by rw [hal.assignable]; exact e2⟩
  · obtain ⟨C, e1, e2⟩ := h7 ta tv hh
    exact ⟨C, e1, fun comp hc => by rw [hal.assignable]; exact e2 comp (by rw [← hal.findClass]; exact hc)⟩
/-- the relation seen from another state of the same tables -/
theorem cm_cell.moved {P : cm_P} {G : cm_G} {s U : State} {σ : cm_S} {a : Nat} {H : Heap} (hal : s.vm.Alike U.vm) (h : cm_cell P G s σ a H) : cm_cell P G U σ a H := by
  obtain ⟨cell, h1, h2, h3, h4, h5, h6⟩ := h
  refine ⟨cell, h1, h2, h3, h4, h5, fun q => ?_⟩
  obtain ⟨q0, q1, q2⟩ := h6 q
  exact ⟨q0, State.isArrayOf_alike hal q1, q2⟩
/-- what is said once of the classes -/
def cm_clok (G : cm_G) : Prop := ∀ (t : Nat) (r : vw_C), (cg_cl G)[t]? = some r → t < 100 ∧ (t < 60 → ∀ w ∈ u_ws r.1 r.2.1 r.2.2, w ∈ lw_all) ∧ (∀ k, k < r.2.2 → parseFieldDescriptor (r.2.1 k).2.2.1 = some (cg_ty G t k) ∧ cm_kd (cg_ty G t k) ≤ 5) ∧ (t < 60 → ∀ a, a < r.2.2 → ∀ b, b < r.2.2 → a ≠ b → (r.2.1 a).2.1 ≠ (r.2.1 b).2.1)
/-- a field's reference: resolved to field y of class x -/
def cm_fok (G : cm_G) (own : String) (n x y z : Nat) : Prop := ∃ (r : vw_C) (ref : String), (cg_cl G)[x]? = some r ∧ x ≠ 0 ∧ y < r.2.2 ∧ z = cm_kd (cg_ty G x y) ∧ (Cond.fieldLink own n ref (r.2.1 y).2.1 (r.2.1 y).2.2.1 ∈ lw_all ∨ ∃ host, Cond.fieldLinkNest own n ref (r.2.1 y).2.1 (r.2.1 y).2.2.1 host ∈ lw_tbl) ∧ (ref = (r.2.1 y).1 ∨ Cond.sameField ref (r.2.1 y).1 (r.2.1 y).2.1 (r.2.1 y).2.2.1 ∈ lw_all)
/-- .. and it may be written from the method called mn -/
def cm_fin (G : cm_G) (own mn : String) (x y : Nat) : Prop := x < 60 ∧ ∀ r : vw_C, (cg_cl G)[x]? = some r → (r.2.1 y).2.2.2 = false ∨ ((r.2.1 y).2.2.2 = true ∧ mn = "<init>" ∧ (r.2.1 y).1 = own)
section
variable {p : Program} {l : Launch} {e : Env} {R : Room} {s : State} {m : MethodId} {args : Array Value} {below : List Frame} {meth : Method} {c : Code} {H : Heap} {locs : List Loc} {cells slots : Nat} {Q : State → Prop} {cc : ByteArray} {P : cm_P} {G : cm_G} {d : Nat} {calls : Nat → List Value → cm_S → Option cm_O} {mi pc pc2 nL x y z len : Nat} {v : Value} {ls : Array Slot} {L L2 st st2 : List Value} {σ σ2 : cm_S} {own : String}
theorem cs_getfield (hx : p.tables.exec = Jvm.exec) (hb : c.code = cc) {n : Nat} (hd : decode cc pc = .ok (.getfield n, 3)) (hL : cm_LR (cg_f G) nL L ls) (hown : s.vm.findClass own = some m.cls) (hts : ∀ w ∈ lw_all, w.before args s = true) (hJ : cm_J P G s σ H locs) (hC : ce_cls G s) (hT : ce_tbl s) (hK : cm_clok G) (ho : cm_fok G own n x y z)
    (h : cm_step P d calls mi pc (.getfield n, len, x, y, z, v) L st σ = some (.inl (pc2, L2, st2, σ2))) (k : ∀ ls2, cm_LR (cg_f G) nL L2 ls2 → W p l e R s m args below meth c H locs cells slots Q (F0 m pc2 ls2 (st2.map (cm_tv (cg_f G))))) : σ2 = σ ∧ W p l e R s m args below meth c H locs cells slots Q (F0 m pc ls (st.map (cm_tv (cg_f G)))) := by
  obtain ⟨a, r0, rfl, g⟩ := cm_pr_some h
  clear h
  obtain ⟨⟨hta, hx0⟩, g⟩ := cm_if_some g
  obtain ⟨r, ref, hc, -, hy, hz, hlk, hsm⟩ := ho
  obtain ⟨hx100, hin, hty, -⟩ := hK x r hc
  obtain ⟨ha0, -, cell, c1, c2, c3, -, c5, -⟩ := hJ.2.2.1 a (by rw [hta]; exact hx0)
  obtain ⟨q1, r', q2, q3⟩ := c5 (by rw [hta]; exact hx100)
  rw [hta] at q1 q2 q3
  cases Option.some.inj (q2.symm.trans hc)
  obtain ⟨hS, hfc, -⟩ := hC x _ hc
  obtain ⟨cf, kf, fi, f, hi, hsl, hst⟩ := hS y hy
  have hi2 : s.fieldFound? ref (r.2.1 y).2.1 (r.2.1 y).2.2.1 = some (cf, kf, fi, f) := by
    rcases hsm with e1 | e1
    · rw [e1]; exact hi
    · exact u_same (hts _ e1) _ hi
  have hsl2 : cell.slots[f.slot]? = some (cm_vl (cg_f G) σ a y (cg_ty G x y)) := by rw [hsl]; exact q3 y hy
  have ha1 : a ≠ 0 := Nat.pos_iff_ne_zero.mp ha0
  have go : ∀ w : Value, cm_vl (cg_f G) σ a y (cg_ty G x y) = w → W p l e R s m args below meth c H locs cells slots Q (F0 m (pc + 3) ls (w :: r0.map (cm_tv (cg_f G)))) → W p l e R s m args below meth c H locs cells slots Q (F0 m pc ls ((Value.ref a :: r0).map (cm_tv (cg_f G)))) := by
    intro w hw kk
    rw [hw] at hsl2
    rw [List.map_cons, cm_tv_ref ha1]
    rcases hlk with e1 | ⟨host, e1⟩
    · exact W.getf hx hb hown (hts _ e1) hi2 hst c1 c3 hsl2 rfl rfl hd kk
    · exact va_Wgetf hx hb hown (va_Nw.use rfl (hT.1 _ e1 rfl)) hi2 hst c1 c3 hsl2 rfl rfl hd kk
  by_cases z1 : z = 1
  · rw [z1] at g
    obtain ⟨rfl, rfl, rfl, rfl⟩ := cm_go_inj g
    exact ⟨rfl, go _ (by rw [z1] at hz; simp [cm_vl, ← hz, cm_tv]) (k ls hL)⟩
  · by_cases z2 : z = 2
    · rw [z2] at g
      obtain ⟨rfl, rfl, rfl, rfl⟩ := cm_go_inj g
      exact ⟨rfl, go _ (by rw [z2] at hz; simp [cm_vl, ← hz, cm_tv]) (k ls hL)⟩
    · have g2 : cm_go (pc + 3) L (.int (cm_I σ a y) :: r0) σ = some (.inl (pc2, L2, st2, σ2)) := by
        revert g; split <;> intro g <;> first | exact absurd rfl z1 | exact absurd rfl z2 | exact g
      obtain ⟨rfl, rfl, rfl, rfl⟩ := cm_go_inj g2
      exact ⟨rfl, go _ (by unfold cm_vl; rw [← hz]; split <;> first | exact absurd rfl z1 | exact absurd rfl z2 | rfl) (k ls hL)⟩
theorem cm_slots_ne (hts : ∀ w ∈ lw_all, w.before args s = true) (hC : ce_cls G s) (hK : cm_clok G) {t : Nat} {r : vw_C} (hc : (cg_cl G)[t]? = some r) (h60 : t < 60) : ∀ i j, i < r.2.2 → j < r.2.2 → i ≠ j → (cg_D G).2 t i ≠ (cg_D G).2 t j := by
  intro i j hi hj hne
  obtain ⟨-, hin, hty, hnm⟩ := hK t r hc
  have hin := hin h60
  have hnm := hnm h60
  obtain ⟨hS, -⟩ := hC.kn hc h60
  obtain ⟨_, _, _, fa, hia, ea⟩ := hS i hi
  obtain ⟨_, _, _, fb, hib, eb⟩ := hS j hj
  rw [← ea, ← eb]
  refine u_apart (u_lays hts hin hi) (u_lays hts hin hj) hia hib ?_
  rw [(State.fieldFound?_type hia (hty i hi).1).1, (State.fieldFound?_type hib (hty j hj).1).1]
  exact hnm i hi j hj hne
/-- a field written: the machine's side -/
theorem cm_putW (hx : p.tables.exec = Jvm.exec) (hb : c.code = cc) {n : Nat} (hd : decode cc pc = .ok (.putfield n, 3)) (hown : s.vm.findClass own = some m.cls) (hts : ∀ w ∈ lw_all, w.before args s = true) (hA : cm_ad P G) (hJ : cm_J P G s σ H locs) (hC : ce_cls G s) (hT : ce_tbl s) (hK : cm_clok G) (ho : cm_fok G own n x y z) (hf : cm_fin G own meth.name x y)
    {a : Nat} {w : Value} {rest : List Value} (hta : cm_tg σ a = x) (haK : cm_K P ≤ a) (hn : narrow (cg_ty G x y) w = w) (hfit : fits (cg_ty G x y) w = true) (htg : cm_tg σ2 = cm_tg σ) (hln : cm_ln σ2 = cm_ln σ) (hnx : cm_nx σ2 = cm_nx σ) (hvl : ∀ b, b ≠ a → ∀ j ty, cm_vl (cg_f G) σ2 b j ty = cm_vl (cg_f G) σ b j ty) (hvn : ∀ j ty, j ≠ y → cm_vl (cg_f G) σ2 a j ty = cm_vl (cg_f G) σ a j ty) (hvy : cm_vl (cg_f G) σ2 a y (cg_ty G x y) = w)
    (k : ∀ H2 locs2, cm_J P G s σ2 H2 locs2 → W p l e R s m args below meth c H2 locs2 cells slots Q (F0 m (pc + 3) ls rest)) : W p l e R s m args below meth c H locs cells slots Q (F0 m pc ls (w :: .ref (cg_f G a) :: rest)) := by
  obtain ⟨r, ref, hc, hx0, hy, hz, hlk, hsm⟩ := ho
  obtain ⟨hx100, hin, hty, -⟩ := hK x r hc
  have hin := hin hf.1
  obtain ⟨ha0, -, cell, c1, c2, c3, c4, c5, c6⟩ := hJ.2.2.1 a (by rw [hta]; exact hx0)
  obtain ⟨q1, r', q2, q3⟩ := c5 (by rw [hta]; exact hx100)
  rw [hta] at q1 q2 q3
  cases Option.some.inj (q2.symm.trans hc)
  have hap := cm_slots_ne hts hC hK hc hf.1
  obtain ⟨hS, hfc, kC, hkC, hkind⟩ := hC.kn hc hf.1
  obtain ⟨cf, kf, fi, f, hi, hsl⟩ := hS y hy
  have hst := (u_facts hfc hkC (u_lays hts hin hy) hi).1
  have hi2 : s.fieldFound? ref (r.2.1 y).2.1 (r.2.1 y).2.2.1 = some (cf, kf, fi, f) := by
    rcases hsm with e1 | e1
    · rw [e1]; exact hi
    · exact u_same (hts _ e1) _ hi
  have hvm := c4 haK
  have hlt : f.slot < cell.slots.size := by rw [hsl]; exact k2_hasslot (q3 y hy)
  have hlay := hts _ (hin _ (u_in_lay hy))
  unfold u_lay at hlay
  have h6 : narrow f.type w = w ∧ s.fitsSlot cell.cls .none f.slot w = true := by
    rw [q1]
    refine u_fits (args := args) hfc hkC hkind ?_ hi (hty y hy).1 hn hfit
    by_cases hfl : (r.2.1 y).2.2.2 = true
    · rw [if_pos hfl] at hlay; exact Or.inr hlay
    · rw [if_neg hfl] at hlay; exact Or.inl hlay
  have hfin : hasFlag f.accessFlags Acc.final = false ∨ (m.cls = cf ∧ meth.name = "<init>") := by
    rcases hf.2 r hc with e1 | ⟨e1, e2, e3⟩
    · rw [if_neg (by rw [e1]; decide)] at hlay
      exact Or.inl (u_store hfc hkC hkind hlay hi (hty y hy).1 hn hfit).1
    · rw [if_pos e1] at hlay
      refine Or.inr ⟨?_, e2⟩
      obtain ⟨_, _, c', _, _, _, -, -, hf', -, -, -, hown2, -⟩ := Cond.laysFinal_spec hlay
      have e4 : c' = cf := by have := hi.symm.trans hf'; simp at this; exact this.1.symm
      rw [e3] at hown2
      rw [← e4]; exact Option.some.inj (hown.symm.trans hown2)
  have hlen : cg_f G a < H.size := (Array.getElem?_eq_some_iff.mp c1).1
  have fin : W p l e R s m args below meth c (H.setIfInBounds (cg_f G a) (cell.setSlot f.slot w)) (locs ++ [⟨cg_f G a, f.slot⟩]) cells slots Q (F0 m (pc + 3) ls rest) := by
    refine k _ _ (cm_J.put (a := a) hA hJ haK htg hln hnx hvl ?_ (by simp) (fun q hq => by simp [Array.getElem?_setIfInBounds, Ne.symm hq]) ?_)
    · refine ⟨cell.setSlot f.slot w, by simp [Array.getElem?_setIfInBounds, hlen], by show cell.vm.isStatics = false; exact c2, by show cell.vm ≠ .unknown; exact c3, fun _ => by show cell.vm = .none; exact hvm, fun _ => ?_, fun q => ?_⟩
      · rw [htg, hta]
        refine ⟨q1, r, hc, fun j hj => ?_⟩
        by_cases e1 : j = y
        · subst e1
          rw [hvy, ← hsl]
          simp only [Cell.setSlot]
          rw [Array.getElem?_setIfInBounds]
          simp [hlt]
        · rw [hvn j _ e1, hsl]
          simp only [Cell.setSlot]
          rw [Array.getElem?_setIfInBounds, if_neg (hap y j hy hj (Ne.symm e1))]
          exact q3 j hj
      · exfalso; rw [htg, hta] at q; omega
    · intro q hq
      rcases List.mem_append.mp hq with h1 | h1
      · exact Or.inl h1
      · simp only [List.mem_singleton] at h1; subst h1; exact Or.inr rfl
  rcases hlk with e1 | ⟨host, e1⟩
  · exact W.putf hx hb hown (hts _ e1) hi2 hst hfin c1 c3 hlt h6.1 (by rw [hvm]; exact h6.2) rfl rfl hd fin
  · exact va_Wputf hx hb hown (va_Nw.use rfl (hT.1 _ e1 rfl)) hi2 hst hfin c1 c3 hlt h6.1 (by rw [hvm]; exact h6.2) rfl rfl hd fin
theorem cm_narrow_ref (ty : FieldType) (h : cm_kd ty = 2) (f : Nat → Nat) (a : Nat) : narrow ty (cm_tv f (.ref a)) = cm_tv f (.ref a) ∧ fits ty (cm_tv f (.ref a)) = true := by
  by_cases ha : a = 0
  · subst ha; rw [cm_tv_0]; cases ty <;> simp [cm_kd] at h <;> exact ⟨rfl, rfl⟩
  · rw [cm_tv_ref ha]; cases ty <;> simp [cm_kd] at h <;> exact ⟨rfl, rfl⟩
theorem cm_narrow_int (ty : FieldType) (z : Nat) (hz : z = cm_kd ty) (h5 : z ≤ 5) (h1 : z ≠ 1) (h2 : z ≠ 2) (w : Int32) (hf : cm_fit z w = true) : narrow ty (.int w) = .int w ∧ fits ty (.int w) = true := by
  cases ty <;> simp [cm_kd] at hz <;> subst hz <;> try (exfalso; first | exact h1 rfl | exact h2 rfl | omega)
  case byte =>
    have e : w.toInt8.toInt32 = w := by simpa [cm_fit] using hf
    have a1 := pk_nb w
    have a2 := pk_fb w
    rw [e] at a1 a2
    exact ⟨a1, a2⟩
  case char =>
    have e : (w.toUInt32 % 65536).toInt32 = w := by simpa [cm_fit] using hf
    have a1 := pk_nc w
    have a2 := pk_fc w
    rw [e] at a1 a2
    exact ⟨a1, a2⟩
  case boolean =>
    have e : w = 0 ∨ w = 1 := by simpa [cm_fit] using hf
    rcases e with rfl | rfl <;> exact ⟨rfl, rfl⟩
  case int => exact ⟨rfl, rfl⟩
end
