/-! FOR THE PROGRAM's TABLES -/
def cm_all {α : Type} (p : α → Prop) : List α → Prop
  | [] => True
  | a :: l => p a ∧ cm_all p l
theorem cm_all_mem {α : Type} {p : α → Prop} : ∀ {l : List α}, cm_all p l → ∀ a ∈ l, p a := by
  intro l
  induction l with
  | nil => intro _ a h; cases h
  | cons b l ih =>
    intro h a ha
    rcases List.mem_cons.mp ha with rfl | ha
    · exact h.1
    · exact ih h.2 a ha
/-- an instruction of which the tables say nothing, or a jump -/
def cm_chk (q : Nat × cm_E) : Bool := match q.2.1 with
  | .iinc _ _ => decide (q.2.2.1 = 3 ∨ q.2.2.1 = 6)
  | .getfield _ => false
  | .putfield _ => false
  | .new _ => false
  | .newarray _ => false
  | .anewarray _ => false
  | .checkcast _ => false
  | .instanceof _ => false
  | .ldc _ => false
  | .ldc_w _ => false
  | .ldc2_w _ => false
  | .getstatic _ => false
  | .goto o => decide ((q.1 : Int) + o = (q.2.2.2.1 : Int))
  | .ifCond _ o => decide ((q.1 : Int) + o = (q.2.2.2.1 : Int))
  | .if_icmp _ o => decide ((q.1 : Int) + o = (q.2.2.2.1 : Int))
  | .ifnull o => decide ((q.1 : Int) + o = (q.2.2.2.1 : Int))
  | .ifnonnull o => decide ((q.1 : Int) + o = (q.2.2.2.1 : Int))
  | .if_acmp _ o => decide ((q.1 : Int) + o = (q.2.2.2.1 : Int))
  | .invokestatic _ => false
  | .invokespecial _ => false
  | .invokevirtual _ => false
  | .invokeinterface _ _ => false
  | .athrow => false
  | .ireturn => false
  | .lreturn => false
  | .areturn => false
  | .return_ => false
  | _ => true
set_option maxHeartbeats 2000000 in
theorem cm_chk_inf {P : cm_P} {G : cm_G} {N : cm_N} {M : Nat → cm_D} {own mn : String} {ret : Option FieldType} {rk : Nat} (q : Nat × cm_E) (h : cm_chk q = true) : cm_inf P G N M own mn ret rk q.1 q.2 := by
  obtain ⟨pc, i, len, x, y, z, v⟩ := q
  cases i <;> first | exact trivial | exact Bool.noConfusion h | simpa [cm_chk, cm_inf] using h
/-- decoded as the bytes say, with the right length -/
def cm_dec (cc : ByteArray) (l : List (Nat × cm_E)) : Bool := l.all fun q => decide (decode cc q.1 = .ok (q.2.1, q.2.2.1)) && (cm_sw q.2.1 || decide (q.2.2.1 = cm_il q.2.1)) && cm_mac cc q.1 q.2
theorem cm_ents {P : cm_P} {G : cm_G} {N : cm_N} {M : Nat → cm_D} {mi : Nat} {own mn : String} {ret : Option FieldType} {rk : Nat} {cc : ByteArray} {l : List (Nat × cm_E)} (hl : cm_code P mi = l) (hd : cm_dec cc l = true) (hi : cm_all (fun q => cm_chk q = true ∨ cm_inf P G N M own mn ret rk q.1 q.2) l) : ∀ pc en, cm_at P mi pc = some en → cm_eok P G N M own mn ret rk cc pc en := by
  intro pc en h
  unfold cm_at at h
  rw [hl] at h
  obtain ⟨q, hq, rfl⟩ := Option.map_eq_some_iff.mp h
  have hm := List.mem_of_find?_eq_some hq
  have hp : q.1 = pc := by simpa using List.find?_some hq
  subst hp
  have h1 := List.all_eq_true.mp hd q hm
  simp only [Bool.and_eq_true, Bool.or_eq_true, decide_eq_true_eq] at h1
  refine ⟨h1.1.1, h1.1.2, ?_, h1.2⟩
  rcases cm_all_mem hi q hm with e | e
  · exact cm_chk_inf q e
  · exact e
theorem cm_lookup_mem {l : List (Nat × Nat)} {t mm : Nat} (h : l.lookup t = some mm) : (t, mm) ∈ l := by
  induction l with
  | nil => cases h
  | cons a l ih =>
    obtain ⟨a, b⟩ := a
    rw [List.lookup_cons] at h
    split at h
    · rename_i e
      have : t = a := by simpa using e
      subst this
      cases h
      exact List.mem_cons_self
    · exact List.mem_cons_of_mem _ (ih h)
theorem cm_dall {P : cm_P} {x : Nat} {l : List (Nat × Nat)} {p : Nat → Nat → Prop} (hl : (fun t => cm_disp P x t) = fun t => l.lookup t) (h : ∀ q ∈ l, p q.1 q.2) : ∀ t mm, cm_disp P x t = some mm → p t mm := by
  intro t mm e
  have e2 : l.lookup t = some mm := (congrFun hl t).symm.trans e
  exact h _ (cm_lookup_mem e2)
theorem cm_vr {cl : List vw_C} {t : Nat} {own : String} {n k : Nat} {D : cm_D} {r0 : vw_C} (h : cl[t]? = some r0) (h2 : cm_vk own n r0.1 D k) : ∀ r : vw_C, cl[t]? = some r → cm_vk own n r.1 D k := by
  intro r hr
  cases h.symm.trans hr
  exact h2
theorem cm_fr {cl : List vw_C} {t : Nat} {own : String} {n k : Nat} {D : cm_D} {r0 : vw_C} (h : cl[t]? = some r0) (h2 : cm_fk own n r0.1 D k) : ∀ r : vw_C, cl[t]? = some r → cm_fk own n r.1 D k := by
  intro r hr
  cases h.symm.trans hr
  exact h2
