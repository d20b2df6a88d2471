/-! THE TWIN: functions of formulas -/
theorem ags_c {as a : Fm} {l : List Fm} (h : isL as) (e : ags as = a :: l) : ∃ r, as = .div a r ∧ isL r ∧ ags r = l := by
  cases as with
  | div x r =>
    have e : x :: ags r = a :: l := e
    injection e with e1 e2
    subst e1
    exact ⟨r, rfl, h, e2⟩
  | result => cases e
  | _ => exact absurd h (by simp [isL])
theorem ags_n {as : Fm} (h : isL as) (e : ags as = []) : as = .result := by
  cases as with
  | div x r => cases e
  | result => rfl
  | _ => exact absurd h (by simp [isL])
theorem celF_step {f l c : Nat} (hc : c < 240) : celF f l (240 - c) = if inb c f l then c :: celF f l (240 - (c + 1)) else celF f l (240 - (c + 1)) := by
  obtain ⟨n, hn⟩ : ∃ n, 240 - c = n + 1 := ⟨239 - c, by omega⟩
  rw [hn, celF, show 239 - n = c by omega, show 240 - (c + 1) = n by omega]
theorem inb_le {c f l : Nat} (h : inb c f l = true) : f ≤ c ∧ c ≤ l := by
  unfold inb at h
  rw [decide_eq_true_eq] at h
  omega
theorem celF_gt {f l : Nat} : ∀ n c, 240 - c = n → l < c → celF f l (240 - c) = [] := by
  intro n
  induction n with
  | zero => intro c hn _; rw [hn]; rfl
  | succ n ih =>
    intro c hn hl
    rw [celF_step (by omega), if_neg (fun z => by have := inb_le z; omega)]
    exact ih (c + 1) (by omega) (by omega)
theorem celF_lo {f l : Nat} (hf : f ≤ 240) : ∀ j, j ≤ f → celF f l (240 - j) = celF f l 240 := by
  intro j
  induction j with
  | zero => intro _; rfl
  | succ j ih =>
    intro hj
    rw [← ih (by omega), celF_step (show j < 240 by omega), if_neg (fun z => by have := inb_le z; omega)]
/-- what is reckoned at a state: stops -/
def stE (q : Option (Nat × Nat)) : Prop := q = none ∨ q = some (6, 41) ∨ q = some (6, 44)
def stS (q : Option (Nat × Nat)) : Prop := ∀ v, q = some (6, v) → v ≠ 43 ∧ v ≠ 45 ∧ v ≠ 42 ∧ v ≠ 47 ∧ v ≠ 37
def stP (q : Option (Nat × Nat)) : Prop := ∀ v, q = some (6, v) → v ≠ 42 ∧ v ≠ 47 ∧ v ≠ 37
theorem stE_S {q : Option (Nat × Nat)} (h : stE q) : stS q := by
  intro v e
  rcases h with z | z | z <;> rw [e] at z <;> cases z <;> omega
theorem stS_P {q : Option (Nat × Nat)} (h : stS q) : stP q := fun v e => (h v e).2.2
theorem stE_58 {q : Option (Nat × Nat)} (h : stE q) : q ≠ some (6, 58) := by
  rcases h with z | z | z <;> rw [z] <;> simp
def evS (τ : tw_K) (X : tw_I → tw_L → Prop) (N : List Nm) (V : Nat → Vl) (ts : List (Nat × Nat)) (num lo off : Nat) (st : Option (Nat × Nat) → Prop) (n : Nat) : Prop :=
  ∀ (t : Fm) (pre suf : List (Nat × Nat)) (d : Nat) (I : tw_I) (L : tw_L) (Q : tw_I → tw_L → Prop), wf t → lo ≤ lv t → (tk t).length ≤ n → X I L → ts = pre ++ (tk t ++ suf) → st suf.head? → 8 * n + off ≤ d → I 1315 44 = zi pre.length →
    (∀ I2 L2, twf EVW I L I2 L2 → tev I2 L2 (pre.length + (tk t).length) (ev1 N V t) → Q I2 L2) → wp_c d num [.ref 1315] (tw τ I L) (tv τ Q)
theorem tk_pos {t : Fm} (h : wf t) (h2 : ar t ∨ 1 ≤ lv t) : 0 < (tk t).length := by
  cases t with
  | arg n => exact Nat.one_pos
  | index v => exact Nat.one_pos
  | null => exact Nat.one_pos
  | elem a b =>
    cases a <;> cases b <;> first | exact Nat.succ_pos _ | exact absurd h (by simp [wf])
  | length a => cases a <;> first | exact Nat.one_pos | exact absurd h (by simp [wf])
  | op2 o l r => show 0 < (tk l ++ (6, opc o) :: tk r).length; rw [List.length_append, List.length_cons]; omega
  | op1 o a => exact Nat.succ_pos _
  | old a => exact Nat.succ_pos _
  | mul a as => cases a <;> first | exact Nat.succ_pos _ | exact absurd h (by simp [wf])
  | _ => rcases h2 with z | z <;> simp [ar, lv] at z
theorem tk_args (a : Fm) {r : Fm} (h : isL r) : (r = .result ∧ tk (.div a r) = tk a) ∨ (ags r ≠ [] ∧ tk (.div a r) = tk a ++ (6, 44) :: tk r) := by
  rcases isL_div h with rfl | z
  · exact .inl ⟨rfl, rfl⟩
  · refine .inr ⟨?_, tk_div a r z⟩
    obtain ⟨x, y, rfl⟩ := z
    intro e
    cases e
/-- the arguments' end -/
theorem tk_rest {ts pre suf : List (Nat × Nat)} {a r : Fm} (hl : isL r) (h : ts = pre ++ (tk (.div a r) ++ (6, 41) :: suf)) : ∃ s, ts = pre ++ (tk a ++ s) ∧ stE s.head? ∧ ((r = .result ∧ (tk (.div a r)).length = (tk a).length ∧ ts[pre.length + (tk a).length]? = some (6, 41)) ∨ (ags r ≠ [] ∧ (tk (.div a r)).length = (tk a).length + 1 + (tk r).length ∧ ts[pre.length + (tk a).length]? = some (6, 44) ∧ ts = (pre ++ (tk a ++ [(6, 44)])) ++ (tk r ++ (6, 41) :: suf) ∧ (pre ++ (tk a ++ [(6, 44)])).length = pre.length + (tk a).length + 1)) := by
  rcases tk_args a hl with ⟨e1, e2⟩ | ⟨e1, e2⟩
  · refine ⟨(6, 41) :: suf, by rw [h, e2], .inr (.inl rfl), .inl ⟨e1, by rw [e2], ?_⟩⟩
    rw [h, e2, ← List.append_assoc, ← List.length_append]
    exact at0
  · refine ⟨(6, 44) :: (tk r ++ (6, 41) :: suf), by rw [h, e2]; simp, .inr (.inr rfl), .inr ⟨e1, by rw [e2]; simp; omega, ?_, by rw [h, e2]; simp, by simp; omega⟩⟩
    rw [h, e2, List.append_assoc, ← List.append_assoc, ← List.length_append, List.cons_append]
    exact at0
section
variable {τ : tw_K} {I : tw_I} {L : tw_L} {d : Nat} {B : List Nat} {S : Sh} {H : List Sh} {V O : Nat → Vl} {M W : Nat → Bool} {au : Bool} {ev : Nat}
variable {c : Nat} {ts : List (Nat × Nat)}
theorem cx.ts80 (h : cx τ I L B S H V O M W au ev c ts) : ts.length ≤ 80 := h.tt.2.1
theorem cx.tvl (h : cx τ I L B S H V O M W au ev c ts) {x : Nat} (hx : x < 240) : I 1324 x = zi (V x).1 ∧ L 1325 x = (V x).2 ∧ (V x).1 ≤ 2 := by
  obtain ⟨v1, v2, v3⟩ := h.1.2.2.2.2.1 x hx
  exact ⟨v1, v2, by rcases v3 with z | z | z <;> omega⟩
theorem cx.vok (h : cx τ I L B S H V O M W au ev c ts) {x : Nat} (hx : x < 240) : vok (V x) := (h.1.2.2.2.2.1 x hx).2.2
def cnR (N : List Nm) (V : Nat → Vl) (k e : Nat) (l : List Fm) : Er := if e = 0 then (if (cnE N V l).1 = 0 then (0, zl ((k + (cnE N V l).2 : Nat) : Int)) else ((cnE N V l).1, zl 0)) else (e, zl 0)
theorem cnE_l {N : List Nm} (V : Nat → Vl) {t : Fm} (r : List Fm) {e : Nat} (h : arV N t = .inl e) : cnE N V (t :: r) = (e, (cnE N V r).2) := by rw [cnE, h]
theorem cnE_r {N : List Nm} (V : Nat → Vl) {t : Fm} (r : List Fm) {f l : Nat} (h : arV N t = .inr (f, l)) : cnE N V (t :: r) = ((cnE N V r).1, cnt (fun c => inb c f l && decide ((V c).1 = 1)) 240 + (cnE N V r).2) := by rw [cnE, h]
theorem e_counts (hτ : tw_ok τ) {suf : List (Nat × Nat)} (hd : 8 ≤ d) {Q : tw_I → tw_L → Prop} (I0 : tw_I) (L0 : tw_L) : ∀ (r : Fm), wf r → isL r → ags r ≠ [] → (∀ a ∈ ags r, ar a) → ∀ (pre : List (Nat × Nat)) (k e : Nat) (I : tw_I) (L : tw_L) (v4 : Value), cx τ I L B S H V O M W au ev c ts → ts = pre ++ (tk r ++ (6, 41) :: suf) → I 1315 44 = zi pre.length → e ≤ 8 → k + 240 * (ags r).length ≤ 10000 → twf EVW I0 L0 I L →
    (∀ I2 L2, twf EVW I0 L0 I2 L2 → tev I2 L2 (pre.length + (tk r).length) (cnR S.2 V k e (ags r)) → Q I2 L2) → wp_r d 200 (6, [.ref 1315, .int (zi k), .int (zi e), .int (zi 1), v4], [], tw τ I L) (tv τ Q) := by
  intro r
  induction r with
  | div a r iha ihr =>
    intro hw hl hne har pre k e I L v4 hx hts hp he hk f h
    have haa := har a (List.mem_cons_self ..)
    obtain ⟨s, hs1, hs2, hs3⟩ := tk_rest (show isL r from hl) hts
    generalize hm : (tk (.div a r)).length = m at h hs3
    clear hm hts
    have hlen := hx.ts80
    have hlen2 : pre.length + (tk a).length ≤ 80 := by rw [hs1, List.length_append, List.length_append] at hlen; omega
    have hkl : k + 240 * ((ags r).length + 1) ≤ 10000 := hk
    clear hk
    generalize hal : (ags r).length = al at hkl
    refine k200_6 hτ (by omega) ⟨fun z => absurd z (by decide), fun _ => e_area hτ hx haa hw.1 hs1 (stE_58 hs2) hp (by omega) fun I3 L3 f3 e3 t3 => ?_⟩
    have hx3 := hx.kept hτ (f3.wi ARW_EVW)
    have f30 := f.tr (f3.wi ARW_EVW)
    have pas : ∀ (k2 e2 : Nat) (v4 : Value), e2 ≤ 8 → k2 ≤ k + 240 → cnR S.2 V k e (a :: ags r) = cnR S.2 V k2 e2 (ags r) → wp_c d 280 [.ref 1315, .int (zi 44)] (tw τ I3 L3) (ti τ fun r2 I2 L2 => wp_r d 200 (6, [.ref 1315, .int (zi k2), .int (zi e2), .int r2, v4], [], tw τ I2 L2) (tv τ Q)) := by
      intro k2 e2 v4 he2 hk2 er
      have h : ∀ I2 L2, twf EVW I0 L0 I2 L2 → tev I2 L2 (pre.length + m) (cnR S.2 V k e (a :: ags r)) → Q I2 L2 := h
      rw [er] at h
      rcases hs3 with ⟨rfl, el, e41⟩ | ⟨hr, el, e44, hts2, hpl⟩
      · clear hal
        refine e_passes (v := 44) hτ hx3 e3 (by omega) (by omega) (by omega) (fun z => by rw [e41] at z; cases z) (fun _ => ?_)
        have h : ∀ I2 L2, twf EVW I0 L0 I2 L2 → tev I2 L2 (pre.length + m) (if e2 = 0 then (0, zl ((k2 + 0 : Nat) : Int)) else (e2, zl 0)) → Q I2 L2 := h
        rw [el] at h
        refine k200_6 hτ (by omega) ⟨fun _ => ?_, fun z => absurd rfl z⟩
        rw [zi_eq (by omega) (by omega) (by omega) (by omega)]
        refine ⟨fun z => ?_, fun z => ?_⟩
        · rw [if_pos (by omega)] at h
          rw [zi_l (by omega) (by omega)]
          exact e_is hτ e3 _ (by omega) fun I4 L4 f4 t4 => h I4 L4 (f30.tr f4) t4
        · rw [if_neg (by omega)] at h
          exact e_errs hτ e3 he2 rfl (by omega) fun I4 L4 f4 t4 => h I4 L4 (f30.tr f4) t4
      · refine e_passes (v := 44) hτ hx3 e3 (by omega) (by omega) (by omega) (fun _ I4 f4 e4 => ?_) (fun z => absurd e44 z)
        have f4' : twf EVW I3 L3 I4 L3 := f4.wi fun a i z => by unfold EVW; omega
        refine ihr hw.2.1 hl hr (fun x hx => har x (List.mem_cons_of_mem _ hx)) _ k2 e2 I4 L3 v4 (hx3.kept hτ f4') hts2 (by rw [hpl]; exact e4) he2 (by rw [hal]; omega) (f30.tr f4') (fun I5 L5 f5 t5 => h I5 L5 f5 ?_)
        rw [hpl] at t5
        rw [el, show pre.length + ((tk a).length + 1 + (tk r).length) = pre.length + (tk a).length + 1 + (tk r).length by omega]
        exact t5
    rw [zi_eq (by omega) (by omega) (by omega) (by omega)]
    match ea : arV S.2 a, t3 with
    | .inl e1, t3 =>
      have t3 : I3 1315 47 = zi e1 ∧ 1 ≤ e1 ∧ e1 ≤ 8 := t3
      have er : cnR S.2 V k e (a :: ags r) = cnR S.2 V k (if e = 0 then e1 else e) (ags r) := by
        unfold cnR
        rw [cnE_l V (ags r) ea]
        simp only
        by_cases z : e = 0
        · rw [if_pos z, if_neg (by omega), if_pos z, if_neg (by omega)]
        · rw [if_neg z, if_neg z, if_neg z]
      have lp : ∀ e2 : Nat, (if e = 0 then e1 else e) = e2 → wp_r d 200 (30, [.ref 1315, .int (zi k), .int (zi e2), .int (zi 1), .int (zi 0)], [], tw τ I3 L3) (tv τ Q) := by
        intro e2 h2
        rw [h2] at er
        have he2 : e2 ≤ 8 := by rw [← h2]; split <;> omega
        refine k200_30 hτ (by omega) ⟨fun _ => ?_, fun z => absurd (by decide) z⟩
        rw [t3.1, zi_eq (by omega) (by omega) (by omega) (by omega)]
        exact ⟨fun z => absurd z (by omega), fun _ => pas k e2 _ he2 (by omega) er⟩
      rw [t3.1]
      exact ⟨fun z => lp e1 (if_pos (by omega)), fun z => lp e (if_neg (by omega))⟩
    | .inr (fi, la), t3 =>
      obtain ⟨t1, t2, t4, t5, t6⟩ := t3
      have er : cnR S.2 V k e (a :: ags r) = cnR S.2 V (k + cnt (fun c => inb c fi la && decide ((V c).1 = 1)) 240) e (ags r) := by
        unfold cnR
        rw [cnE_r V (ags r) ea]
        simp only
        rw [Nat.add_assoc]
      have loop : ∀ x I' L', x ≤ 240 → (I' = I3 ∧ L' = L3) → wp_r d 200 (30, [.ref 1315, .int (zi ((k + cnt (fun c => inb c fi la && decide ((V c).1 = 1)) x : Nat) : Int)), .int (zi e), .int (zi 1), .int (zi x)], [], tw τ I' L') (tv τ Q) := by
        refine up_ind 240 (W := fun x I' L' => wp_r d 200 (30, [.ref 1315, .int (zi ((k + cnt (fun c => inb c fi la && decide ((V c).1 = 1)) x : Nat) : Int)), .int (zi e), .int (zi 1), .int (zi x)], [], tw τ I' L') (tv τ Q)) (P := fun x I' L' => I' = I3 ∧ L' = L3) (fun I' L' hP => ?_) (fun x I' L' hx2 hP ih => ?_)
        · obtain ⟨rfl, rfl⟩ := hP
          have := cnt_le (fun c => inb c fi la && decide ((V c).1 = 1)) 240
          exact k200_30 hτ (by omega) ⟨fun z => absurd z (by decide), fun _ => pas _ e _ he (by omega) er⟩
        · obtain ⟨rfl, rfl⟩ := hP
          obtain ⟨v1, v2, v3⟩ := hx3.tvl hx2
          have go := ih _ _ ⟨rfl, rfl⟩
          rw [show cnt (fun c => inb c fi la && decide ((V c).1 = 1)) (x + 1) = cnt (fun c => inb c fi la && decide ((V c).1 = 1)) x + (if (inb x fi la && decide ((V x).1 = 1)) = true then 1 else 0) from rfl, ← Nat.add_assoc] at go
          refine k200_30 hτ (by omega) ?_
          rw [zi_lt (by omega) (by omega) (by omega) (by omega), t1, t2, t4, zn_a x 1 1 rfl, zn_a _ 1 1 rfl, zn_a _ 0 0 rfl]
          refine ⟨fun _ => ⟨fun _ => t_isIn hτ (by omega) (by omega) (by omega) (by omega) ?_, fun z => absurd rfl z⟩, fun z => absurd (by omega) z⟩
          rw [bz_0]
          refine ⟨fun z => ?_, fun z => ⟨zn_in hx2 (by decide), ?_⟩⟩
          · rw [z, Bool.false_and] at go
            exact go
          · have z : inb x fi la = true := by
              cases w : inb x fi la with
              | true => rfl
              | false => exact absurd w z
            rw [z, Bool.true_and] at go
            rw [zn_ix (by omega), v1, zi_eq (by omega) (by omega) (by omega) (by omega)]
            refine ⟨fun y => ?_, fun y => ?_⟩
            · rw [decide_eq_true (by omega)] at go
              exact go
            · rw [decide_eq_false (by omega)] at go
              exact go
      rw [t1]
      have l0 := loop 0 _ _ (by omega) ⟨rfl, rfl⟩
      refine ⟨fun z => ?_, fun z => l0⟩
      have z : e = 0 := by omega
      subst z
      exact l0
  | result => intro _ _ hne; exact absurd rfl hne
  | _ => intro _ hl; exact absurd hl (by simp [isL])
/-- what is gathered: events one by one -/
def gaR (f e : Nat) (A : Ac) (l : List Er) : Er := if e = 0 then (if fer l = 0 then acF f (acL l A) else (fer l, zl 0)) else (e, zl 0)
theorem gaR_n (f e : Nat) (A : Ac) (v : Int64) (l : List Er) : gaR f e A ((0, v) :: l) = gaR f e (acS A v) l := by
  unfold gaR
  rw [fer, acL, if_pos rfl, if_pos rfl]
theorem gaR_e (f e : Nat) (A : Ac) {x : Er} (hx : x.1 ≠ 0) (l : List Er) : gaR f e A (x :: l) = gaR f (if e = 0 then x.1 else e) A l := by
  unfold gaR
  rw [fer, acL, if_neg hx, if_neg hx]
  by_cases z : e = 0
  · rw [if_pos z, if_pos z, if_neg hx]
  · rw [if_neg z, if_neg z, if_neg z]
theorem arE_step (V : Nat → Vl) (c : Nat) (l : List Nat) : arE V (c :: l) = if (V c).1 = 0 then arE V l else tkV V c :: arE V l := by
  unfold arE
  rw [List.filter_cons]
  by_cases z : (V c).1 = 0
  · rw [if_pos z, if_neg (by simp [z])]
  · rw [if_neg z, if_pos (by simp [z])]
    rfl
end
