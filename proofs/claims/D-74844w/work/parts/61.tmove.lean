/-! THE TWIN: tokens rewritten in their place; references that move -/
def mvR (dc dr : Int) (v : Nat) : Option Nat :=
  let c : Int := ((v % 240 % 12 : Nat) : Int) + (if v / 240 % 2 = 1 then 0 else dc)
  let r : Int := ((v % 240 / 12 : Nat) : Int) + (if v / 240 / 2 = 1 then 0 else dr)
  if (0 ≤ c ∧ c ≤ 11) ∧ 0 ≤ r ∧ r ≤ 19 then some (12 * r.toNat + c.toNat + 240 * (v / 240)) else none
def frC (dc dr : Int) (v : Nat) : Fm := match mvR dc dr v with
  | some w => .index w
  | none => .null
def fgC (dc dr : Int) (u v : Nat) : Fm := match mvR dc dr u, mvR dc dr v with
  | some a, some b => .elem (.index a) (.index b)
  | _, _ => .null
def mvT (dc dr : Int) (v : Nat) : Int64 := match mvR dc dr v with
  | some w => tok 2 w
  | none => zl 0
def fnI (c : Nat) : Fm := .length (.arg c)
theorem mvR_lt {dc dr : Int} {v w : Nat} (hv : v < 960) (h : mvR dc dr v = some w) : w < 960 := by
  unfold mvR at h
  simp only at h
  generalize (if v / 240 % 2 = 1 then 0 else dc) = a at h
  generalize (if v / 240 / 2 = 1 then 0 else dr) = b at h
  split at h
  · rename_i q
    have h := Option.some.inj h
    omega
  · cases h
theorem mokC (dc dr : Int) : mok (frC dc dr) (fgC dc dr) fnI := by
  refine ⟨fun v hv => ?_, fun u v hu hv => ?_, fun c hc => ⟨c, hc, rfl⟩⟩
  · unfold frC
    cases h : mvR dc dr v with
    | none => exact .inl rfl
    | some w => exact .inr ⟨w, mvR_lt hv h, rfl⟩
  · unfold fgC
    cases h : mvR dc dr u with
    | none => exact .inl rfl
    | some w =>
      cases h2 : mvR dc dr v with
      | none => exact .inl rfl
      | some z => exact .inr ⟨w, z, mvR_lt hu h, mvR_lt hv h2, rfl⟩
/-- rows of tokens as formulas have them -/
def okl : List (Nat × Nat) → Prop
  | q :: a :: b :: r => tkO q ∧ (if q.1 = 2 ∧ a = (6, 58) then q.2 < 960 ∧ b.1 = 2 ∧ b.2 < 960 ∧ okl r else (q.1 = 2 → q.2 < 960) ∧ okl (a :: b :: r))
  | [q, a] => tkO q ∧ (q.1 = 2 → q.2 < 960 ∧ a ≠ (6, 58)) ∧ tkO a ∧ (a.1 = 2 → a.2 < 960)
  | [q] => tkO q ∧ (q.1 = 2 → q.2 < 960)
  | [] => True
theorem okl_1 {q : Nat × Nat} {r : List (Nat × Nat)} (h : q.1 = 2 → r.head? ≠ some (6, 58)) (h1 : tkO q) (h2 : q.1 = 2 → q.2 < 960) (h3 : okl r) : okl (q :: r) := by
  match r, h, h3 with
  | [], h, h3 => exact ⟨h1, h2⟩
  | [a], h, h3 => exact ⟨h1, fun z => ⟨h2 z, fun e => h z (by rw [e]; rfl)⟩, h3.1, h3.2⟩
  | a :: b :: r, h, h3 =>
    rw [okl, if_neg (fun z => h z.1 (by rw [z.2]; rfl))]
    exact ⟨h1, h2, h3⟩
theorem okl_o {c : Nat} (hc : c < 1000) {r : List (Nat × Nat)} (h : okl r) : okl ((6, c) :: r) := okl_1 (fun z => by cases z) (tkO_mk (by omega) (by omega) (by omega)) (fun z => by cases z) h
theorem okl_tk : ∀ t : Fm, wf t → ∀ r : List (Nat × Nat), r.head? ≠ some (6, 58) → okl r → okl (tk t ++ r) := by
  intro t
  induction t using tk.induct with
  | case1 n => intro h r hr ho; exact okl_1 (fun z => by cases z) (tk_ok _ h _ (List.mem_cons_self ..)) (fun z => by cases z) ho
  | case2 v => intro h r hr ho; exact okl_1 (fun z => hr) (tk_ok _ h _ (List.mem_cons_self ..)) (fun z => h) ho
  | case3 => intro h r hr ho; exact okl_1 (fun z => by cases z) (tk_ok _ h _ (List.mem_cons_self ..)) (fun z => by cases z) ho
  | case4 c => intro h r hr ho; exact okl_1 (fun z => by cases z) (tk_ok _ h _ (List.mem_cons_self ..)) (fun z => by cases z) ho
  | case5 u v =>
    intro h r hr ho
    show okl ((2, u) :: (6, 58) :: (2, v) :: r)
    rw [okl, if_pos ⟨rfl, rfl⟩]
    exact ⟨tk_ok _ h _ (List.mem_cons_self ..), h.1, rfl, h.2, ho⟩
  | case6 o l r ihl ihr =>
    intro h s hs ho
    show okl ((tk l ++ (6, opc o) :: tk r) ++ s)
    rw [List.append_assoc, List.cons_append]
    exact ihl h.1 _ (hd_ne _ (opc_ne o) _) (okl_o (opc_lt o) (ihr h.2.1 s hs ho))
  | case7 o a ih =>
    intro h s hs ho
    have ha : wf a := by cases o <;> first | exact h.1 | exact absurd h (by simp [wf])
    exact okl_o (by omega) (ih ha s hs ho)
  | case8 a ih =>
    intro h s hs ho
    show okl ((6, 40) :: ((tk a ++ [(6, 41)]) ++ s))
    rw [List.append_assoc, List.cons_append, List.nil_append]
    exact okl_o (by omega) (ih h.1 _ (hd_ne _ (by omega) _) (okl_o (by omega) ho))
  | case9 f as ih =>
    intro h s hs ho
    show okl ((5, f) :: (6, 40) :: ((tk as ++ [(6, 41)]) ++ s))
    rw [List.append_assoc, List.cons_append, List.nil_append]
    exact okl_1 (fun z => by cases z) (tk_ok _ h _ (List.mem_cons_self ..)) (fun z => by cases z) (okl_o (by omega) (ih h.1 _ (hd_ne _ (by omega) _) (okl_o (by omega) ho)))
  | case10 a ih => intro h s hs ho; exact ih h.1 s hs ho
  | case11 a r hr iha ihr =>
    intro h s hs ho
    have hd : ∃ x y, r = .div x y := by
      rcases isL_div h.2.2.1 with z | z
      · exact absurd z hr
      · exact z
    rw [tk_div a r hd, List.append_assoc, List.cons_append]
    exact iha h.1 _ (hd_ne _ (by omega) _) (okl_o (by omega) (ihr h.2.1 s hs ho))
  | case12 t h1 h2 h3 h4 h5 h6 h7 h8 h9 h10 h11 =>
    intro h s hs ho
    have e : tk t = [] := by
      rw [tk]
      all_goals assumption
    rw [e]
    exact ho
theorem okl_all {t : Fm} (h : wf t) : okl (tk t) := by
  have := okl_tk t h [] (by simp) trivial
  rwa [List.append_nil] at this
theorem tmap_all {fr : Nat → Fm} {fg : Nat → Nat → Fm} {fn : Nat → Fm} (hm : mok fr fg fn) {t : Fm} (h : wf t) : tmap fr fg fn (tk t) = tk (mp fr fg fn t) := by
  have := tmap_tk hm t h [] (by simp)
  rw [List.append_nil] at this
  rw [this]
  show _ ++ [] = _
  rw [List.append_nil]
/-- a row of tokens: one token, or a range -/
theorem okl_case {sf : List (Nat × Nat)} (h : okl sf) (hs : sf ≠ []) : (∃ u v r, sf = (2, u) :: (6, 58) :: (2, v) :: r ∧ u < 960 ∧ v < 960 ∧ okl r) ∨ (∃ q r, sf = q :: r ∧ (q.1 = 2 → r.head? ≠ some (6, 58)) ∧ tkO q ∧ (q.1 = 2 → q.2 < 960) ∧ okl r) := by
  match sf, h, hs with
  | [q], h, _ => exact .inr ⟨q, [], rfl, fun _ => by simp, h.1, h.2, trivial⟩
  | [q, a], h, _ => exact .inr ⟨q, [a], rfl, fun z e => (h.2.1 z).2 (by simpa using e), h.1, fun z => (h.2.1 z).1, ⟨h.2.2.1, h.2.2.2⟩⟩
  | q :: a :: b :: r, h, _ =>
    rw [okl] at h
    by_cases z : q.1 = 2 ∧ a = (6, 58)
    · rw [if_pos z] at h
      obtain ⟨q1, q2⟩ := q
      obtain ⟨b1, b2⟩ := b
      obtain ⟨z1, rfl⟩ := z
      simp only at z1 h
      obtain ⟨h1, h2, h3, h4, h5⟩ := h
      subst z1
      subst h3
      exact .inl ⟨q2, b2, r, rfl, h2, h4, h5⟩
    · rw [if_neg z] at h
      refine .inr ⟨q, a :: b :: r, rfl, fun e1 e2 => z ⟨e1, by simpa using e2⟩, h.1, h.2.1, h.2.2⟩
section
variable {τ : tw_K} {I : tw_I} {L : tw_L} {d : Nat}
theorem t_moved (hτ : tw_ok τ) {v : Nat} {dc dr : Int} (hv : v < 960) (hc : -11 ≤ dc ∧ dc ≤ 11) (hr : -19 ≤ dr ∧ dr ≤ 19) {Q : Int64 → tw_I → tw_L → Prop} (hd : 2 ≤ d)
    (h : Q (mvT dc dr v) I L) : wp_c d 266 [.long (tok 2 v), .int (zi dc), .int (zi dr)] (tw τ I L) (tl τ Q) := by
  have fin : ∀ (mc mr : Int) (x4 : Int32), mc = (if v / 240 % 2 = 1 then 0 else dc) → mr = (if v / 240 / 2 = 1 then 0 else dr) → wp_r (d - 1) 266 (62, [.long (tok 2 v), .retAddr 0, .int (zi dc), .int (zi dr), .int x4, .int (zi ((v / 240 : Nat) : Int)), .int (zi (((v % 240 % 12 : Nat) : Int) + mc)), .null], [.int (zi mr), .int (zi ((v % 240 / 12 : Nat) : Int))], tw τ I L) (tl τ Q) := by
    intro mc mr x4 emc emr
    have b1 : -11 ≤ mc ∧ mc ≤ 11 := by rw [emc]; split <;> omega
    have b2 : -19 ≤ mr ∧ mr ≤ 19 := by rw [emr]; split <;> omega
    unfold mvT mvR at h
    rw [← emc, ← emr] at h
    simp only at h
    refine k266_62 hτ (by omega) ?_
    rw [zi_l (by omega) (by omega)]
    refine t_in hτ ⟨by omega, by omega⟩ (by omega) (by omega) (by omega) ?_
    rw [bz_0, decide_eq_false_iff_not]
    refine ⟨fun z => ?_, fun z => ?_⟩
    · rw [if_neg (fun y => z y.1)] at h
      exact h
    have z := Decidable.not_not.mp z
    rw [zi_add, zi_l (by omega) (by omega)]
    refine t_in hτ ⟨by omega, by omega⟩ (by omega) (by omega) (by omega) ?_
    rw [bz_0, decide_eq_false_iff_not]
    refine ⟨fun y => ?_, fun y => ?_⟩
    · rw [if_neg (fun x => y x.2)] at h
      exact h
    have y := Decidable.not_not.mp y
    rw [if_pos ⟨z, y⟩] at h
    simp only at h
    rw [zi_mul, zi_add, zi_mul, zi_add, zi_l (by omega) (by omega), show 12 * (((v % 240 / 12 : Nat) : Int) + mr) + (((v % 240 % 12 : Nat) : Int) + mc) + 240 * ((v / 240 : Nat) : Int) = ((12 * (((v % 240 / 12 : Nat) : Int) + mr).toNat + (((v % 240 % 12 : Nat) : Int) + mc).toNat + 240 * (v / 240) : Nat) : Int) by omega]
    exact t_of (k := 2) hτ (by omega) (by omega) h
  refine k266 hτ hd (t_told hτ (by omega) (by omega) (by omega) ?_)
  rw [zl_i, zi_rem (by omega) (by omega) (by omega) (by omega), zi_div (by omega) (by omega) (by omega) (by omega), zi_rem (by omega) (by omega) (by omega) (by omega), zi_div (by omega) (by omega) (by omega) (by omega)]
  have e1 : ((v : Int) % 240) = ((v % 240 : Nat) : Int) := by omega
  have e2 : ((v : Int) / 240) = ((v / 240 : Nat) : Int) := by omega
  rw [e1, e2]
  refine t_columnOf hτ (by omega) (by omega) ?_
  rw [zi_eq (by omega) (by omega) (by omega) (by omega)]
  have s : ∀ c : Int, zi ((v % 240 % 12 : Nat) : Int) + zi c = zi (((v % 240 % 12 : Nat) : Int) + c) := fun c => zi_add _ _
  refine ⟨fun q1 => t_rowOf hτ (by omega) (by omega) ?_, fun q1 => t_rowOf hτ (by omega) (by omega) ?_⟩
  · rw [zi_eq (by omega) (by omega) (by omega) (by omega), s]
    exact ⟨fun q2 => fin 0 0 _ (by rw [if_pos (by omega)]) (by rw [if_pos (by omega)]), fun q2 => fin 0 dr _ (by rw [if_pos (by omega)]) (by rw [if_neg (by omega)])⟩
  · rw [zi_eq (by omega) (by omega) (by omega) (by omega), s]
    exact ⟨fun q2 => fin dc 0 _ (by rw [if_neg (by omega)]) (by rw [if_pos (by omega)]), fun q2 => fin dc dr _ (by rw [if_neg (by omega)]) (by rw [if_neg (by omega)])⟩
theorem tko_some {ts : List (Nat × Nat)} {i : Nat} {q : Nat × Nat} (h : ts[i]? = some q) : tko ts[i]? = tok q.1 q.2 := by rw [h]; rfl
/-- whether a range begins at a token -/
theorem t_isRange (hτ : tw_ok τ) {x i : Nat} (hx : x < 2400) (hi : i < 500) {ts : List (Nat × Nat)} (ht : ttk I L x ts) {q : Nat × Nat} (hq : ts[i]? = some q) {Q : Int32 → tw_I → tw_L → Prop} (hd : 3 ≤ d)
    (h : Q (bz (decide (q.1 = 2 ∧ ts[i + 1]? = some (6, 58)))) I L) : wp_c d 242 [.ref 1315, .int (zi x), .int (zi i)] (tw τ I L) (ti τ Q) := by
  have ho := ht.2.2 i q hq
  refine k242 hτ (by omega) (t_at hτ hx (by omega) ht (by omega) ?_)
  rw [tko_some hq]
  refine t_kindOf hτ ho.2.2.1 ho.2.2.2 (by omega) ?_
  rw [zi_eq (by omega) (by omega) (by omega) (by omega), zn_a i 1 1 rfl]
  refine ⟨fun z => ?_, fun z => ?_⟩
  · refine t_isOp (v := 58) hτ hx (by omega) (by omega) ht (by omega) ?_
    rw [bz_0, decide_eq_false_iff_not]
    refine ⟨fun y => ?_, fun y => ?_⟩
    · rwa [decide_eq_false (fun w => y w.2)] at h
    · rwa [decide_eq_true ⟨by omega, Decidable.not_not.mp y⟩] at h
  · rwa [decide_eq_false (fun w => z (by omega))] at h
theorem ttk.set {x w : Nat} {cur : List (Nat × Nat)} (h : ttk I L x cur) (q : Nat × Nat) (hq : tkO q) : ttk I (cm_u2 L 1319 (80 * x + w) (tok q.1 q.2)) x (cur.set w q) := by
  refine ⟨by rw [List.length_set]; exact h.1, by rw [List.length_set]; exact h.2.1, fun i p hp => ?_⟩
  rw [u2_at]
  by_cases e : i = w
  · subst e
    have hi := (List.getElem?_eq_some_iff.mp hp).1
    rw [List.length_set] at hi
    rw [List.getElem?_set_self hi] at hp
    cases hp
    rw [if_pos rfl]
    exact ⟨rfl, hq⟩
  · rw [List.getElem?_set_ne (by omega)] at hp
    rw [if_neg (by omega)]
    exact h.2.2 i p hp
theorem t_writes (hτ : tw_ok τ) {x w : Nat} (hx : x < 2400) {cur : List (Nat × Nat)} (ht : ttk I L x cur) (hw : w < cur.length) (hI : I 1315 29 = zi w) {q : Nat × Nat} (hq : tkO q) {v : Int64} (hv : v = tok q.1 q.2) {Q : tw_I → tw_L → Prop} (hd : 1 ≤ d)
    (h : ∀ I2 L2, twf (fun a i => (a = 1315 ∧ i = 29) ∨ (a = 1319 ∧ i = 80 * x + w)) I L I2 L2 → ttk I2 L2 x (cur.set w q) → I2 1315 29 = zi ((w + 1 : Nat) : Int) → Q I2 L2) : wp_c d 334 [.ref 1315, .int (zi x), .long v] (tw τ I L) (tv τ Q) := by
  subst hv
  have := ht.2.1
  refine k334 hτ hd ?_
  rw [hI, zi_mul, zi_add]
  refine ⟨(zi_in (by omega) (by omega)).mpr ⟨by omega, by omega⟩, ?_⟩
  rintro L1 rfl I2 rfl
  rw [zi_ix (by omega) (by omega), show (80 * (x : Int) + w).toNat = 80 * x + w by omega, zn_a w 1 1 rfl]
  have g := ht.set (w := w) q hq
  exact h _ _ ((twf.rf.pL (by omega) _).pI (by omega) _) ⟨by rw [u2_ne _ _ _ _ (by omega)]; exact g.1, g.2⟩ (by rw [u2_same])
end
