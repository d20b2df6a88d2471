/-! THE TWIN: setCell, undo -/
/-! where reading fails -/
def pe (r : PR) : Prop := ∀ e, r = .inl e → e ≤ 80
theorem pe_bnd {r : PR} {k : Fm → Nat → PR} (h : pe r) (hk : ∀ t p, r = .inr (t, p) → pe (k t p)) : pe (bnd r k) := by
  match r, h, hk with
  | .inl e, h, hk => exact h
  | .inr (t, p), h, hk => exact hk t p rfl
theorem pe_r (x : Fm × Nat) : pe (.inr x) := fun e h => by cases h
theorem pe_b {B : List Nat} (hl : B.length ≤ 80) {p : Nat} (hp : p ≤ B.length) : pe (.inl (tkb (lk B p))) := fun e h => by cases h; exact lk_b80 hl hp
theorem pe_need {B : List Nat} (hB : bok B) (hl : B.length ≤ 80) {c p : Nat} (hp : p ≤ B.length) {k : Nat → PR} (hk : ∀ p2, p2 ≤ B.length → pe (k p2)) : pe (need B c p k) := by
  unfold need
  split
  · rename_i q
    exact hk _ (isT_ok hB hp q).2.1
  · exact pe_b hl hp
theorem pe_area {B : List Nat} (hB : bok B) (hl : B.length ≤ 80) {p : Nat} (hp : p ≤ B.length) : pe (pArea B p) := by
  unfold pArea
  split
  · rename_i h2
    have o := lk_gt hB hp h2 (by omega) (by omega)
    split
    · rename_i q
      have g2 := isT_ok hB o.2 q
      split
      · exact pe_r _
      · exact pe_b hl g2.2.1
    · exact pe_r _
  split
  · exact pe_r _
  split
  · exact pe_r _
  · exact pe_b hl hp
theorem pe_call {B : List Nat} (hB : bok B) (hl : B.length ≤ 80) {E : Nat → PR} {N : Nat → Nat → PR} (gE : ∀ p t p2, p ≤ B.length → E p = .inr (t, p2) → p ≤ p2 ∧ p2 ≤ B.length) (gN : ∀ nt p t p2, nt = 7 ∨ nt = 8 → p ≤ B.length → N nt p = .inr (t, p2) → p ≤ p2 ∧ p2 ≤ B.length)
    (hE : ∀ p, p ≤ B.length → pe (E p)) (hN : ∀ nt p, nt = 7 ∨ nt = 8 → p ≤ B.length → pe (N nt p)) {p0 v : Nat} (hp : p0 ≤ B.length) : pe (pCall E N B p0 v) := by
  unfold pCall
  refine pe_need hB hl hp fun p1 hp1 => ?_
  split
  · exact pe_bnd (hN _ p1 (by split <;> omega) hp1) fun t p e => pe_need hB hl (gN _ _ _ _ (by split <;> omega) hp1 e).2 fun p2 _ => pe_r _
  split
  · exact pe_bnd (pe_area hB hl hp1) fun t p e => pe_need hB hl (pArea_gt hB hp1 e).2 fun p2 h2 => pe_bnd (hE _ h2) fun t p e => pe_need hB hl (gE _ _ _ h2 e).2 fun p2 _ => pe_r _
  split
  · exact pe_bnd (hE _ hp1) fun t p e => pe_need hB hl (gE _ _ _ hp1 e).2 fun p2 h2 => pe_bnd (pe_area hB hl h2) fun t p e => pe_need hB hl (pArea_gt hB h2 e).2 fun p2 _ => pe_r _
  split
  · exact pe_bnd (hE _ hp1) fun t p e => pe_need hB hl (gE _ _ _ hp1 e).2 fun p2 h2 => pe_bnd (hE _ h2) fun t p e => pe_need hB hl (gE _ _ _ h2 e).2 fun p3 h3 => pe_bnd (hE _ h3) fun t p e => pe_need hB hl (gE _ _ _ h3 e).2 fun p2 _ => pe_r _
  · exact pe_bnd (hE _ hp1) fun t p e => pe_need hB hl (gE _ _ _ hp1 e).2 fun p2 _ => pe_r _
theorem ps_e80 {B : List Nat} (hB : bok B) (hl : B.length ≤ 80) : ∀ (f nt n dp p : Nat) (acc : Fm), psD nt n acc → p ≤ B.length → pe (ps B f nt n dp p acc) := by
  intro f
  induction f with
  | zero => intro nt n dp p acc _ hp e h; cases h; omega
  | succ f ih =>
    intro nt n dp p acc hD hp
    have d0 : ∀ nt, nt < 5 → psD nt 0 .null := fun nt h => .inl ⟨h, rfl, rfl⟩
    have gt : ∀ nt dp p t p2, nt < 5 → p ≤ B.length → ps B f nt 0 dp p .null = .inr (t, p2) → p < p2 ∧ p2 ≤ B.length := fun nt dp p t p2 hn a b => ⟨(ps_gt hB f nt 0 dp p .null t p2 (d0 nt hn) a b).1 (by omega) (by omega), (ps_gt hB f nt 0 dp p .null t p2 (d0 nt hn) a b).2.2⟩
    have d5 : ∀ acc, psD 5 0 acc := fun acc => .inr (.inr (.inl ⟨by omega, rfl⟩))
    have d6 : ∀ acc, psD 6 0 acc := fun acc => .inr (.inr (.inl ⟨by omega, rfl⟩))
    rcases hD with ⟨hn, rfl, rfl⟩ | ⟨rfl, rfl, rfl⟩ | ⟨hn, rfl⟩ | ⟨hn, rfl⟩
    · match nt, hn with
      | 0, _ =>
        rw [ps0]
        refine pe_bnd (ih 1 0 dp p .null (d0 1 (by omega)) hp) fun l p1 e1 => ?_
        have g1 := gt _ _ _ _ _ (by omega) hp e1
        cases q : cmpT (lk B p1) with
        | none => exact pe_r _
        | some o =>
          have k6 : tkk (lk B p1) = 6 := by
            unfold cmpT at q
            by_cases z : tkk (lk B p1) = 6
            · exact z
            · rw [if_neg z] at q; cases q
          have g2 := lk_gt hB g1.2 k6 (by omega) (by omega)
          exact pe_bnd (ih 1 0 dp _ .null (d0 1 (by omega)) g2.2) fun _ _ _ => pe_r _
      | 1, _ =>
        rw [ps1]
        exact pe_bnd (ih 2 0 dp p .null (d0 2 (by omega)) hp) fun l p1 e1 => ih 5 0 dp p1 l (d5 l) (gt _ _ _ _ _ (by omega) hp e1).2
      | 2, _ =>
        rw [ps2]
        exact pe_bnd (ih 3 0 dp p .null (d0 3 (by omega)) hp) fun l p1 e1 => ih 6 0 dp p1 l (d6 l) (gt _ _ _ _ _ (by omega) hp e1).2
      | 3, _ =>
        rw [ps3]
        split
        · rename_i q
          split
          · exact pe_b hl hp
          · exact pe_bnd (ih 3 0 _ _ .null (d0 3 (by omega)) (isT_ok hB hp q).2.1) fun _ _ _ => pe_r _
        · exact ih 4 0 dp p .null (d0 4 (by omega)) hp
      | 4, _ =>
        rw [ps4]
        split
        · exact pe_r _
        split
        · exact pe_r _
        split
        · exact pe_r _
        split
        · exact pe_r _
        split
        · rename_i q
          have g := lk_gt hB hp q (by omega) (by omega)
          split
          · exact pe_b hl hp
          · exact pe_call hB hl (fun p t p2 a b => ⟨by have := gt 0 _ _ _ _ (by omega) a b; omega, (gt 0 _ _ _ _ (by omega) a b).2⟩) (fun nt p t p2 c a b => (ps_gt hB f nt 0 _ p .null t p2 (.inr (.inr (.inr ⟨c, rfl⟩))) a b).2) (fun p a => ih 0 0 _ p .null (d0 0 (by omega)) a) (fun nt p c a => ih nt 0 _ p .null (.inr (.inr (.inr ⟨c, rfl⟩))) a) g.2
        split
        · rename_i q
          have g := isT_ok hB hp q
          split
          · exact pe_b hl hp
          · exact pe_bnd (ih 0 0 _ _ .null (d0 0 (by omega)) g.2.1) fun t p2 e => pe_need hB hl (gt _ _ _ _ _ (by omega) g.2.1 e).2 fun _ _ => pe_r _
        · exact pe_b hl hp
    · rw [ps9]
      split
      · exact pe_area hB hl hp
      · exact ih 0 0 dp p .null (d0 0 (by omega)) hp
    · rcases hn with rfl | rfl
      · rw [ps5]
        have stp : ∀ o c, isT (lk B p) c = true → pe (bnd (ps B f 2 0 dp (tke (lk B p)) .null) fun r p2 => ps B f 5 0 dp p2 (.op2 o acc r)) := fun o c q =>
          pe_bnd (ih 2 0 dp _ .null (d0 2 (by omega)) (isT_ok hB hp q).2.1) fun t p2 e => ih 5 0 dp p2 _ (d5 _) (gt _ _ _ _ _ (by omega) (isT_ok hB hp q).2.1 e).2
        split
        · rename_i q; exact stp _ _ q
        split
        · rename_i q; exact stp _ _ q
        · exact pe_r _
      · rw [ps6]
        have stp : ∀ o c, isT (lk B p) c = true → pe (bnd (ps B f 3 0 dp (tke (lk B p)) .null) fun r p2 => ps B f 6 0 dp p2 (.op2 o acc r)) := fun o c q =>
          pe_bnd (ih 3 0 dp _ .null (d0 3 (by omega)) (isT_ok hB hp q).2.1) fun t p2 e => ih 6 0 dp p2 _ (d6 _) (gt _ _ _ _ _ (by omega) (isT_ok hB hp q).2.1 e).2
        split
        · rename_i q; exact stp _ _ q
        split
        · rename_i q; exact stp _ _ q
        split
        · rename_i q; exact stp _ _ q
        · exact pe_r _
    · rcases hn with rfl | rfl
      · rw [ps7]
        split
        · exact pe_b hl hp
        refine pe_bnd (ih 9 0 dp p .null (.inr (.inl ⟨rfl, rfl, rfl⟩)) hp) fun a p2 e => ?_
        have g := (ps_gt hB f 9 0 dp p .null a p2 (.inr (.inl ⟨rfl, rfl, rfl⟩)) hp e).2.2
        split
        · rename_i q
          exact pe_bnd (ih 7 (n + 1) dp _ .null (.inr (.inr (.inr ⟨by omega, rfl⟩))) (isT_ok hB g q).2.1) fun _ _ _ => pe_r _
        · exact pe_r _
      · rw [ps8]
        split
        · exact pe_b hl hp
        refine pe_bnd (pe_area hB hl hp) fun a p2 e => ?_
        have g := (pArea_gt hB hp e).2
        split
        · rename_i q
          exact pe_bnd (ih 8 (n + 1) dp _ .null (.inr (.inr (.inr ⟨by omega, rfl⟩))) (isT_ok hB g q).2.1) fun _ _ _ => pe_r _
        · exact pe_r _
theorem psF_e80 {B : List Nat} (hB : bok B) (hl : B.length ≤ 80) (h1 : 1 ≤ B.length) {e : Nat} (h : psF B = .inl e) : e ≤ 80 := by
  have key : pe (psF B) := by
    unfold psF
    refine pe_bnd (ps_e80 hB hl 1000 0 0 0 1 .null (.inl ⟨by omega, rfl, rfl⟩) h1) fun t p e => ?_
    split
    · exact pe_r _
    · exact pe_b hl (ps_gt hB 1000 0 0 0 1 .null t p (.inl ⟨by omega, rfl, rfl⟩) h1 e).2.2
  exact key e h
theorem cod_lt (l : List Nat) (h : ∀ x ∈ l, 97 ≤ x ∧ x ≤ 122) : ∀ v n : Nat, v < 27 ^ n → l.foldl (fun v x => 27 * v + (x - 96)) v < 27 ^ (n + l.length) := by
  induction l with
  | nil => intro v n hv; exact hv
  | cons x l ih =>
    intro v n hv
    rw [List.foldl_cons, List.length_cons, show n + (l.length + 1) = (n + 1) + l.length by omega]
    refine ih (fun y hy => h y (List.mem_cons_of_mem _ hy)) _ (n + 1) ?_
    have := h x (List.mem_cons_self ..)
    rw [Nat.pow_succ]
    omega
theorem okN_lt {c : Nat} (h : okN c) : c < 282429536481 := by
  obtain ⟨l, h1, h2, h3, rfl⟩ := h
  have := cod_lt l h3 0 0 (by simp)
  have h4 : 27 ^ (0 + l.length) ≤ 27 ^ 8 := Nat.pow_le_pow_right (by omega) (by omega)
  unfold cod
  omega
theorem opc_lt (o : Jvm.Binary) : opc o < 1000 := by cases o <;> decide
def tkO (q : Nat × Nat) : Prop := 0 < q.1 ∧ q.1 < 8 ∧ q.2 < 281474976710656
theorem tkO_mk {k v : Nat} (h1 : 0 < k) (h2 : k < 8) (h3 : v < 281474976710656) : tkO (k, v) := ⟨h1, h2, h3⟩
theorem shp_lt {f : Nat} {l : List Fm} (h : shp f l) : f < 9 := by
  unfold shp at h
  split at h <;> omega
theorem tk_ok : ∀ t : Fm, wf t → ∀ q ∈ tk t, tkO q := by
  intro t
  induction t using tk.induct with
  | case1 n => intro h q hq; simp only [tk, List.mem_singleton] at hq; subst hq; have h : n < 1000000000 := h; exact tkO_mk (by decide) (by decide) (by omega)
  | case2 v => intro h q hq; simp only [tk, List.mem_singleton] at hq; subst hq; have h : v < 960 := h; exact tkO_mk (by decide) (by decide) (by omega)
  | case3 => intro h q hq; simp only [tk, List.mem_singleton] at hq; subst hq; exact ⟨by decide, by decide, by decide⟩
  | case4 c => intro h q hq; simp only [tk, List.mem_singleton] at hq; subst hq; have h := okN_lt h; exact tkO_mk (by decide) (by decide) (by omega)
  | case5 u v =>
    intro h q hq
    have h : u < 960 ∧ v < 960 := h
    simp only [tk, List.mem_cons, List.mem_nil_iff, or_false] at hq
    rcases hq with rfl | rfl | rfl
    · exact tkO_mk (by decide) (by decide) (by omega)
    · exact ⟨by decide, by decide, by decide⟩
    · exact tkO_mk (by decide) (by decide) (by omega)
  | case6 o l r ihl ihr =>
    intro h q hq
    simp only [tk, List.mem_append, List.mem_cons] at hq
    rcases hq with hq | rfl | hq
    · exact ihl h.1 q hq
    · have := opc_lt o; exact tkO_mk (by decide) (by decide) (by omega)
    · exact ihr h.2.1 q hq
  | case7 o a ih =>
    intro h q hq
    simp only [tk, List.mem_cons] at hq
    rcases hq with rfl | hq
    · exact ⟨by decide, by decide, by decide⟩
    · cases o <;> first | exact ih h.1 q hq | exact absurd h (by simp [wf])
  | case8 a ih =>
    intro h q hq
    simp only [tk, List.mem_cons, List.mem_append, List.mem_nil_iff, or_false] at hq
    rcases hq with rfl | hq | rfl
    · exact ⟨by decide, by decide, by decide⟩
    · exact ih h.1 q hq
    · exact ⟨by decide, by decide, by decide⟩
  | case9 f as ih =>
    intro h q hq
    simp only [tk, List.mem_cons, List.mem_append, List.mem_nil_iff, or_false] at hq
    rcases hq with rfl | rfl | hq | rfl
    · have := shp_lt h.2.2; exact tkO_mk (by decide) (by decide) (by omega)
    · exact ⟨by decide, by decide, by decide⟩
    · exact ih h.1 q hq
    · exact ⟨by decide, by decide, by decide⟩
  | case10 a ih =>
    intro h q hq
    exact ih h.1 q hq
  | case11 a r hr iha ihr =>
    intro h q hq
    have e : tk (.div a r) = tk a ++ (6, 44) :: tk r := by
      cases r <;> first | rfl | exact absurd rfl hr
    rw [e, List.mem_append, List.mem_cons] at hq
    rcases hq with hq | rfl | hq
    · exact iha h.1 q hq
    · exact ⟨by decide, by decide, by decide⟩
    · exact ihr h.2.1 q hq
  | case12 t h1 h2 h3 h4 h5 h6 h7 h8 h9 h10 h11 =>
    intro h q hq
    rw [tk] at hq
    · cases hq
    all_goals assumption
section
variable {τ : tw_K} {I : tw_I} {L : tw_L} {d : Nat} {B : List Nat} {S : Sh} {H : List Sh} {V O : Nat → Vl} {M W : Nat → Bool} {au : Bool} {ev : Nat}
theorem bgV_ok (q : Cn) : vok (bgV q) := by
  match q with
  | none => exact .inl ⟨rfl, rfl⟩
  | some (.inl n) => exact .inr (.inl rfl)
  | some (.inr t) => exact .inr (.inr ⟨rfl, 8, rfl, by omega, by omega⟩)
theorem tst.put (hτ : tw_ok τ) {I2 : tw_I} {L2 : tw_L} (h : tst τ I L B S H V O M W au ev) {c : Nat} {q : Cn} (hc : c < 240) (f : twf (CW c) I L I2 L2) (hq : tcell I2 L2 c q) : tst τ I2 L2 B (up1 S.1 c q, S.2) H V O M W au ev := by
  obtain ⟨h1, h2, h3, h4, h5, h6, h7, h8, h9, h10, h11⟩ := h
  refine ⟨h1.kept hτ (fun a i z => by unfold CW at z; omega) f, h2.kept f (by unfold CW; omega) (fun i => by unfold CW; omega), ⟨fun x hx => ?_, ?_, h3.2.2.1, fun n q hq => ?_⟩, h4.kept f (by unfold CW; omega) (fun k hk a i z => by unfold CW at z; unfold KW; omega),
    h5.kept f (fun c => by unfold CW; omega) (fun c => by unfold CW; omega), h6.kept f (fun c => by unfold CW; omega) (fun c => by unfold CW; omega), h7.kept f (fun c => by unfold CW; omega), h8.kept f (fun c => by unfold CW; omega), by rw [(f _ _ (by unfold CW; omega)).1]; exact h9, by rw [(f _ _ (by unfold CW; omega)).1]; exact h10, h11⟩
  · show tcell I2 L2 (240 * 0 + x) (up1 S.1 c q x)
    by_cases e : x = c
    · subst e
      rw [up_s, show 240 * 0 + x = x by omega]
      exact hq
    · rw [up_n _ _ _ e]
      exact (h3.1 x hx).kept f (by unfold CW; omega) (by unfold CW; omega) (by unfold CW; omega) (fun i hi => by unfold CW; omega)
  · show I2 1320 0 = zi S.2.length
    rw [(f _ _ (by unfold CW; omega)).1]; exact h3.2.1
  · exact (h3.2.2.2 n q hq).kept f (by unfold CW; omega) (by unfold CW; omega) (by unfold CW; omega)
/-- a value and a mark are set -/
theorem tst.val (hτ : tw_ok τ) {I2 : tw_I} {L2 : tw_L} (h : tst τ I L B S H V O M W au ev) {c : Nat} {v : Vl} {m : Bool} (hc : c < 240) (f : twf (fun a i => (a = 1324 ∨ a = 1325 ∨ a = 1328) ∧ i = c) I L I2 L2) (h1 : I2 1324 c = zi v.1) (h2 : L2 1325 c = v.2) (h3 : I2 1328 c = bz m) (hv : vok v) : tst τ I2 L2 B S H (up1 V c v) O (up1 M c m) W au ev := by
  obtain ⟨g1, g2, g3, g4, g5, g6, g7, g8, g9, g10, g11⟩ := h
  refine ⟨g1.kept hτ (fun a i z => by omega) f, g2.kept f (by omega) (fun i => by omega), g3.kept f (fun a i z => by unfold KW; omega), g4.kept f (by omega) (fun k hk a i z => by unfold KW; omega),
    fun x hx => ?_, g6.kept f (fun c => by omega) (fun c => by omega), fun x hx => ?_, g8.kept f (fun c => by omega), by rw [(f _ _ (by omega)).1]; exact g9, by rw [(f _ _ (by omega)).1]; exact g10, g11⟩
  · by_cases e : x = c
    · subst e
      rw [up_s]
      exact ⟨h1, h2, hv⟩
    · rw [up_n _ _ _ e, (f 1324 x (by omega)).1, (f 1325 x (by omega)).2]
      exact g5 x hx
  · by_cases e : x = c
    · subst e
      rw [up_s]
      exact h3
    · rw [up_n _ _ _ e, (f 1328 x (by omega)).1]
      exact g7 x hx
theorem t_bg (hτ : tw_ok τ) (h0 : tst τ I L B S H V O M W au ev) {c : Nat} (hc : c < 240) {Q : tw_I → tw_L → Prop} (hd : 1 ≤ d)
    (h : ∀ I2 L2, twf (fun a i => (a = 1324 ∨ a = 1325 ∨ a = 1328) ∧ i = c) I L I2 L2 → tst τ I2 L2 B S H (up1 V c (bgV (S.1 c))) O (up1 M c (decide (cty (S.1 c) = 2))) W au ev → Q I2 L2) : wp_c d 180 [.ref 1315, .int (zi c)] (tw τ I L) (tv τ Q) := by
  have hq := h0.2.2.1.1 c hc
  rw [show 240 * 0 + c = c by omega] at hq
  exact t_begins hτ hc hq hd fun I2 L2 f a b e => h I2 L2 f (h0.val hτ hc f a b e (bgV_ok _))
/-- setCell's end -/
theorem t_set128 (hτ : tw_ok τ) {I5 : tw_I} {L5 : tw_L} (h0 : tst τ I L B S H V O M W au ev) {c : Nat} {q : Cn} (hc : c < 240) (f : twf (CW c) I L I5 L5) (h1 : I5 1316 c = zi (cty q)) (h2 : I5 1318 c = zi (ctk q).length) (h3 : ∀ n, q = some (.inl n) → L5 1317 c = zl n) (hq : cok q) (hl : (ctk q).length ≤ 80) (ht : ∀ t ∈ ctk q, tkO t) (h4 : ∀ (i : Nat) (t : Nat × Nat), (ctk q)[i]? = some t → L5 1331 i = tok t.1 t.2) (x2 x3 : Int32) {Q : Int32 → tw_I → tw_L → Prop} (hd : 1 ≤ d)
    (h : ∀ I2 L2, tst τ I2 L2 B (up1 S.1 c q, S.2) H (up1 V c (bgV q)) O (up1 M c (decide (cty q = 2))) W au ev → wp_c d 188 [.ref 1315] (tw τ I2 L2) (tv τ fun I3 L3 => Q x2 I3 L3)) :
    wp_r d 308 (128, [.ref 1315, .int (zi c), .int x2, .int x3, .int (zi 0)], [], tw τ I5 L5) (ti τ Q) := by
  have loop : ∀ (n k : Nat) (L6 : tw_L), (ctk q).length - k = n → k ≤ (ctk q).length → twf (CW c) I L I5 L6 → (∀ n, q = some (.inl n) → L6 1317 c = zl n) → (∀ i, L6 1331 i = L5 1331 i) → (∀ (i : Nat) (t : Nat × Nat), i < k → (ctk q)[i]? = some t → L6 1319 (80 * c + i) = tok t.1 t.2) → wp_r d 308 (128, [.ref 1315, .int (zi c), .int x2, .int x3, .int (zi k)], [], tw τ I5 L6) (ti τ Q) := by
    intro n
    induction n with
    | zero =>
      intro k L6 hn hk f6 hp hdr hcp
      refine k308_128 hτ (by omega) ⟨zn_in (by omega) (by omega), ?_⟩
      rw [zn_ix (by omega), h2, zi_lt (by omega) (by omega) (by omega) (by omega)]
      refine ⟨fun z => absurd z (by omega), fun _ => ?_⟩
      have hcell : tcell I5 L6 c q := ⟨h1, ⟨h2, hl, fun i t hi => ⟨hcp i t (by have := (List.getElem?_eq_some_iff.mp hi).1; omega) hi, ht t (List.mem_of_getElem? hi)⟩⟩, hq, hp⟩
      have g := h0.put hτ hc f6 hcell
      refine t_bg hτ g hc (by omega) fun I2 L2 _ g2 => h I2 L2 ?_
      simp only [up_s] at g2
      exact g2
    | succ n ih =>
      intro k L6 hn hk f6 hp hdr hcp
      refine k308_128 hτ (by omega) ⟨zn_in (by omega) (by omega), ?_⟩
      rw [zn_ix (by omega), h2, zi_lt (by omega) (by omega) (by omega) (by omega), zi_mul, zi_add]
      refine ⟨fun _ => ⟨zn_in (by omega) (by omega), (zi_in (by omega) (by omega)).mpr ⟨by omega, by omega⟩, ?_⟩, fun z => absurd (by omega) z⟩
      rintro L7 rfl
      rw [zi_ix (by omega) (by omega), zn_ix (by omega), show (80 * (c : Int) + k).toNat = 80 * c + k by omega, zn_a k 1 1 rfl]
      refine ih (k + 1) _ (by omega) (by omega) (f6.pL (by unfold CW; omega) _) (fun n hn => by rw [u2_ne _ _ _ _ (by omega)]; exact hp n hn) (fun i => by rw [u2_ne _ _ _ _ (by omega)]; exact hdr i) (fun i t hi hti => ?_)
      rw [u2_at]
      by_cases e : i = k
      · subst e
        rw [if_pos rfl, hdr i]
        exact h4 i t hti
      · rw [if_neg (by omega)]
        exact hcp i t (by omega) hti
  exact loop _ 0 L5 rfl (by omega) f h3 (fun i => rfl) (fun i t hi => absurd hi (by omega))
theorem t_set61 (hτ : tw_ok τ) (h0 : tst τ I L B S H V O M W au ev) {c : Nat} {q : Cn} (hc : c < 240) (hq : cok q) (hn : ∀ n, q = some (.inl n) → L 1315 26 = zl n) (hf : ∀ t, q = some (.inr t) → I 1315 25 = zi (tk t).length ∧ ∀ (i : Nat) (p : Nat × Nat), (tk t)[i]? = some p → L 1331 i = tok p.1 p.2) {Q : Int32 → tw_I → tw_L → Prop} (hd : 6 ≤ d) (x3 x4 : Value)
    (h : ∀ I2 L2, tst τ I2 L2 [] (up1 S.1 c q, S.2) ((S :: H).take 8) (up1 V c (bgV q)) O (up1 M c (decide (cty q = 2))) W au ev → wp_c d 188 [.ref 1315] (tw τ I2 L2) (tv τ fun I3 L3 => Q (zi (cty q)) I3 L3)) :
    wp_r d 308 (61, [.ref 1315, .int (zi c), .int (zi (cty q)), x3, x4], [.int (zi (-1))], tw τ I L) (ti τ Q) := by
  refine k308_61 hτ (by omega) ?_
  rintro I1 rfl
  refine ⟨fun _ => ?_, fun z => absurd (by decide) z⟩
  refine t_rec hτ (h0.empty hτ) (by omega) fun I2 L2 f2 g2 => ⟨zn_in (by omega) (by omega), ?_⟩
  rw [zn_ix (by omega)]
  have e26 : L2 1315 26 = L 1315 26 := (f2 1315 26 (by unfold RW; omega)).2
  have e25 : I2 1315 25 = I 1315 25 := by rw [(f2 1315 25 (by unfold RW; omega)).1, u2_nj _ _ _ _ _ (by omega)]
  have e31 : ∀ i, L2 1331 i = L 1331 i := fun i => (f2 1331 i (by unfold RW; omega)).2
  have fr : ∀ (x y : Int32) (v : Int64), twf (CW c) I2 L2 (cm_u2 (cm_u2 I2 1316 c x) 1318 c y) (cm_u2 L2 1317 c v) := fun x y v => ((twf.rf.pI (by unfold CW; omega) _).pL (by unfold CW; omega) _).pI (by unfold CW; omega) _
  rintro I3 rfl
  match q, hq, hn, hf, h with
  | none, hq, hn, hf, h =>
    refine ⟨fun z => absurd (show zi 0 = zi 1 from z) (by decide), fun _ => ?_⟩
    rintro L4 rfl
    refine ⟨fun z => absurd (show zi 0 = zi 2 from z) (by decide), fun _ => ?_⟩
    rintro I5 rfl
    exact t_set128 hτ g2 hc (fr _ _ _) (by rw [u2_ne _ _ _ _ (by omega), u2_same]) (by rw [u2_same]; rfl) (fun n z => by cases z) hq (by simp [ctk]) (fun t z => by cases z) (fun i t z => by simp [ctk] at z) _ _ (by omega) h
  | some (.inl n), hq, hn, hf, h =>
    refine ⟨fun _ => ?_, fun z => absurd rfl z⟩
    rintro L4 rfl
    refine ⟨fun z => absurd (show zi 1 = zi 2 from z) (by decide), fun _ => ?_⟩
    rintro I5 rfl
    exact t_set128 hτ g2 hc (fr _ _ _) (by rw [u2_ne _ _ _ _ (by omega), u2_same]) (by rw [u2_same]; rfl) (fun m z => by cases z; rw [u2_same, e26]; exact hn n rfl) hq (by simp [ctk]) (fun t z => by cases z) (fun i t z => by simp [ctk] at z) _ _ (by omega) h
  | some (.inr t), hq, hn, hf, h =>
    refine ⟨fun z => absurd (show zi 2 = zi 1 from z) (by decide), fun _ => ?_⟩
    rintro L4 rfl
    refine ⟨fun _ => ?_, fun z => absurd rfl z⟩
    rintro I5 rfl
    have hf := hf t rfl
    exact t_set128 hτ g2 hc (fr _ _ _) (by rw [u2_ne _ _ _ _ (by omega), u2_same]) (by rw [u2_same, u2_ne _ _ _ _ (by omega), e25]; exact hf.1) (fun m z => by cases z) hq hq.2.2 (tk_ok t hq.1) (fun i p hp => by rw [u2_ne _ _ _ _ (by omega), e31]; exact hf.2 i p hp) _ _ (by omega) h
theorem t_setCell (hτ : tw_ok τ) (h0 : tst τ I L B S H V O M W au ev) (x : Int32) {Q : Int32 → tw_I → tw_L → Prop} (hd : 4200 ≤ d)
    (h1 : ¬ (0 ≤ x.toInt ∧ x.toInt ≤ 239) → Q (zi (-1)) I L)
    (h2 : ∀ c : Nat, c < 240 → x = zi c → match psC B with
      | .inl e => ∀ I2 L2, tst τ I2 L2 [] S H V O M W au ev → Q (zi (-10 - (e : Int))) I2 L2
      | .inr q => ∀ I2 L2, tst τ I2 L2 [] (up1 S.1 c q, S.2) ((S :: H).take 8) (up1 V c (bgV q)) O (up1 M c (decide (cty q = 2))) W au ev → wp_c (d - 1) 188 [.ref 1315] (tw τ I2 L2) (tv τ fun I3 L3 => Q (zi (cty q)) I3 L3)) :
    wp_c d 308 [.ref 1315, .int x] (tw τ I L) (ti τ Q) := by
  have hx := zi_rng x
  have hB := h0.2.1
  have hl := hB.2.1
  refine k308 hτ (by omega) ?_
  rw [← zi_self x]
  refine t_isCell hτ ⟨by omega, by omega⟩ (by omega) ?_
  rw [bz_0, decide_eq_false_iff_not]
  refine ⟨h1, fun q => ?_⟩
  have q : 0 ≤ x.toInt ∧ x.toInt ≤ 239 := Decidable.not_not.mp q
  obtain ⟨c, hcx⟩ : ∃ c : Nat, x.toInt = c := ⟨x.toInt.toNat, by omega⟩
  have hc : c < 240 := by omega
  have h2 := h2 c hc (by rw [← hcx, zi_self])
  rw [hcx, hB.1, zi_eq (by omega) (by omega) (by omega) (by omega)]
  unfold psC at h2
  have bad : ∀ (e : Nat) (s : Int32) (I3 : tw_I) (L3 : tw_L), e ≤ 80 → tst τ I3 L3 B S H V O M W au ev → (∀ I2 L2, tst τ I2 L2 [] S H V O M W au ev → Q (zi (-10 - (e : Int))) I2 L2) → wp_r (d - 1) 308 (61, [.ref 1315, .int (zi c), .int s, .null, .null], [.int (zi e)], tw τ I3 L3) (ti τ Q) := by
    intro e s I3 L3 he g hq
    refine k308_61 hτ (by omega) ?_
    rintro I1 rfl
    rw [zi_lt (by omega) (by omega) (by omega) (by omega), zi_sub]
    exact ⟨fun z => absurd z (by omega), fun _ => hq _ _ (g.empty hτ)⟩
  refine ⟨fun z => ?_, fun z => ⟨by decide, fun z2 => ?_, fun z2 => ?_⟩⟩
  · rw [if_pos (by omega)] at h2
    refine k308_36 hτ (by omega) ⟨fun _ => ?_, fun z => absurd rfl z⟩
    exact t_set61 (q := none) hτ h0 hc trivial (fun n z => by cases z) (fun n z => by cases z) (by omega) _ _ h2
  · rw [if_neg (by omega)] at h2
    have hb : by_ B 0 = 61 := by
      have h00 : 0 < B.length := by omega
      have g := hB.2.2 0 B[0] (List.getElem?_eq_getElem h00)
      have z2 : I 1330 0 = zi 61 := z2
      rw [g.1, zi_eq (by omega) (by omega) (by omega) (by omega)] at z2
      unfold by_
      rw [List.getElem?_eq_getElem h00]
      simp only [Option.getD_some]
      omega
    rw [if_pos hb] at h2
    refine k308_36 hτ (by omega) ⟨fun z => absurd z (by decide), fun _ => ⟨fun _ => ?_, fun z => absurd rfl z⟩⟩
    refine t_readFormula hτ h0.1.1 hB (by omega) (by omega) fun I3 L3 f3 => ?_
    have g3 := h0.kept hτ (f3.wi PW_XW)
    rcases e : psF B with p | ⟨t, p⟩
    · rw [e] at h2
      have he : p ≤ 80 := psF_e80 hB.bok hl (by omega) e
      exact bad p _ I3 L3 he g3 h2
    · rw [e] at h2
      intro hdr
      exact t_set61 (q := some (.inr t)) hτ g3 hc (psF_cok hB.bok hl (by omega) e) (fun n z => by cases z) (fun u z => by cases z; exact ⟨hdr.1, hdr.2.2⟩) (by omega) _ _ h2
  · rw [if_neg (by omega)] at h2
    have hb : by_ B 0 ≠ 61 := by
      intro hb
      have h00 : 0 < B.length := by omega
      have g := hB.2.2 0 B[0] (List.getElem?_eq_getElem h00)
      unfold by_ at hb
      rw [List.getElem?_eq_getElem h00] at hb
      simp only [Option.getD_some] at hb
      refine z2 ?_
      show I 1330 0 = zi 61
      rw [g.1, hb]; rfl
    rw [if_neg hb] at h2
    refine k308_36 hτ (by omega) ⟨fun z => absurd z (by decide), fun _ => ⟨fun z => absurd z (by decide), fun _ => ?_⟩⟩
    refine t_readNumber hτ hB (by omega) ?_
    rcases e : psN B with p | n
    · rw [e] at h2
      exact bad p _ I L (psN_e80 hl (by omega) e) h0 h2
    · rw [e] at h2
      intro L2 f2 hw
      have := psN_rng e
      exact t_set61 (q := some (.inl n)) hτ (h0.kept hτ (f2.wi PW_XW)) hc ⟨by omega, by omega⟩ (fun m z => by cases z; exact hw) (fun u z => by cases z) (by omega) _ _ h2
end
