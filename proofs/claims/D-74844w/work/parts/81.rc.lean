/-! PURE: what is reckoned anew, and that its order doesn't matter -/
def exB (P : Nat → Bool) : Nat → Bool
  | 0 => false
  | n + 1 => exB P n || P n
theorem exB_iff (P : Nat → Bool) : ∀ n, exB P n = true ↔ ∃ d, d < n ∧ P d = true := by
  intro n
  induction n with
  | zero => exact ⟨fun z => (by cases z), fun ⟨d, h, _⟩ => absurd h (by omega)⟩
  | succ n ih =>
    rw [exB, Bool.or_eq_true, ih]
    constructor
    · rintro (⟨d, h1, h2⟩ | h)
      · exact ⟨d, by omega, h2⟩
      · exact ⟨n, by omega, h⟩
    · rintro ⟨d, h1, h2⟩
      by_cases e : d = n
      · subst e; exact .inr h2
      · exact .inl ⟨d, by omega, h2⟩
theorem exB_cg {P Q : Nat → Bool} : ∀ n, (∀ d, d < n → P d = Q d) → exB P n = exB Q n := by
  intro n
  induction n with
  | zero => intro _; rfl
  | succ n ih => intro h; rw [exB, exB, ih (fun d hd => h d (by omega)), h n (by omega)]
theorem cnt_cg {P Q : Nat → Bool} : ∀ n, (∀ d, d < n → P d = Q d) → cnt P n = cnt Q n := by
  intro n
  induction n with
  | zero => intro _; rfl
  | succ n ih => intro h; rw [cnt, cnt, ih (fun d hd => h d (by omega)), h n (by omega)]
theorem cnt_up {P Q : Nat → Bool} {c : Nat} (hp : P c = false) (hq : Q c = true) : ∀ n, (∀ d, d < n → d ≠ c → P d = Q d) → cnt Q n = cnt P n + (if c < n then 1 else 0) := by
  intro n
  induction n with
  | zero => intro _; rfl
  | succ n ih =>
    intro h
    rw [cnt, cnt, ih (fun d hd hc => h d (by omega) hc)]
    by_cases e : n = c
    · subst e
      simp [hp, hq]
    · rw [h n (by omega) e]
      have i : (c < n + 1) ↔ (c < n) := by omega
      simp only [i]
      omega
/-! what a formula comes to rests on its cells alone -/
def nmo (N : List Nm) : Prop := ∀ q ∈ N, nok q
theorem nmR_ok {N : List Nm} (hN : nmo N) {c a b : Nat} (h : nmR N c = some (some (a, b))) : box a b ∧ ∀ e, nmd N c e = bxd a b e := by
  unfold nmR at h
  cases hb : (nmAt N c).bind fun n => N[n]? with
  | none => rw [hb] at h; cases h
  | some q =>
    rw [hb] at h
    obtain ⟨x, r⟩ := q
    have h : some r = some (some (a, b)) := h
    cases h
    cases hn : nmAt N c with
    | none => rw [hn] at hb; cases hb
    | some n =>
      rw [hn] at hb
      have hb2 : N[n]? = some (x, some (a, b)) := hb
      refine ⟨(hN _ (List.mem_of_getElem? hb2)).2, fun e => ?_⟩
      unfold nmd
      rw [hn, show (some n).bind (fun n => N[n]?) = N[n]? from rfl, hb2]
theorem arV_dp {N : List Nm} (hN : nmo N) {a : Fm} {f l : Nat} (h : arV N a = .inr (f, l)) {e : Nat} (he : inb e f l = true) : dpT N a e = true := by
  unfold inb at he
  rw [decide_eq_true_eq] at he
  unfold arV at h
  split at h
  · rename_i v
    injection h with h
    injection h with h1 h2
    subst h1 h2
    show bxd _ _ e = true
    unfold bxd
    rw [decide_eq_true_eq]
    omega
  · rename_i u v
    injection h with h
    injection h with h1 h2
    subst h1 h2
    show bxd _ _ e = true
    unfold bxd
    rw [decide_eq_true_eq]
    omega
  · rename_i c
    cases hr : nmR N c with
    | none => rw [hr] at h; cases h
    | some r =>
      cases r with
      | none => rw [hr] at h; cases h
      | some ab =>
        obtain ⟨a, b⟩ := ab
        rw [hr] at h
        injection h with h
        injection h with h1 h2
        subst h1 h2
        obtain ⟨bx, hd⟩ := nmR_ok hN hr
        unfold box at bx
        show nmd N c e = true
        rw [hd e]
        unfold bxd
        rw [decide_eq_true_eq]
        omega
  · cases h
theorem celF_mem {f l : Nat} : ∀ n, ∀ c ∈ celF f l n, c < 240 ∧ inb c f l = true := by
  intro n
  induction n with
  | zero => intro c hc; cases hc
  | succ n ih =>
    intro c hc
    rw [celF] at hc
    by_cases h : inb (239 - n) f l = true
    · rw [if_pos h] at hc
      rcases List.mem_cons.mp hc with rfl | hc
      · exact ⟨by omega, h⟩
      · exact ih c hc
    · rw [if_neg h] at hc
      exact ih c hc
section
variable {V V2 : Nat → Vl}
theorem tkV_cg {c : Nat} (h : V c = V2 c) : tkV V c = tkV V2 c := by unfold tkV; rw [h]
theorem mtL_cg (w : Int64) : ∀ (l : List Nat) (k : Nat), (∀ c ∈ l, V c = V2 c) → mtL V w l k = mtL V2 w l k := by
  intro l
  induction l with
  | nil => intro k _; rfl
  | cons c r ih => intro k h; rw [mtL, mtL, h c (List.mem_cons_self ..), ih (k + 1) fun x hx => h x (List.mem_cons_of_mem _ hx)]
theorem ixL_cg (w : Int64) : ∀ (l : List Nat) (k : Nat), (∀ c ∈ l, V c = V2 c) → ixL V w l k = ixL V2 w l k := by
  intro l
  induction l with
  | nil => intro k _; rfl
  | cons c r ih => intro k h; rw [ixL, ixL, tkV_cg (h c (List.mem_cons_self ..)), ih (k + 1) fun x hx => h x (List.mem_cons_of_mem _ hx)]
theorem arE_cg : ∀ (l : List Nat), (∀ c ∈ l, V c = V2 c) → arE V l = arE V2 l := by
  intro l
  induction l with
  | nil => intro _; rfl
  | cons c r ih => intro h; rw [arE_step, arE_step, h c (List.mem_cons_self ..), tkV_cg (h c (List.mem_cons_self ..)), ih fun x hx => h x (List.mem_cons_of_mem _ hx)]
theorem agE_cg {N : List Nm} (hN : nmo N) {t : Fm} {v v2 : Er} (hv : v = v2) (h : ∀ e, e < 240 → dpT N t e = true → V e = V2 e) : agE N V t v = agE N V2 t v2 := by
  subst hv
  unfold agE
  cases ha : arV N t with
  | inl e => rfl
  | inr p =>
    obtain ⟨f, l⟩ := p
    simp only
    rw [arE_cg (celF f l 240) fun c hc => ?_]
    have := celF_mem _ c hc
    exact h c this.1 (arV_dp hN ha this.2)
theorem agsE_cg {N : List Nm} (hN : nmo N) : ∀ (ts : List Fm) (vs : List Er), (∀ t ∈ ts, ∀ e, e < 240 → dpT N t e = true → V e = V2 e) → agsE N V ts vs = agsE N V2 ts vs := by
  intro ts
  induction ts with
  | nil => intro vs _; cases vs <;> rfl
  | cons t ts ih =>
    intro vs h
    cases vs with
    | nil => rfl
    | cons v vs => rw [agsE, agsE, agE_cg hN rfl (h t (List.mem_cons_self ..)), ih vs fun x hx => h x (List.mem_cons_of_mem _ hx)]
theorem cnE_cg {N : List Nm} (hN : nmo N) : ∀ (ts : List Fm), (∀ t ∈ ts, ∀ e, e < 240 → dpT N t e = true → V e = V2 e) → cnE N V ts = cnE N V2 ts := by
  intro ts
  induction ts with
  | nil => intro _; rfl
  | cons t ts ih =>
    intro h
    have ih := ih fun x hx => h x (List.mem_cons_of_mem _ hx)
    cases ha : arV N t with
    | inl e => rw [cnE_l V ts ha, cnE_l V2 ts ha, ih]
    | inr p =>
      obtain ⟨f, l⟩ := p
      rw [cnE_r V ts ha, cnE_r V2 ts ha, ih]
      rw [cnt_cg (Q := fun c => inb c f l && decide ((V2 c).1 = 1)) 240 fun c hc => ?_]
      by_cases hi : inb c f l = true
      · rw [h t (List.mem_cons_self ..) c hc (arV_dp hN ha hi)]
      · rw [show inb c f l = false by cases q : inb c f l; rfl; exact absurd q hi, Bool.false_and, Bool.false_and]
theorem clE_cg {N : List Nm} (hN : nmo N) (f : Nat) {ts : List Fm} (vs : List Er) (h : ∀ t ∈ ts, ∀ e, e < 240 → dpT N t e = true → V e = V2 e) : clE N V f ts vs = clE N V2 f ts vs := by
  have ar2 : ∀ a ∈ ts, ∀ f l, arV N a = .inr (f, l) → ∀ c ∈ celF f l 240, V c = V2 c := fun a ha f l e c hc => by
    have := celF_mem _ c hc
    exact h a ha c this.1 (arV_dp hN e this.2)
  unfold clE
  split
  · rw [cnE_cg hN _ h]
  · rfl
  · rfl
  · rename_i h0 a x h1
    split
    · rfl
    · cases ha : arV N a with
      | inl e => rfl
      | inr p =>
        obtain ⟨f, l⟩ := p
        exact mtL_cg _ _ _ (ar2 a (by simp) f l ha)
  · rename_i a h0 h1 x
    cases ha : arV N a with
    | inl e => rfl
    | inr p =>
      obtain ⟨f, l⟩ := p
      simp only
      rw [ixL_cg _ _ _ (ar2 a (by simp) f l ha)]
  · rw [agsE_cg hN _ _ h]
theorem ags_dp {N : List Nm} : ∀ (as : Fm), isL as → ∀ a ∈ ags as, ∀ e, dpT N a e = true → dpT N as e = true := by
  intro as
  induction as with
  | div a r iha ihr =>
    intro hl x hx e he
    show (dpT N a e || dpT N r e) = true
    rcases List.mem_cons.mp hx with rfl | hx
    · rw [he, Bool.true_or]
    · rw [ihr hl x hx e he, Bool.or_true]
  | result => intro _ x hx; cases hx
  | _ => intro hl; exact absurd hl (by simp [isL])
theorem evT_cg {N : List Nm} (hN : nmo N) : ∀ t : Fm, wf t → (∀ e, e < 240 → dpT N t e = true → V e = V2 e) → evT N V t = evT N V2 t := by
  intro t
  induction t with
  | arg n => intro _ _; rfl
  | index v =>
    intro _ h
    show [tkV V (v % 240)] = [tkV V2 (v % 240)]
    rw [tkV_cg (h (v % 240) (Nat.mod_lt _ (by decide)) ?_)]
    show bxd _ _ _ = true
    unfold bxd
    rw [decide_eq_true_eq]
    omega
  | null => intro _ _; rfl
  | elem a b => intro _ _; rfl
  | length a iha =>
    intro hw h
    cases a with
    | arg c =>
      show [match nmR N c with
        | none => (3, zl 0)
        | some none => (4, zl 0)
        | some (some (a, b)) => if a = b then tkV V a else (6, zl 0)] = [match nmR N c with
        | none => (3, zl 0)
        | some none => (4, zl 0)
        | some (some (a, b)) => if a = b then tkV V2 a else (6, zl 0)]
      cases hr : nmR N c with
      | none => rfl
      | some r =>
        cases r with
        | none => rfl
        | some ab =>
          obtain ⟨a, b⟩ := ab
          simp only
          obtain ⟨bx, hd⟩ := nmR_ok hN hr
          have bx2 := bx.1
          rw [tkV_cg (h a bx2 ?_)]
          show nmd N c a = true
          rw [hd a]
          unfold bxd
          rw [decide_eq_true_eq]
          unfold box at bx
          omega
    | _ => exact absurd hw (by simp [wf])
  | op2 o l r ihl ihr =>
    intro hw h
    show [binE o (hd1 (evT N V l)) (hd1 (evT N V r))] = [binE o (hd1 (evT N V2 l)) (hd1 (evT N V2 r))]
    rw [ihl hw.1 fun e he hd => h e he (by show (_ || _) = true; rw [hd, Bool.true_or]), ihr hw.2.1 fun e he hd => h e he (by show (_ || _) = true; rw [hd, Bool.or_true])]
  | op1 o a iha =>
    intro hw h
    have ha : wf a := by cases o <;> first | exact hw.1 | exact absurd hw (by simp [wf])
    show [negE (hd1 (evT N V a))] = [negE (hd1 (evT N V2 a))]
    rw [iha ha h]
  | old a iha =>
    intro hw h
    show [hd1 (evT N V a)] = [hd1 (evT N V2 a)]
    rw [iha hw.1 h]
  | mul a as iha ihas =>
    intro hw h
    cases a with
    | arg f =>
      show [clE N V f (ags as) (evT N V as)] = [clE N V2 f (ags as) (evT N V2 as)]
      rw [ihas hw.1 h, clE_cg hN f (evT N V2 as) fun t ht e he hd => h e he (ags_dp as hw.2.1 t ht e hd)]
    | _ => exact absurd hw (by simp [wf])
  | div a r iha ihr =>
    intro hw h
    show evT N V a ++ evT N V r = evT N V2 a ++ evT N V2 r
    rw [iha hw.1 fun e he hd => h e he (by show (_ || _) = true; rw [hd, Bool.true_or]), ihr hw.2.1 fun e he hd => h e he (by show (_ || _) = true; rw [hd, Bool.or_true])]
  | _ => intro _ _; rfl
end
/-- a sheet that may be -/
def shk (S : Sh) : Prop := (∀ c, c < 240 → cok (S.1 c)) ∧ nmo S.2
def dn0 (S : Sh) (c : Nat) : Bool := !isF S c || rch S c c
def clo (S : Sh) (Y : Nat → Bool) : Prop := ∀ c, c < 240 → (∀ e, e < 240 → dir S c e = true → Y e = true) → Y c = true
def othB (O V : Nat → Vl) (e : Nat) : Bool := !(decide ((V e).1 = (O e).1) && decide ((V e).2 = (O e).2))
def due (S : Sh) (O : Nat → Vl) (M W : Nat → Bool) (all : Bool) (V : Nat → Vl) (c : Nat) : Bool := all || (M c || (W c || exB (fun e => dir S c e && othB O V e) 240))
def evC (S : Sh) (V : Nat → Vl) (c : Nat) : Vl := match S.1 c with
  | some (.inr t) => vlE (ev1 S.2 V t)
  | _ => (0, zl 0)
def cyV (S : Sh) (V : Nat → Vl) (c : Nat) : Vl := if rch S c c then (2, zl 1) else V c
def rcI (S : Sh) (V0 O : Nat → Vl) (M W : Nat → Bool) (all : Bool) (Z : Nat → Bool) (V : Nat → Vl) (n : Nat) : Prop :=
  (∀ c, c < 240 → dn0 S c = true → Z c = true) ∧ (∀ Y, clo S Y → (∀ c, c < 240 → dn0 S c = true → Y c = true) → ∀ c, c < 240 → Z c = true → Y c = true) ∧
  (∀ c, c < 240 → Z c = true → dn0 S c = true ∨ ∀ e, e < 240 → dir S c e = true → Z e = true) ∧
  (∀ c, c < 240 → V c = if Z c = true ∧ dn0 S c = false ∧ due S O M W all V c = true then evC S V c else cyV S V0 c) ∧
  n = cnt (fun c => (Z c && !dn0 S c) && due S O M W all V c) 240
def rcR (S : Sh) (V0 O : Nat → Vl) (M W : Nat → Bool) (all : Bool) (V : Nat → Vl) (n : Nat) : Prop := ∃ Z, rcI S V0 O M W all Z V n ∧ clo S Z
section
variable {S : Sh} {V0 O : Nat → Vl} {M W : Nat → Bool} {all : Bool}
theorem due_cg {V V2 : Nat → Vl} {c : Nat} (h : ∀ e, e < 240 → dir S c e = true → V e = V2 e) : due S O M W all V c = due S O M W all V2 c := by
  unfold due
  rw [exB_cg (Q := fun e => dir S c e && othB O V2 e) 240 fun e he => ?_]
  by_cases hd : dir S c e = true
  · unfold othB; rw [h e he hd]
  · rw [show dir S c e = false by cases q : dir S c e; rfl; exact absurd q hd, Bool.false_and, Bool.false_and]
theorem evC_cg (hS : shk S) {V V2 : Nat → Vl} {c : Nat} (hc : c < 240) (h : ∀ e, e < 240 → dir S c e = true → V e = V2 e) : evC S V c = evC S V2 c := by
  have hok := hS.1 c hc
  unfold evC
  unfold dir at h
  match hq : S.1 c, h with
  | none, h => rfl
  | some (.inl n), h => rfl
  | some (.inr t), h =>
    rw [hq] at hok
    simp only
    unfold ev1
    rw [evT_cg hS.2 t hok.1 h]
theorem rcI.start (V0 O : Nat → Vl) (M W : Nat → Bool) (all : Bool) : rcI S V0 O M W all (dn0 S) (cyV S V0) 0 := by
  refine ⟨fun c _ h => h, fun Y _ h c hc hz => h c hc hz, fun c _ h => .inl h, fun c hc => ?_, ?_⟩
  · rw [if_neg]
    intro ⟨h1, h2, _⟩
    rw [h1] at h2
    cases h2
  · have : ∀ n, cnt (fun c => (dn0 S c && !dn0 S c) && due S O M W all (cyV S V0) c) n = 0 := by
      intro n
      induction n with
      | zero => rfl
      | succ n ih => rw [cnt, ih, if_neg (by simp)]
    exact (this 240).symm
theorem rcI.step (hS : shk S) {Z : Nat → Bool} {V : Nat → Vl} {n c : Nat} (h : rcI S V0 O M W all Z V n) (hc : c < 240) (hz : Z c = false) (hr : ∀ e, e < 240 → dir S c e = true → Z e = true) :
    rcI S V0 O M W all (up1 Z c true) (if due S O M W all V c then up1 V c (evC S V c) else V) (if due S O M W all V c then n + 1 else n) := by
  obtain ⟨h1, h2, h3, h4, h5⟩ := h
  have hn0 : dn0 S c = false := by
    cases q : dn0 S c with
    | false => rfl
    | true => rw [h1 c hc q] at hz; cases hz
  have zz : ∀ e, Z e = true → e ≠ c := fun e he z => by rw [z, hz] at he; cases he
  have zu : ∀ e, Z e = true → up1 Z c true e = true := fun e he => by rw [up_n _ _ _ (zz e he)]; exact he
  generalize hV : (if due S O M W all V c then up1 V c (evC S V c) else V) = V2
  have vn : ∀ e, e ≠ c → V2 e = V e := fun e he => by
    rw [← hV]
    split
    · exact up_n _ _ _ he
    · rfl
  have vd : ∀ x, x < 240 → (dn0 S x = true ∨ ∀ e, e < 240 → dir S x e = true → Z e = true) → dn0 S x = false → due S O M W all V2 x = due S O M W all V x ∧ evC S V2 x = evC S V x := fun x hx hd hn => by
    have hd : ∀ e, e < 240 → dir S x e = true → V2 e = V e := by
      rcases hd with hd | hd
      · rw [hn] at hd; cases hd
      · exact fun e he hde => vn e (zz e (hd e he hde))
    exact ⟨due_cg hd, evC_cg hS hx hd⟩
  have vc := vd c hc (.inr hr) hn0
  refine ⟨fun x hx hd => zu x (h1 x hx hd), fun Y hY h0 x hx hzx => ?_, fun x hx hzx => ?_, fun x hx => ?_, ?_⟩
  · by_cases e : x = c
    · subst e
      exact hY x hx fun e he hde => h2 Y hY h0 e he (hr e he hde)
    · rw [up_n _ _ _ e] at hzx
      exact h2 Y hY h0 x hx hzx
  · by_cases e : x = c
    · subst e
      exact .inr fun e he hde => zu e (hr e he hde)
    · rw [up_n _ _ _ e] at hzx
      rcases h3 x hx hzx with q | q
      · exact .inl q
      · exact .inr fun e he hde => zu e (q e he hde)
  · by_cases e : x = c
    · subst e
      rw [up_s, vc.1, vc.2, ← hV]
      by_cases hd : due S O M W all V x = true
      · rw [if_pos hd, if_pos ⟨rfl, hn0, hd⟩, up_s]
      · rw [if_neg hd, if_neg fun q => hd q.2.2, h4 x hx, if_neg fun q => hd q.2.2]
    · rw [vn x e, up_n _ _ _ e, h4 x hx]
      by_cases q : Z x = true ∧ dn0 S x = false
      · have := vd x hx (h3 x hx q.1) q.2
        rw [this.1, this.2]
      · rw [if_neg fun z => q ⟨z.1, z.2.1⟩, if_neg fun z => q ⟨z.1, z.2.1⟩]
  · have same : ∀ x, x < 240 → x ≠ c → ((Z x && !dn0 S x) && due S O M W all V x) = ((up1 Z c true x && !dn0 S x) && due S O M W all V2 x) := fun x hx e => by
      rw [up_n _ _ _ e]
      cases q1 : Z x with
      | false => simp only [Bool.false_and]
      | true =>
        cases q2 : dn0 S x with
        | true => simp only [Bool.not_true, Bool.and_false, Bool.false_and]
        | false => rw [(vd x hx (h3 x hx q1) q2).1]
    by_cases hd : due S O M W all V c = true
    · rw [if_pos hd, cnt_up (P := fun c => (Z c && !dn0 S c) && due S O M W all V c) (c := c) (by rw [hz, Bool.false_and, Bool.false_and]) (by rw [up_s, hn0, vc.1, hd]; rfl) 240 same, if_pos hc, h5]
    · rw [if_neg hd, h5]
      refine cnt_cg 240 fun x hx => ?_
      by_cases e : x = c
      · subst e
        rw [hz, up_s, hn0, vc.1, show due S O M W all V x = false by cases q : due S O M W all V x; rfl; exact absurd q hd, Bool.and_false, Bool.and_false]
      · exact same x hx e
theorem rcR_one (hS : shk S) {V V2 : Nat → Vl} {n n2 : Nat} (h : rcR S V0 O M W all V n) (g : rcR S V0 O M W all V2 n2) : (∀ c, c < 240 → V c = V2 c) ∧ n = n2 := by
  obtain ⟨Z, ⟨h1, h2, h3, h4, h5⟩, hc⟩ := h
  obtain ⟨Y, ⟨g1, g2, g3, g4, g5⟩, gc⟩ := g
  have zy : ∀ c, c < 240 → Z c = Y c := fun c hx => by
    cases q : Z c with
    | true => exact (h2 Y gc g1 c hx q).symm
    | false =>
      cases q2 : Y c with
      | false => rfl
      | true => rw [g2 Z hc h1 c hx q2] at q; cases q
  have els : ∀ c, c < 240 → (Z c = false ∨ dn0 S c = true) → V c = V2 c := fun c hx q => by
    rw [h4 c hx, g4 c hx, if_neg, if_neg]
    · intro z
      rw [← zy c hx] at z
      rcases q with q | q
      · rw [q] at z; cases z.1
      · rw [q] at z; cases z.2.1
    · intro z
      rcases q with q | q
      · rw [q] at z; cases z.1
      · rw [q] at z; cases z.2.1
  have key := h2 (fun c => decide (V c = V2 c)) (fun c hx hd => ?_) (fun c hx hd => decide_eq_true (els c hx (.inr hd)))
  · have all2 : ∀ c, c < 240 → V c = V2 c := fun c hx => by
      cases q : Z c with
      | false => exact els c hx (.inl q)
      | true => exact of_decide_eq_true (key c hx q)
    refine ⟨all2, ?_⟩
    rw [h5, g5]
    refine cnt_cg 240 fun c hx => ?_
    rw [zy c hx, due_cg fun e he _ => all2 e he]
  · refine decide_eq_true ?_
    by_cases q : Z c = true ∧ dn0 S c = false
    · have hdd : ∀ e, e < 240 → dir S c e = true → V e = V2 e := fun e he hde => of_decide_eq_true (hd e he hde)
      rw [h4 c hx, g4 c hx, ← zy c hx, due_cg hdd, evC_cg hS hx hdd]
    · refine els c hx ?_
      cases q1 : Z c with
      | false => exact .inl rfl
      | true =>
        cases q2 : dn0 S c with
        | true => exact .inr rfl
        | false => exact absurd ⟨q1, q2⟩ q
end
