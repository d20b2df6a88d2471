/-! PURE: paths, levels, orders -/
section
variable {F : Nat → Bool} {D : Nat → Nat → Bool}
theorem war_nf (hF : ∀ c e, F c = false → D c e = false) : ∀ n c e, F c = false → war F D n c e = false := by
  intro n
  induction n with
  | zero => intro c e h; exact hF c e h
  | succ n ih =>
    intro c e h
    show (war F D n c e || (F n && war F D n c n && war F D n n e)) = false
    rw [ih c e h, ih c n h, Bool.and_false, Bool.false_and, Bool.or_false]
theorem war_mono : ∀ n c e, D c e = true → war F D n c e = true := by
  intro n
  induction n with
  | zero => intro c e h; exact h
  | succ n ih =>
    intro c e h
    show (war F D n c e || (F n && war F D n c n && war F D n n e)) = true
    rw [ih c e h, Bool.true_or]
theorem war_s {n c e : Nat} : war F D (n + 1) c e = true ↔ war F D n c e = true ∨ (F n = true ∧ war F D n c n = true ∧ war F D n n e = true) := by
  show (war F D n c e || (F n && war F D n c n && war F D n n e)) = true ↔ _
  simp only [Bool.or_eq_true, Bool.and_eq_true, and_assoc]
theorem war_tr (hF : ∀ c e, F c = false → D c e = false) : ∀ n i c k, i < n → war F D n c i = true → war F D n i k = true → war F D n c k = true := by
  intro n
  induction n with
  | zero => intro i c k hi; omega
  | succ n ih =>
    intro i c k hi h1 h2
    rw [war_s] at h1 h2 ⊢
    by_cases e : i = n
    · subst e
      have h1 : war F D i c i = true := by rcases h1 with q | q; exact q; exact q.2.1
      have h2 : war F D i i k = true := by rcases h2 with q | q; exact q; exact q.2.2
      cases hf : F i with
      | false => rw [war_nf hF i i k hf] at h2; cases h2
      | true => exact .inr ⟨rfl, h1, h2⟩
    · have hi : i < n := by omega
      rcases h1 with a | ⟨a1, a2, a3⟩
      · rcases h2 with b | ⟨b1, b2, b3⟩
        · exact .inl (ih i c k hi a b)
        · exact .inr ⟨b1, ih i c n hi a b2, b3⟩
      · rcases h2 with b | ⟨b1, b2, b3⟩
        · exact .inr ⟨a1, a2, ih i n k hi a3 b⟩
        · exact .inr ⟨a1, a2, b3⟩
theorem war_min {T : Nat → Nat → Prop} (h1 : ∀ c e, D c e = true → T c e) (h2 : ∀ i c k, i < 240 → T c i → T i k → T c k) : ∀ n, n ≤ 240 → ∀ c e, war F D n c e = true → T c e := by
  intro n
  induction n with
  | zero => intro _ c e h; exact h1 c e h
  | succ n ih =>
    intro hn c e h
    rw [war_s] at h
    rcases h with q | ⟨_, q1, q2⟩
    · exact ih (by omega) c e q
    · exact h2 n c e (by omega) (ih (by omega) c n q1) (ih (by omega) n e q2)
end
section
variable {S : Sh}
theorem dir_isF {c e : Nat} (h : isF S c = false) : dir S c e = false := dir_n (of_decide_eq_false h) e
theorem rch_tr {i c k : Nat} (hi : i < 240) (h1 : rch S c i = true) (h2 : rch S i k = true) : rch S c k = true := by
  unfold rch at *
  exact war_tr (F := isF S) (D := dir S) (fun c e h => dir_isF h) 240 i c k hi h1 h2
theorem rch_dir {c e : Nat} (h : dir S c e = true) : rch S c e = true := war_mono 240 c e h
theorem rch_lt (hS : nmo S.2) {c e : Nat} (h : rch S c e = true) : e < 240 := war_min (T := fun _ e => e < 240) (fun c e h => dir_lt hS h) (fun i c k _ _ h => h) 240 (Nat.le_refl _) c e h
theorem rch_f {c e : Nat} (h : isF S c = false) : rch S c e = false := by
  unfold rch
  exact war_nf (F := isF S) (D := dir S) (fun c e h => dir_isF h) 240 c e h
theorem rch_1 (hS : nmo S.2) {c k : Nat} (h : rch S c k = true) : ∃ e, e < 240 ∧ dir S c e = true ∧ (e = k ∨ rch S e k = true) := by
  have := war_min (F := isF S) (D := dir S) (T := fun c k => rch S c k = true ∧ ∃ e, e < 240 ∧ dir S c e = true ∧ (e = k ∨ rch S e k = true)) (fun c e h => ⟨rch_dir h, e, dir_lt hS h, h, .inl rfl⟩) (fun i c k hi h1 h2 => ?_) 240 (Nat.le_refl _) c k h
  · exact this.2
  · obtain ⟨a1, e, a2, a3, a4⟩ := h1
    refine ⟨rch_tr hi a1 h2.1, e, a2, a3, .inr ?_⟩
    rcases a4 with rfl | q
    · exact h2.1
    · exact rch_tr hi q h2.1
/-! chains -/
def pth (S : Sh) (to : Nat) : Nat → Nat → Prop
  | 0, c => c = to
  | n + 1, c => ∃ e, e < 240 ∧ dir S c e = true ∧ pth S to n e
def lstP (S : Sh) (to n c : Nat) : Prop := pth S to n c ∧ ∀ m, m < n → ¬ pth S to m c
def ls1P (S : Sh) (to n c : Nat) : Prop := 1 ≤ n ∧ pth S to n c ∧ ∀ m, 1 ≤ m → m < n → ¬ pth S to m c
theorem pth_lst {to : Nat} : ∀ n c, pth S to n c → ∃ m, m ≤ n ∧ lstP S to m c := by
  intro n
  induction n using Nat.strongRecOn with
  | ind n ih =>
    intro c h
    by_cases q : ∃ m, m < n ∧ pth S to m c
    · obtain ⟨m, h1, h2⟩ := q
      obtain ⟨k, k1, k2⟩ := ih m h1 c h2
      exact ⟨k, by omega, k2⟩
    · exact ⟨n, Nat.le_refl _, h, fun m hm hp => q ⟨m, hm, hp⟩⟩
theorem pth_ls1 {to : Nat} {n c : Nat} (h1 : 1 ≤ n) (h : pth S to n c) : ∃ m, m ≤ n ∧ ls1P S to m c := by
  revert h1 h
  induction n using Nat.strongRecOn with
  | ind n ih =>
    intro h1 h
    by_cases q : ∃ m, 1 ≤ m ∧ m < n ∧ pth S to m c
    · obtain ⟨m, q0, q1, q2⟩ := q
      obtain ⟨k, k1, k2⟩ := ih m q1 q0 q2
      exact ⟨k, by omega, k2⟩
    · exact ⟨n, Nat.le_refl _, h1, h, fun m hm0 hm hp => q ⟨m, hm0, hm, hp⟩⟩
theorem lst_uniq {to m n c : Nat} (h : lstP S to m c) (g : lstP S to n c) : m = n := by
  rcases Nat.lt_trichotomy m n with q | q | q
  · exact absurd h.1 (g.2 m q)
  · exact q
  · exact absurd g.1 (h.2 n q)
theorem ls1_uniq {to m n c : Nat} (h : ls1P S to m c) (g : ls1P S to n c) : m = n := by
  rcases Nat.lt_trichotomy m n with q | q | q
  · exact absurd h.2.1 (g.2.2 m h.1 q)
  · exact q
  · exact absurd g.2.1 (h.2.2 n g.1 q)
theorem lst_down {to m c : Nat} (h : lstP S to (m + 1) c) : ∃ e, e < 240 ∧ dir S c e = true ∧ lstP S to m e := by
  obtain ⟨e, e1, e2, e3⟩ := h.1
  exact ⟨e, e1, e2, e3, fun k hk hp => h.2 (k + 1) (by omega) ⟨e, e1, e2, hp⟩⟩
theorem lst_none {to n : Nat} (h : ∀ c, c < 240 → ¬ lstP S to (n + 1) c) : ∀ m c, c < 240 → lstP S to m c → m ≤ n := by
  intro m
  induction m with
  | zero => intro c _ _; omega
  | succ m ih =>
    intro c hc hl
    obtain ⟨e, e1, _, e3⟩ := lst_down hl
    have := ih e e1 e3
    by_cases q : m = n
    · subst q; exact absurd hl (h c hc)
    · omega
theorem pth_rch {to : Nat} : ∀ n c, pth S to (n + 1) c → rch S c to = true := by
  intro n
  induction n with
  | zero =>
    intro c ⟨e, _, e2, e3⟩
    have e3 : e = to := e3
    subst e3
    exact rch_dir e2
  | succ n ih =>
    intro c ⟨e, e1, e2, e3⟩
    exact rch_tr e1 (rch_dir e2) (ih e e3)
theorem rch_pth (hS : nmo S.2) {to c : Nat} (h : rch S c to = true) : ∃ n, 1 ≤ n ∧ pth S to n c := by
  have key := war_min (F := isF S) (D := dir S) (T := fun c to => to < 240 ∧ ∃ n, 1 ≤ n ∧ pth S to n c) (fun c e h => ⟨dir_lt hS h, 1, Nat.le_refl _, e, dir_lt hS h, h, rfl⟩) (fun i c k hi h1 h2 => ?_) 240 (Nat.le_refl _) c to h
  · exact key.2
  · obtain ⟨_, n, n1, n2⟩ := h1
    obtain ⟨k1, m, m1, m2⟩ := h2
    refine ⟨k1, n + m, by omega, ?_⟩
    have app : ∀ n c, pth S i n c → pth S k (n + m) c := by
      intro n
      induction n with
      | zero => intro c h; have h : c = i := h; subst h; rw [Nat.zero_add]; exact m2
      | succ n ih =>
        intro c ⟨e, e1, e2, e3⟩
        rw [Nat.succ_add]
        exact ⟨e, e1, e2, ih e e3⟩
    exact app n c n2
/-- the length of the shortest chain -/
noncomputable def dst (S : Sh) (to c : Nat) : Option Nat :=
  haveI := Classical.propDecidable (∃ n, ls1P S to n c)
  if h : ∃ n, ls1P S to n c then some h.choose else none
theorem dst_some {to n c : Nat} (h : ls1P S to n c) : dst S to c = some n := by
  have hex : ∃ n, ls1P S to n c := ⟨n, h⟩
  unfold dst
  rw [dif_pos hex, ls1_uniq hex.choose_spec h]
theorem dst_none {to c : Nat} (h : ∀ n, 1 ≤ n → ¬ pth S to n c) : dst S to c = none := by
  unfold dst
  rw [dif_neg]
  rintro ⟨n, h1, h2, _⟩
  exact h n h1 h2
theorem dst_inv {to c n : Nat} (h : dst S to c = some n) : ls1P S to n c := by
  unfold dst at h
  split at h
  · rename_i hex
    have := hex.choose_spec
    rwa [Option.some.inj h] at this
  · cases h
/-- a cycle's cells -/
noncomputable def cyN (S : Sh) (to at_ m : Nat) : Option Nat := fstB (fun e => dir S at_ e && decide (dst S to e = some m)) 240
noncomputable def cyW (S : Sh) (c size : Nat) : Nat → Nat
  | 0 => c
  | k + 1 => (cyN S c (cyW S c size k) (size - (k + 1))).getD 0
/-! levels -/
def mxB (P : Nat → Bool) (f : Nat → Nat) : Nat → Nat
  | 0 => 0
  | n + 1 => if P n then max (mxB P f n) (f n) else mxB P f n
theorem mxB_cg {P : Nat → Bool} {f g : Nat → Nat} : ∀ n, (∀ e, e < n → P e = true → f e = g e) → mxB P f n = mxB P g n := by
  intro n
  induction n with
  | zero => intro _; rfl
  | succ n ih =>
    intro h
    rw [mxB, mxB, ih fun e he => h e (by omega)]
    by_cases q : P n = true
    · rw [if_pos q, if_pos q, h n (by omega) q]
    · rw [if_neg q, if_neg q]
def lvF (S : Sh) : Nat → Nat → Nat
  | 0, _ => 0
  | n + 1, c => if isF S c then mxB (dir S c) (lvF S n) 240 + 1 else 0
def lvl (S : Sh) (c : Nat) : Nat := lvF S 242 c
/-- a cell that rests on a cycle, or lies on one -/
def blk (S : Sh) (c : Nat) : Bool := exB (fun e => rch S c e && rch S e e) 240
theorem blk_cy {c : Nat} (hc : c < 240) (h : rch S c c = true) : blk S c = true := (exB_iff _ 240).mpr ⟨c, hc, by rw [h]; rfl⟩
theorem blk_dn {c e : Nat} (he : e < 240) (h : dir S c e = true) (hb : blk S c = false) : blk S e = false := by
  cases q : blk S e with
  | false => rfl
  | true =>
    obtain ⟨x, h1, h2⟩ := (exB_iff _ 240).mp q
    rw [Bool.and_eq_true] at h2
    have : blk S c = true := (exB_iff _ 240).mpr ⟨x, h1, by rw [rch_tr he (rch_dir h) h2.1, h2.2]; rfl⟩
    rw [this] at hb
    cases hb
def rk (S : Sh) (c : Nat) : Nat := cnt (rch S c) 240
theorem cnt_sub {P Q : Nat → Bool} {x : Nat} (h : ∀ e, P e = true → Q e = true) (hx : P x = false) (hq : Q x = true) : ∀ n, x < n → cnt P n < cnt Q n := by
  have le : ∀ n, cnt P n ≤ cnt Q n := by
    intro n
    induction n with
    | zero => exact Nat.le_refl _
    | succ n ih =>
      rw [cnt, cnt]
      cases q : P n with
      | false => have : (if false = true then 1 else 0) = 0 := rfl; rw [this]; omega
      | true => rw [h n q]; omega
  intro n
  induction n with
  | zero => intro h; omega
  | succ n ih =>
    intro hn
    rw [cnt, cnt]
    by_cases e : x = n
    · subst e
      rw [hx, hq]
      have := le x
      simp only [Bool.false_eq_true, if_false, if_true]
      omega
    · have := ih (by omega)
      cases q : P n with
      | false => simp only [Bool.false_eq_true, if_false]; omega
      | true => rw [h n q]; omega
theorem rk_dn {c e : Nat} (he : e < 240) (h : dir S c e = true) (hb : blk S c = false) : rk S e < rk S c := by
  unfold rk
  refine cnt_sub (P := rch S e) (Q := rch S c) (x := e) (fun x hx => rch_tr he (rch_dir h) hx) ?_ (rch_dir h) 240 he
  have := blk_dn he h hb
  cases q : rch S e e with
  | false => rfl
  | true => rw [blk_cy he q] at this; cases this
theorem rk_le (c : Nat) : rk S c ≤ 240 := cnt_le _ 240
theorem lvF_eq (hS : nmo S.2) : ∀ r c, blk S c = false → rk S c ≤ r → ∀ n, r < n → lvF S n c = lvF S (r + 1) c := by
  intro r
  induction r using Nat.strongRecOn with
  | ind r ih =>
    intro c hb hr n hn
    obtain ⟨n, rfl⟩ : ∃ m, n = m + 1 := ⟨n - 1, by omega⟩
    rw [lvF, lvF]
    by_cases q : isF S c = true
    · rw [if_pos q, if_pos q]
      refine congrArg (fun x => x + 1) (mxB_cg 240 fun e he hd => ?_)
      have h1 := rk_dn he hd hb
      have h2 := blk_dn he hd hb
      obtain ⟨r, rfl⟩ : ∃ s, r = s + 1 := ⟨r - 1, by omega⟩
      have a := ih r (by omega) e h2 (by omega) n (by omega)
      rw [a]
    · rw [if_neg q, if_neg q]
theorem lvl_s (hS : nmo S.2) {c : Nat} (hb : blk S c = false) (hF : isF S c = true) : lvl S c = mxB (dir S c) (lvl S) 240 + 1 := by
  unfold lvl
  rw [lvF, if_pos hF]
  refine congrArg (fun x => x + 1) (mxB_cg 240 fun e he hd => ?_)
  have h2 := blk_dn he hd hb
  have := rk_le (S := S) e
  rw [lvF_eq hS 240 e h2 this 241 (by omega), lvF_eq hS 240 e h2 this 242 (by omega)]
theorem lvl_0 {c : Nat} (hF : isF S c = false) : lvl S c = 0 := by
  unfold lvl
  rw [lvF, if_neg (by rw [hF]; simp)]
theorem mxB_le {P : Nat → Bool} {f : Nat → Nat} {k : Nat} : ∀ n, (∀ e, e < n → P e = true → f e ≤ k) → mxB P f n ≤ k := by
  intro n
  induction n with
  | zero => intro _; exact Nat.zero_le _
  | succ n ih =>
    intro h
    rw [mxB]
    have := ih fun e he => h e (by omega)
    by_cases q : P n = true
    · rw [if_pos q]; have := h n (by omega) q; omega
    · rw [if_neg q]; exact this
theorem lvl_le (hS : nmo S.2) : ∀ r c, blk S c = false → rk S c ≤ r → lvl S c ≤ r + 1 := by
  intro r
  induction r using Nat.strongRecOn with
  | ind r ih =>
    intro c hb hr
    cases hF : isF S c with
    | false => rw [lvl_0 hF]; omega
    | true =>
      rw [lvl_s hS hb hF]
      have : mxB (dir S c) (lvl S) 240 ≤ r := mxB_le 240 fun e he hd => by
        have h1 := rk_dn he hd hb
        have := ih (rk S e) (by omega) e (blk_dn he hd hb) (Nat.le_refl _)
        omega
      omega
/-! the order of calculation -/
def rdB (S : Sh) (Z : Nat → Bool) (c : Nat) : Bool := !(exB (fun e => dir S c e && !Z e) 240)
def nxt (S : Sh) (Z : Nat → Bool) : Option Nat := fstB (fun c => !Z c && rdB S Z c) 240
def orS (S : Sh) (Z : Nat → Bool) : Nat → Bool := match nxt S Z with
  | some c => up1 Z c true
  | none => Z
def orZ (S : Sh) : Nat → Nat → Bool
  | 0 => fun c => !isF S c
  | n + 1 => orS S (orZ S n)
theorem orS_s {S : Sh} {Z : Nat → Bool} {c : Nat} (h : nxt S Z = some c) : orS S Z = up1 Z c true := by
  unfold orS
  split
  · rename_i e
    rw [h] at e
    cases e
    rfl
  · rename_i e
    rw [h] at e
    cases e
theorem orS_n {S : Sh} {Z : Nat → Bool} (h : nxt S Z = none) : orS S Z = Z := by
  unfold orS
  split
  · rename_i e
    rw [h] at e
    cases e
  · rfl
theorem rdB_iff (S : Sh) (Z : Nat → Bool) (c : Nat) : rdB S Z c = true ↔ ∀ e, e < 240 → dir S c e = true → Z e = true := by
  unfold rdB
  constructor
  · intro h e he hd
    cases q : Z e with
    | true => rfl
    | false =>
      rw [(exB_iff _ 240).mpr ⟨e, he, by rw [hd, q]; rfl⟩] at h
      cases h
  · intro h
    cases q : exB (fun e => dir S c e && !Z e) 240 with
    | false => rfl
    | true =>
      obtain ⟨e, he, hp⟩ := (exB_iff _ 240).mp q
      rw [Bool.and_eq_true] at hp
      rw [h e he hp.1] at hp
      cases hp.2
theorem fstB_spec {P : Nat → Bool} : ∀ n, (∀ j, fstB P n = some j → P j = true ∧ j < n ∧ ∀ i, i < j → P i = false) ∧ (fstB P n = none → ∀ i, i < n → P i = false) := by
  intro n
  induction n with
  | zero => exact ⟨fun j h => (by cases h), fun _ i hi => absurd hi (by omega)⟩
  | succ n ih =>
    rw [fstB]
    cases q : fstB P n with
    | some k =>
      refine ⟨fun j h => ?_, fun h => by cases h⟩
      cases h
      have := ih.1 k q
      exact ⟨this.1, by omega, this.2.2⟩
    | none =>
      simp only
      have i0 := ih.2 q
      by_cases p : P n = true
      · rw [if_pos p]
        refine ⟨fun j h => ?_, fun h => by cases h⟩
        cases h
        exact ⟨p, by omega, i0⟩
      · rw [if_neg p]
        refine ⟨fun j h => (by cases h), fun _ i hi => ?_⟩
        by_cases e : i = n
        · subst e
          cases r : P i with
          | false => rfl
          | true => exact absurd r p
        · exact i0 i (by omega)
theorem fstB_of {P : Nat → Bool} {n j : Nat} (hj : j < n) (hp : P j = true) (h : ∀ i, i < j → P i = false) : fstB P n = some j := by
  cases q : fstB P n with
  | some k =>
    have := (fstB_spec n).1 k q
    rcases Nat.lt_trichotomy k j with z | z | z
    · rw [h k z] at this; cases this.1
    · rw [z]
    · rw [this.2.2 j z] at hp; cases hp
  | none => rw [(fstB_spec n).2 q j hj] at hp; cases hp
end
