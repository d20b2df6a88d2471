/-! THE TWIN: goalSeek, impactOf -/
theorem rcR_S {S S2 : Sh} (e1 : isF S = isF S2) (e2 : dir S = dir S2) (e3 : evC S = evC S2) : rcR S = rcR S2 := by
  funext V0 O M W all V n
  unfold rcR rcI clo dn0 due cyV rch
  rw [e1, e2, e3]
theorem rcR_all (S : Sh) (V0 O O2 : Nat → Vl) (M M2 W W2 : Nat → Bool) : rcR S V0 O M W true = rcR S V0 O2 M2 W2 true := by
  funext V n
  unfold rcR rcI due
  simp only [Bool.true_or]
/-- values as if all were evaluated -/
noncomputable def rcA (S : Sh) (V : Nat → Vl) : Nat → Vl := rcV S V (fun _ => (0, zl 0)) (fun _ => false) (fun _ => false) true
theorem rcA_eq (S : Sh) (V O : Nat → Vl) (M W : Nat → Bool) : rcV S V O M W true = rcA S V := by
  unfold rcA rcV
  rw [rcR_all S V O (fun _ => (0, zl 0)) M (fun _ => false) W (fun _ => false)]
/-- a cell is a number for a while -/
def nmS (S : Sh) (c : Nat) : Sh := (up1 S.1 c (some (.inl 0)), S.2)
theorem nmS_v (S : Sh) (c : Nat) (v : Int) : rcR (up1 S.1 c (some (.inl v)), S.2) = rcR (nmS S c) := by
  apply rcR_S
  · funext x
    have e : cty (up1 S.1 c (some (.inl v)) x) = cty (up1 S.1 c (some (.inl 0)) x) := by
      unfold up1
      split <;> rfl
    unfold isF nmS
    simp only [e]
  · funext x y
    unfold dir nmS up1
    simp only
    by_cases e : x = c
    · rw [if_pos e, if_pos e]
    · rw [if_neg e, if_neg e]
  · funext U x
    unfold evC nmS up1
    simp only
    by_cases e : x = c
    · rw [if_pos e, if_pos e]
    · rw [if_neg e, if_neg e]
theorem rcA_v (S : Sh) (c : Nat) (v : Int) (V : Nat → Vl) : rcA (up1 S.1 c (some (.inl v)), S.2) V = rcA (nmS S c) V := by
  unfold rcA rcV
  rw [nmS_v]
noncomputable def gsV (S : Sh) (V : Nat → Vl) (i : Nat) (lo : Int) : Nat → Nat → Vl
  | 0 => V
  | k + 1 => rcA (nmS S i) (up1 (gsV S V i lo k) i (1, zl (lo + k)))
def fstB (P : Nat → Bool) : Nat → Option Nat
  | 0 => none
  | n + 1 => match fstB P n with
    | some k => some k
    | none => if P n then some n else none
theorem fstB_mono {P : Nat → Bool} {k j : Nat} (h : fstB P k = some j) : ∀ n, k ≤ n → fstB P n = some j := by
  intro n
  induction n with
  | zero => intro hk; have : k = 0 := by omega
            subst this; exact h
  | succ n ih =>
    intro hk
    by_cases e : k = n + 1
    · subst e; exact h
    · rw [fstB, ih (by omega)]
theorem fstB_lt {P : Nat → Bool} : ∀ n j, fstB P n = some j → j < n := by
  intro n
  induction n with
  | zero => intro j h; cases h
  | succ n ih =>
    intro j h
    rw [fstB] at h
    cases q : fstB P n with
    | some k => rw [q] at h; have := ih k q; cases h; omega
    | none =>
      rw [q] at h
      simp only at h
      split at h
      · cases h; omega
      · cases h
noncomputable def gsP (S : Sh) (V : Nat → Vl) (i : Nat) (lo : Int) (t : Nat) (goal : Int64) (k : Nat) : Bool := decide ((gsV S V i lo (k + 1) t).1 = 1) && decide ((gsV S V i lo (k + 1) t).2 = goal)
/-- the places that a trial writes -/
def TRW (c a i : Nat) : Prop := RCW a i ∨ CW c a i ∨ CW (2160 + c) a i
section
variable {τ : tw_K} {I : tw_I} {L : tw_L} {d : Nat} {B : List Nat} {S : Sh} {H : List Sh} {V O : Nat → Vl} {M W : Nat → Bool} {au : Bool} {ev : Nat}
theorem tst.spare (hτ : tw_ok τ) {I2 : tw_I} {L2 : tw_L} {c : Nat} (h : tst τ I L B S H V O M W au ev) (f : twf (CW (2160 + c)) I L I2 L2) : tst τ I2 L2 B S H V O M W au ev := by
  obtain ⟨h1, h2, h3, h4, h5, h6, h7, h8, h9, h10, h11⟩ := h
  refine ⟨h1.kept hτ (fun a i z => by unfold CW at z; omega) f, h2.kept f (by unfold CW; omega) (fun i => by unfold CW; omega), h3.kept f (fun a i z => by unfold CW at z; unfold KW; omega), ⟨by rw [(f _ _ (by unfold CW; omega)).1]; exact h4.1, h4.2.1, fun i T hT => ?_⟩,
    h5.kept f (fun c => by unfold CW; omega) (fun c => by unfold CW; omega), h6.kept f (fun c => by unfold CW; omega) (fun c => by unfold CW; omega), h7.kept f (fun c => by unfold CW; omega), h8.kept f (fun c => by unfold CW; omega), by rw [(f _ _ (by unfold CW; omega)).1]; exact h9, by rw [(f _ _ (by unfold CW; omega)).1]; exact h10, h11⟩
  have hi := (List.getElem?_eq_some_iff.mp hT).1
  have h8' := h4.2.1
  exact (h4.2.2 i T hT).kept f (fun a i z => by unfold CW at z; unfold KW; omega)
theorem t_tries (hτ : tw_ok τ) (h0 : tst τ I L B S H V O M W au ev) {c : Nat} {v : Int} (hc : c < 240) (hv : -2147483648 ≤ v ∧ v < 2147483648) {Q : tw_I → tw_L → Prop} (hd : 722 ≤ d) (h : ∀ ev2 I2 L2, twf (TRW c) I L I2 L2 → tst τ I2 L2 B S H (rcA (nmS S c) (up1 V c (1, zl v))) (rcA (nmS S c) (up1 V c (1, zl v))) (fun _ => false) (fun x => rch (up1 S.1 c (some (.inl v)), S.2) x x) au ev2 → Q I2 L2) : wp_c d 330 [.ref 1315, .int (zi c), .int (zi v)] (tw τ I L) (tv τ Q) := by
  refine k330 hτ (by omega) ?_
  rw [zi_add, show (2160 : Int) + c = ((2160 + c : Nat) : Int) by omega]
  refine t_copiesContent hτ (by omega) (by omega) (by omega) (h0.cell hc) (by omega) fun I1 L1 f1 c1 => ⟨zn_in (show c < 2400 by omega) (by omega), ?_⟩
  have g1 := h0.spare hτ f1
  rw [zn_ix (by omega), zi_l hv.1 hv.2]
  rintro I2 rfl L3 rfl I4 rfl
  refine ⟨zn_in hc (by omega), ?_⟩
  rintro I5 rfl L6 rfl
  have f2 : twf (CW c) I1 L1 (cm_u2 (cm_u2 I1 1316 c (zi 1)) 1318 c (zi 0)) (cm_u2 L1 1317 c (zl v)) := ((twf.rf.pI (by unfold CW; omega) _).pL (by unfold CW; omega) _).pI (by unfold CW; omega) _
  have g2 := g1.put hτ (q := some (.inl v)) hc f2 ⟨by rw [u2_ne _ _ _ _ (by omega), u2_same]; rfl, ⟨by rw [u2_same]; rfl, by simp [ctk], fun i t ht => by simp [ctk] at ht⟩, hv, fun n hn => by cases hn; rw [u2_same]⟩
  generalize cm_u2 (cm_u2 I1 1316 c (zi 1)) 1318 c (zi 0) = I4 at *
  generalize cm_u2 L1 1317 c (zl v) = L4 at *
  have f3 : twf (fun a i => (a = 1324 ∨ a = 1325 ∨ a = 1328) ∧ i = c) I4 L4 (cm_u2 I4 1324 c (zi 1)) (cm_u2 L4 1325 c (zl v)) := (twf.rf.pI (by omega) _).pL (by omega) _
  have g3 := g2.val hτ (v := (1, zl v)) (m := M c) hc f3 (by rw [u2_same]; rfl) (by rw [u2_same]) (by rw [u2_ne _ _ _ _ (by omega)]; exact g2.mk1 hc) (.inr (.inl rfl))
  rw [up_id] at g3
  refine t_rcl (all := true) hτ g3 (by omega) fun I7 L7 f7 g7 => ?_
  have c7 : tcell I7 L7 (2160 + c) (S.1 c) := by
    refine ((c1.kept f2 ?_ ?_ ?_ ?_).kept f3 ?_ ?_ ?_ ?_).kept f7 ?_ ?_ ?_ ?_
    · unfold CW; omega
    · unfold CW; omega
    · unfold CW; omega
    · intro i hi; unfold CW; omega
    · omega
    · omega
    · omega
    · intro i hi; omega
    · unfold RCW; omega
    · unfold RCW; omega
    · unfold RCW; omega
    · intro i hi; unfold RCW; omega
  refine t_copiesContent hτ (by omega) (by omega) (by omega) c7 (by omega) fun I8 L8 f8 c8 => ?_
  have g8 := g7.put hτ hc f8 c8
  rw [show (up1 (up1 S.1 c (some (.inl v)), S.2).1 c (S.1 c), (up1 S.1 c (some (.inl v)), S.2).2) = S by show (up1 (up1 S.1 c _) c (S.1 c), S.2) = S; rw [up_up, up_id]] at g8
  rw [rcA_eq, rcA_v] at g8
  refine h _ I8 L8 ((((f1.wi fun a i z => .inr (.inr z)).tr (f2.wi fun a i z => .inr (.inl z))).tr (f3.wi fun a i z => .inl (by unfold RCW; omega))).tr ((f7.wi fun a i z => .inl z).tr (f8.wi fun a i z => .inr (.inl z)))) g8
theorem TRW_by {c a i : Nat} (hc : c < 240) (h : BYW a i) : ¬ TRW c a i := by
  unfold BYW at h
  unfold TRW RCW CW
  omega
theorem t_goalSeek (hτ : tw_ok τ) (h0 : tst τ I L B S H V O M W au ev) (x : Int32) (goal : Int64) (y lo hi : Int32) {Q : Int32 → tw_I → tw_L → Prop} (hd : 724 ≤ d)
    (h1 : ¬ ((∃ a : Nat, a < 240 ∧ x = zi a) ∧ (∃ a : Nat, a < 240 ∧ y = zi a) ∧ lo.toInt ≤ hi.toInt ∧ hi.toInt - lo.toInt < 100) → Q (zi (-1)) I L)
    (h2 : ∀ t i n : Nat, t < 240 → i < 240 → x = zi t → y = zi i → n < 100 → hi.toInt = lo.toInt + n → ∀ I2 L2, tst τ I2 L2 B S H V O M W au ev → Q (opz (fstB (gsP S V i lo.toInt t goal) (n + 1))) I2 L2) : wp_c d 222 [.ref 1315, .int x, .long goal, .int y, .int lo, .int hi] (tw τ I L) (ti τ Q) := by
  have hlo := zi_rng lo
  have hhi := zi_rng hi
  have elo := zi_self lo
  have ehi := zi_self hi
  have hev := h0.2.2.2.2.2.2.2.2.2.2
  refine k222 hτ (by omega) (t_isCellX hτ x (by omega) (fun t ht ex => ⟨fun z => absurd z (by decide), fun _ => ?_⟩) (fun n => ⟨fun _ => h1 fun z => n z.1, fun z => absurd rfl z⟩))
  refine t_isCellX hτ y (by omega) (fun i hi2 ey => ⟨fun z => absurd z (by decide), fun _ => ?_⟩) (fun n => ⟨fun _ => h1 fun z => n z.2.1, fun z => absurd rfl z⟩)
  subst ex ey
  rw [Int32.lt_iff_toInt_lt]
  refine ⟨fun z => h1 fun w => by omega, fun z => ?_⟩
  rw [← elo, ← ehi, zi_l (by omega) (by omega), zi_l (by omega) (by omega), zl_sub, elo, ehi, zl_lt (by omega) (by omega) (by omega) (by omega)]
  refine ⟨fun z2 => ?_, fun z2 => h1 fun w => by omega⟩
  obtain ⟨n, hn⟩ : ∃ n : Nat, hi.toInt = lo.toInt + n := ⟨(hi.toInt - lo.toInt).toNat, by omega⟩
  have h2 := h2 t i n ht hi2 rfl rfl (by omega) hn
  refine t_putsBy hτ h0 (by omega) fun I1 L1 f1 b1 => ?_
  have g1 := h0.kept hτ (f1.wi BYW_XW)
  have fin : ∀ J K O' M' W' ev' k, k ≤ n + 1 → tst τ J K B S H (gsV S V i lo.toInt k) O' M' W' au ev' → tby J K V O M W ev → fstB (gsP S V i lo.toInt t goal) (n + 1) = fstB (gsP S V i lo.toInt t goal) k → wp_c (d - 1) 317 [.ref 1315] (tw τ J K) (tv τ fun I1 L1 => Q (opz (fstB (gsP S V i lo.toInt t goal) k)) I1 L1) := by
    intro J K O' M' W' ev' k hk g b e
    rw [e] at h2
    exact t_takesBack hτ g b hev (by omega) fun I3 L3 f3 g3 => h2 I3 L3 g3
  have loop : ∀ (k : Nat) J K, k ≤ n + 1 → (∃ O' M' W' ev', tst τ J K B S H (gsV S V i lo.toInt k) O' M' W' au ev' ∧ tby J K V O M W ev) → wp_r (d - 1) 222 (49, [.ref 1315, .int (zi t), .long goal, .retAddr 0, .int (zi i), .int lo, .int hi, .int (opz (fstB (gsP S V i lo.toInt t goal) k)), .int (zi k)], [], tw τ J K) (ti τ Q) := by
    refine up_ind (n + 1) (W := fun k J K => wp_r (d - 1) 222 (49, [.ref 1315, .int (zi t), .long goal, .retAddr 0, .int (zi i), .int lo, .int hi, .int (opz (fstB (gsP S V i lo.toInt t goal) k)), .int (zi k)], [], tw τ J K) (ti τ Q)) (P := fun k J K => ∃ O' M' W' ev', tst τ J K B S H (gsV S V i lo.toInt k) O' M' W' au ev' ∧ tby J K V O M W ev) (fun J K hP => ?_) (fun k J K hk hP ih => ?_)
    · obtain ⟨O', M', W', ev', g, b⟩ := hP
      refine k222_49 hτ (by omega) ?_
      rw [← elo, ← ehi, zi_sub, elo, ehi, zi_lt (by omega) (by omega) (by omega) (by omega)]
      exact ⟨fun _ => fin J K O' M' W' ev' (n + 1) (Nat.le_refl _) g b rfl, fun z => absurd (by omega) z⟩
    · obtain ⟨O', M', W', ev', g, b⟩ := hP
      refine k222_49 hτ (by omega) ?_
      rw [show (hi - lo) = zi (hi.toInt - lo.toInt) by rw [← zi_sub, ehi, elo], zi_lt (by omega) (by omega) (by omega) (by omega)]
      refine ⟨fun z => absurd z (by omega), fun _ => ?_⟩
      cases q : fstB (gsP S V i lo.toInt t goal) k with
      | some j =>
        have hj := fstB_lt _ _ q
        rw [show opz (some j) = zi j from rfl, zi_lt (by omega) (by omega) (by omega) (by omega)]
        have := fin J K O' M' W' ev' k (by omega) g b (by rw [fstB_mono q _ (by omega), q])
        rw [q] at this
        exact ⟨fun z => absurd z (by omega), fun _ => this⟩
      | none =>
        refine ⟨fun _ => ?_, fun z => absurd z (by decide)⟩
        rw [show lo + zi (k : Int) = zi (lo.toInt + k) by rw [← zi_add, elo]]
        refine t_tries hτ g hi2 ⟨by omega, by omega⟩ (by omega) fun ev2 I3 L3 f3 g3 => ⟨zn_in ht (by omega), ?_⟩
        have b3 := b.kept f3 fun a j z => TRW_by hi2 z
        have go := ih I3 L3 ⟨_, _, _, _, g3, b3⟩
        rw [fstB, q] at go
        simp only at go
        obtain ⟨v1, v2, v3⟩ := g3.v1 ht
        have v4 := vok_le v3
        rw [zn_ix (by omega), v1, v2, zi_eq (by omega) (by omega) (by omega) (by omega), zn_a k 1 1 rfl]
        have e1 : gsV S V i lo.toInt (k + 1) t = rcA (nmS S i) (up1 (gsV S V i lo.toInt k) i (1, zl (lo.toInt + k))) t := rfl
        refine ⟨fun w => ⟨fun w2 => ?_, fun w2 => ?_⟩, fun w => ?_⟩
        · rw [if_pos (by unfold gsP; rw [e1, decide_eq_true w2, decide_eq_true (by omega)]; rfl)] at go
          exact go
        · rw [if_neg (by unfold gsP; rw [e1, decide_eq_false w2, Bool.and_false]; simp)] at go
          exact go
        · rw [if_neg (by unfold gsP; rw [e1, decide_eq_false (p := (rcA (nmS S i) (up1 (gsV S V i lo.toInt k) i (1, zl (lo.toInt + k))) t).1 = 1) (by omega), Bool.false_and]; simp)] at go
          exact go
  exact loop 0 I1 L1 (by omega) ⟨O, M, W, ev, g1, b1⟩
noncomputable def impN (S : Sh) (V : Nat → Vl) (c : Nat) (v : Int) : Nat := cnt (fun x => othB (rcA S V) (rcA (nmS S c) (up1 (rcA S V) c (1, zl v))) x) 240
theorem t_impactOf (hτ : tw_ok τ) (h0 : tst τ I L B S H V O M W au ev) (x y : Int32) {Q : Int32 → tw_I → tw_L → Prop} (hd : 724 ≤ d) (h1 : ∀ c : Nat, c < 240 → x = zi c → ∀ I2 L2, tst τ I2 L2 B S H V O M W au ev → Q (zi (impN S V c y.toInt)) I2 L2) (h2 : (¬ ∃ a : Nat, a < 240 ∧ x = zi a) → Q (zi (-1)) I L) : wp_c d 224 [.ref 1315, .int x, .int y] (tw τ I L) (ti τ Q) := by
  have hy := zi_rng y
  have ey := zi_self y
  have hev := h0.2.2.2.2.2.2.2.2.2.2
  refine k224 hτ (by omega) (t_isCellX hτ x (by omega) (fun c hc ex => ⟨fun z => absurd z (by decide), fun _ => ?_⟩) (fun n => ⟨fun _ => h2 n, fun z => absurd rfl z⟩))
  subst ex
  have h1 := h1 c hc rfl
  refine t_putsBy hτ h0 (by omega) fun I1 L1 f1 b1 => t_rcl (all := true) hτ (h0.kept hτ (f1.wi BYW_XW)) (by omega) fun I2 L2 f2 g2 => ?_
  rw [rcA_eq] at g2
  have b2 := b1.kept f2 fun a i z => by unfold BYW at z; unfold RCW; omega
  generalize hU : rcA S V = U at *
  have cnts : ∀ J K O' M' W' ev', tst τ J K B S H (rcA (nmS S c) (up1 U c (1, zl y.toInt))) O' M' W' au ev' → tby J K V O M W ev → (∀ x, x < 240 → J 1342 x = zi (U x).1 ∧ K 1343 x = (U x).2 ∧ (U x).1 ≤ 2) → wp_r (d - 1) 224 (68, [.ref 1315, .int (zi c), .int y, .int (zi 0), .int (zi 0)], [], tw τ J K) (ti τ Q) := by
    intro J K O' M' W' ev' g b hn
    have loop : ∀ (x : Nat) J' K', x ≤ 240 → (J' = J ∧ K' = K) → wp_r (d - 1) 224 (68, [.ref 1315, .int (zi c), .int y, .int (zi (cnt (fun x => othB U (rcA (nmS S c) (up1 U c (1, zl y.toInt))) x) x)), .int (zi x)], [], tw τ J' K') (ti τ Q) := by
      refine up_ind 240 (W := fun x J' K' => wp_r (d - 1) 224 (68, [.ref 1315, .int (zi c), .int y, .int (zi (cnt (fun x => othB U (rcA (nmS S c) (up1 U c (1, zl y.toInt))) x) x)), .int (zi x)], [], tw τ J' K') (ti τ Q)) (P := fun x J' K' => J' = J ∧ K' = K) (fun J' K' hP => ?_) (fun x J' K' hx hP ih => ?_)
      · obtain ⟨rfl, rfl⟩ := hP
        refine k224_68 hτ (by omega) ⟨fun z => absurd z (by decide), fun _ => t_takesBack hτ g b hev (by omega) fun I3 L3 f3 g3 => ?_⟩
        have := h1 I3 L3 g3
        unfold impN at this
        rw [hU] at this
        exact this
      · obtain ⟨rfl, rfl⟩ := hP
        have go := ih _ _ ⟨rfl, rfl⟩
        rw [show cnt (fun x => othB U (rcA (nmS S c) (up1 U c (1, zl y.toInt))) x) (x + 1) = cnt (fun x => othB U (rcA (nmS S c) (up1 U c (1, zl y.toInt))) x) x + (if othB U (rcA (nmS S c) (up1 U c (1, zl y.toInt))) x = true then 1 else 0) from rfl] at go
        obtain ⟨v1, v2, v3⟩ := g.v1 hx
        have v4 := vok_le v3
        obtain ⟨n1, n2, n3⟩ := hn x hx
        refine k224_68 hτ (by omega) ?_
        rw [zi_lt (by omega) (by omega) (by omega) (by omega), zn_ix (by omega), v1, v2, n1, n2, zi_eq (by omega) (by omega) (by omega) (by omega), zn_a x 1 1 rfl, zn_a _ 1 1 rfl, zn_a _ 0 0 rfl]
        unfold othB at go
        generalize hR : rcA (nmS S c) (up1 U c (1, zl y.toInt)) = R at *
        refine ⟨fun _ => ⟨zn_in hx (by omega), fun w => ⟨fun w2 => ?_, fun w2 => ?_⟩, fun w => ?_⟩, fun z => absurd (by omega) z⟩
        · rw [if_neg (by rw [decide_eq_true w2, decide_eq_true (show (R x).1 = (U x).1 by omega)]; simp)] at go
          exact go
        · rw [if_pos (by rw [decide_eq_false w2, Bool.and_false]; rfl)] at go
          exact go
        · rw [if_pos (by rw [decide_eq_false (show ¬ (R x).1 = (U x).1 by omega), Bool.false_and]; rfl)] at go
          exact go
    exact loop 0 J K (by omega) ⟨rfl, rfl⟩
  have keep : ∀ (x : Nat) J K, x ≤ 240 → (twf (fun a i => a = 1342 ∨ a = 1343) I2 L2 J K ∧ ∀ e, e < x → J 1342 e = zi (U e).1 ∧ K 1343 e = (U e).2 ∧ (U e).1 ≤ 2) → ∀ x4, wp_r (d - 1) 224 (20, [.ref 1315, .int (zi c), .int y, .int (zi x), x4], [], tw τ J K) (ti τ Q) := by
    refine up_ind 240 (W := fun x J K => ∀ x4, wp_r (d - 1) 224 (20, [.ref 1315, .int (zi c), .int y, .int (zi x), x4], [], tw τ J K) (ti τ Q)) (P := fun x J K => twf (fun a i => a = 1342 ∨ a = 1343) I2 L2 J K ∧ ∀ e, e < x → J 1342 e = zi (U e).1 ∧ K 1343 e = (U e).2 ∧ (U e).1 ≤ 2) (fun J K hP x4 => ?_) (fun x J K hx hP ih x4 => ?_)
    · obtain ⟨f, p⟩ := hP
      have g := g2.kept hτ (f.wi fun a i z => by unfold XW; omega)
      have b := b2.kept f fun a i z => by unfold BYW at z; omega
      refine k224_20 hτ (by omega) ⟨fun z => absurd z (by decide), fun _ => ?_⟩
      rw [← ey]
      refine t_tries hτ g hc hy (by omega) fun ev2 I3 L3 f3 g3 => ?_
      rw [ey]
      refine cnts I3 L3 _ _ _ _ g3 (b.kept f3 fun a i z => TRW_by hc z) fun e he => ?_
      rw [(f3 1342 e (by unfold TRW RCW CW; omega)).1, (f3 1343 e (by unfold TRW RCW CW; omega)).2]
      exact p e he
    · obtain ⟨f, p⟩ := hP
      have g := g2.kept hτ (f.wi fun a i z => by unfold XW; omega)
      obtain ⟨v1, v2, v3⟩ := g.v1 hx
      refine k224_20 hτ (by omega) ?_
      rw [zi_lt (by omega) (by omega) (by omega) (by omega), zn_ix (by omega), zn_a x 1 1 rfl]
      refine ⟨fun _ => ⟨zn_in hx (by omega), ?_⟩, fun z => absurd (by omega) z⟩
      rintro I4 rfl L4 rfl
      refine ih _ _ ⟨(f.pI (.inl rfl) _).pL (.inr rfl) _, fun e he => ?_⟩ x4
      by_cases ee : e = x
      · subst ee
        rw [u2_same, u2_same]
        exact ⟨v1, v2, vok_le v3⟩
      · rw [u2_nj _ _ _ _ _ (by omega), u2_nj _ _ _ _ _ (by omega)]
        exact p e (by omega)
  exact keep 0 I2 L2 (by omega) ⟨twf.rf, fun e he => absurd he (by omega)⟩ _
end
