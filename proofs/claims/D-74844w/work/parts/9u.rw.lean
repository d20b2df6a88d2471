/-! ENGINE: formulas made of formulas -/
/-- the elements make up the row of arguments -/
theorem nd_spine {G : Nat → Prop} {σ : cm_S} {b : Nat} (hb : G b) : ∀ (r : Fm), isL r → ∀ i, (∀ (j : Nat) (a : Fm), (ags r)[j]? = some a → nd G σ a (cm_R σ b (i + j)) 0) → nd G σ r b i := by
  intro r
  induction r with
  | div a r iha ihr =>
    intro hL i h
    refine ⟨hb, h 0 a rfl, ihr hL (i + 1) fun j t hj => ?_⟩
    rw [show i + 1 + j = i + (j + 1) from (by omega)]
    exact h (j + 1) t hj
  | result => exact fun _ i h => hb
  | _ => exact fun hL => hL.elim
theorem wt_ags : ∀ (r : Fm), isL r → ags r ≠ [] → wt r + 1 = ((ags r).map fun t => wt t + 1).sum := by
  intro r
  induction r with
  | div a r iha ihr =>
    intro hL _
    have hL : isL r := hL
    show wt (.div a r) + 1 = (wt a + 1) + ((ags r).map fun t => wt t + 1).sum
    rcases isL_div hL with z | ⟨x, y, z⟩
    · subst z; rfl
    · have := ihr hL (by rw [z]; exact List.cons_ne_nil _ _)
      have e : wt (.div a r) = wt a + wt r + 1 := by rw [z]; rfl
      omega
  | result => exact fun _ h => absurd rfl h
  | _ => exact fun hL => hL.elim
/-- room of a list of arguments, and what its growth took -/
def capF (j : Nat) : Nat := if j ≤ 3 then 3 else if j ≤ 4 then 4 else if j ≤ 6 then 6 else 9
def grF (j : Nat) : Nat := if j ≤ 3 then 0 else if j ≤ 4 then 2 else if j ≤ 6 then 4 else 6
/-- one more element, with growth where it is needed -/
theorem l_addC {σ : cm_S} {l b : Nat} {xs : List Nat} {d : Nat} {Q : cm_O → Prop} (h0 : ls σ l b (capF xs.length) xs) {x : Nat} (hx : 0 < cm_tg σ x ∧ cm_tg σ x < 32) (hxn : x < cm_nx σ) (hl : l < cm_nx σ) (hb : b < cm_nx σ) (h8 : xs.length < 8) (hel : ∀ y, y ∈ xs → 0 < cm_tg σ y ∧ cm_tg σ y < 32 ∧ y < cm_nx σ) (hd : 8 ≤ d)
    (h : ∀ σ2 b2, ls σ2 l b2 (capF (xs.length + 1)) (xs ++ [x]) → (b2 = b ∨ (b2 = cm_nx σ ∧ cm_nx σ < cm_nx σ2)) → fr (fun y => y = l) (fun y => y = l ∨ y = b) (grF (xs.length + 1) - grF xs.length) σ σ2 → Q (false, .int (zi 1), σ2)) : wp_c d 457 [.ref l, .ref x] σ Q := by
  have cases9 : xs.length < capF xs.length ∧ capF (xs.length + 1) = capF xs.length ∧ grF (xs.length + 1) - grF xs.length = 0 ∨ xs.length = capF xs.length ∧ capF (xs.length + 1) = capF xs.length + max 1 (capF xs.length / 2) ∧ grF (xs.length + 1) - grF xs.length = 2 ∧ 0 < capF xs.length ∧ capF xs.length ≤ 12 := by
    generalize xs.length = n at h8
    have : ∀ n, n < 8 → (n < capF n ∧ capF (n + 1) = capF n ∧ grF (n + 1) - grF n = 0 ∨ n = capF n ∧ capF (n + 1) = capF n + max 1 (capF n / 2) ∧ grF (n + 1) - grF n = 2 ∧ 0 < capF n ∧ capF n ≤ 12) := by decide
    exact this n h8
  rcases cases9 with ⟨c1, c2, c3⟩ | ⟨c1, c2, c3, c4, c5⟩
  · refine l_add1 h0 hx c1 (by omega) fun σ2 g f => h σ2 b (by rw [c2]; exact g) (Or.inl rfl) ?_
    rw [c3]
    exact fr_mono f (fun _ _ z => z) (fun _ _ z => Or.inr z) (Nat.le_refl _)
  · refine l_addG h0 hx hxn hl hb c1 c4 c5 hel hd fun σ2 g hn f => h σ2 (cm_nx σ) (by rw [c2]; exact g) (Or.inr ⟨rfl, (by omega)⟩) ?_
    rw [c3]
    exact fr_mono f (fun _ _ z => z) (fun _ _ z => Or.inl z) (Nat.le_refl _)
/-- a new list with some room -/
theorem l_new {σ : cm_S} {k d : Nat} {Q : cm_O → Prop} (hk : 1 ≤ k) (hk9 : k ≤ 12) (hn : 322 ≤ cm_nx σ) (hd : 4 ≤ d) (h : ∀ σ2, ls σ2 (cm_nx σ) (cm_nx σ + 1) k [] → cm_nx σ2 = cm_nx σ + 2 → (∀ X Y, fr X Y 2 σ σ2) → Q (false, .int 0, σ2)) : wp_c d 466 [.ref (cm_nx σ), .int (zi (k : Int))] (cm_al σ 25 3) Q := by
  have t0 : cm_tg (cm_al σ 25 3) (cm_nx σ) = 25 := u1_at _ _ _
  refine k466 (by omega) ⟨⟨by rw [t0]; decide, by rw [t0]; decide⟩, k456 (by omega) ⟨⟨by rw [t0]; decide, by rw [t0]; decide⟩, k455 (by omega) ⟨by rw [t0]; decide, rfl, t0, hn, ?_⟩⟩⟩
  rintro _ rfl
  refine ⟨rfl, fun _ => ⟨⟨by rw [zi_toInt (by omega) (by omega)]; omega, by rw [zi_toInt (by omega) (by omega)]; omega⟩, ?_⟩, fun z => ?_⟩
  · rintro _ rfl
    rw [zn_ix (show k < 2147483648 from (by omega))]
    have hne : cm_nx σ ≠ cm_nx σ + 1 := (by omega)
    have e1 : cm_tg (cm_al (cm_pI (cm_al σ 25 3) (cm_nx σ) 0 (zi 0)) 105 k) (cm_nx σ) = 25 := (u1_ne _ _ hne).trans t0
    refine ⟨e1, hn, ?_⟩
    rintro _ rfl
    refine h _ ⟨⟨e1, u2_same _ _ _ _, u1_at _ _ _, u1_at _ _ _, hn, show 322 ≤ cm_nx σ + 1 from (by omega), (by omega)⟩, ?_, Nat.zero_le _, fun i x hx => (by cases hx), fun i _ => ?_⟩ rfl (fun X Y => ?_)
    · show cm_u1 (cm_u2 (cm_I (cm_al σ 25 3)) (cm_nx σ) 0 (zi 0)) (cm_nx σ + 1) (fun _ => 0) (cm_nx σ) 2 = _
      rw [u1_ne _ _ hne, u2_nj _ _ _ _ _ (by decide)]
      exact congrFun (u1_at _ _ _) 2
    · show cm_u2 (cm_u1 (cm_R (cm_al σ 25 3)) (cm_nx σ + 1) (fun _ => 0)) (cm_nx σ) 1 (cm_nx σ + 1) (cm_nx σ + 1) i = 0
      rw [u2_ne _ _ _ _ (Ne.symm hne)]
      exact congrFun (u1_at _ _ _) i
    · have a1 : fr X Y 1 σ (cm_al σ 25 3) := fr_al (by omega) (by omega)
      have a2 : fr (fun x => x = cm_nx σ) no_ 0 (cm_al σ 25 3) (cm_pI (cm_al σ 25 3) (cm_nx σ) 0 (zi 0)) := fr_pI (Or.inl rfl)
      have a3 : fr no_ no_ 1 (cm_pI (cm_al σ 25 3) (cm_nx σ) 0 (zi 0)) (cm_al (cm_pI (cm_al σ 25 3) (cm_nx σ) 0 (zi 0)) 105 k) := fr_al (by omega) (by omega)
      have a4 : fr no_ (fun x => x = cm_nx σ) 0 (cm_al (cm_pI (cm_al σ 25 3) (cm_nx σ) 0 (zi 0)) 105 k) (cm_pR (cm_al (cm_pI (cm_al σ 25 3) (cm_nx σ) 0 (zi 0)) 105 k) (cm_nx σ) 1 (cm_nx σ + 1)) := fr_pR (Or.inl rfl)
      have b1 := fr_tr a1 a2 (fun y hy z => absurd z (Nat.ne_of_lt hy)) (fun _ _ z => z.elim)
      have b2 := fr_tr b1 a3 (fun _ _ z => z.elim) (fun _ _ z => z.elim)
      exact fr_tr b2 a4 (fun _ _ z => z.elim) (fun y hy z => absurd z (Nat.ne_of_lt hy))
  · rw [show (0 : Int) = ((0 : Nat) : Int) from rfl, zi_lt (by omega) (by omega) (by omega) (by omega)] at z; omega
section
variable {G : Nat → Prop} {v : Nat} {vs : cm_S → Nat → Prop} {m1 : Nat → Fm} {m2 : Nat → Nat → Fm} {m3 : Nat → Fm} {cf : Fm → Nat}
/-- a formula's turn with a rewriter at v; vs: what its fields hold, with a count -/
def rwP (G : Nat → Prop) (v : Nat) (vs : cm_S → Nat → Prop) (m1 : Nat → Fm) (m2 : Nat → Nat → Fm) (m3 : Nat → Fm) (cf : Fm → Nat) (t : Fm) : Prop := ∀ (a d : Nat) (σ : cm_S) (Q : cm_O → Prop) (k : Nat), nd G σ t a 0 → eB G σ → vs σ k → ¬ G v → 1346 ≤ v → v < cm_nx σ → 6 * hh t + 30 ≤ d →
  (∀ σ2 b, fr (fun x => x = v) no_ (wt t) σ σ2 → vs σ2 (k + cf t) → nd (gx G σ σ2) σ2 (mp m1 m2 m3 t) b 0 → Q (false, .ref b, σ2)) → acc d v a σ Q
def rwR (G : Nat → Prop) (v : Nat) (vs : cm_S → Nat → Prop) (m1 : Nat → Fm) (m2 : Nat → Nat → Fm) (m3 : Nat → Fm) (cf : Fm → Nat) (t : Fm) : Prop := ∀ a ∈ ags t, rwP G v vs m1 m2 m3 cf a ∧ hh a ≤ hh t
/-- the fields stay where the visitor isn't written -/
def vsk (G : Nat → Prop) (v : Nat) (vs : cm_S → Nat → Prop) : Prop := ∀ (σ σ2 : cm_S) (k n : Nat) (X Y : Nat → Prop), vs σ k → v < cm_nx σ → fr X Y n σ σ2 → ¬ X v → ¬ Y v → gk G σ → (∀ a, G a → ¬ X a ∧ ¬ Y a) → vs σ2 k
/-- counts add up -/
def cfk (cf : Fm → Nat) : Prop := (∀ o l r, cf (.op2 o l r) = cf l + cf r) ∧ (∀ o a, cf (.op1 o a) = cf a) ∧ (∀ a, cf (.old a) = cf a) ∧ (∀ f as, isL as → cf (.mul (.arg f) as) = ((ags as).map cf).sum) ∧ (∀ n, cf (.arg n) = 0) ∧ cf .null = 0
/-- what a visitor answers with: the ways from accept to the shared methods -/
def vways (tv : Nat) : Prop := ∀ (d v a : Nat) (σ : cm_S) (Q : cm_O → Prop), cm_tg σ v = tv → 5 ≤ d →
  (cm_tg σ a = 11 → wp_c (d - 1 - 1) 422 [.ref v, .ref a] σ (qr fun r1 σ1 => Q (false, .ref r1, σ1)) → acc d v a σ Q) ∧
  (cm_tg σ a = 14 → wp_c (d - 1 - 1) 417 [.ref v, .ref a] σ (qr fun r1 σ1 => Q (false, .ref r1, σ1)) → acc d v a σ Q) ∧
  (cm_tg σ a = 19 → wp_c (d - 1 - 1) 415 [.ref v, .ref a] σ (qr fun r1 σ1 => Q (false, .ref r1, σ1)) → acc d v a σ Q) ∧
  (cm_tg σ a = 18 → wp_c (d - 1 - 1) 426 [.ref v, .ref a] σ (qr fun r1 σ1 => Q (false, .ref r1, σ1)) → acc d v a σ Q) ∧
  (cm_tg σ a = 12 → wp_c (d - 1 - 1) 428 [.ref v, .ref a] σ (qr fun r1 σ1 => Q (false, .ref r1, σ1)) → acc d v a σ Q) ∧
  (cm_tg σ a = 17 → wp_c (d - 1 - 1) 419 [.ref v, .ref a] σ (qr fun r1 σ1 => Q (false, .ref r1, σ1)) → acc d v a σ Q)
theorem vw_21 : vways 21 := fun d v a σ Q hv hd => ⟨fun t h => rc_lit hv t (by omega) h, fun t h => rc_bro hv t (by omega) h, fun t h => rc_bin hv t (by omega) h, fun t h => rc_neg hv t (by omega) h, fun t h => rc_par hv t (by omega) h, fun t h => rc_cal hv t (by omega) h⟩
theorem vw_22 : vways 22 := fun d v a σ Q hv hd => ⟨fun t h => sh_lit hv t (by omega) h, fun t h => sh_bro hv t (by omega) h, fun t h => sh_bin hv t (by omega) h, fun t h => sh_neg hv t (by omega) h, fun t h => sh_par hv t (by omega) h, fun t h => sh_cal hv t (by omega) h⟩
theorem vw_24 : vways 24 := fun d v a σ Q hv hd => ⟨fun t h => rn_lit hv t (by omega) h, fun t h => rn_bro hv t (by omega) h, fun t h => rn_bin hv t (by omega) h, fun t h => rn_neg hv t (by omega) h, fun t h => rn_par hv t (by omega) h, fun t h => rn_cal hv t (by omega) h⟩
theorem gx_sub {σ σ1 σ2 σ3 : cm_S} (h1 : cm_nx σ ≤ cm_nx σ1) (h2 : cm_nx σ2 ≤ cm_nx σ3) (a : Nat) (h : gx G σ1 σ2 a) : gx G σ σ3 a := h.elim Or.inl (fun z => Or.inr ⟨Nat.le_trans h1 z.1, Nat.lt_of_lt_of_le z.2 h2⟩)
theorem gx_l {σ σ2 : cm_S} (a : Nat) (h : G a) : gx G σ σ2 a := Or.inl h
end
