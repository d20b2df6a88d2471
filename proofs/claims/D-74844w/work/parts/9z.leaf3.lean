/-! ENGINE: row change and renamer as rewriters -/
section
variable {G : Nat → Prop} {σ : cm_S} {v d : Nat} {Q : cm_O → Prop}
theorem e_lose {ins : Bool} {b k : Nat} (hv : rcS v ins b σ k) (v46 : 1346 ≤ v) (vn : v < cm_nx σ) (hd : 6 ≤ d) (h : ∀ σ2, fr (fun x => x = v) no_ 1 σ σ2 → cm_nx σ2 = cm_nx σ + 1 → rcS v ins b σ2 (k + 1) → cm_tg σ2 (cm_nx σ) = 14 → Q (false, .ref (cm_nx σ), σ2)) : wp_c d 441 [.ref v] σ Q := by
  obtain ⟨t0, i0, i1, i2, hb⟩ := hv
  refine k441 (by omega) ⟨t0, show 322 ≤ v from (by omega), ?_⟩
  rintro _ rfl
  rintro _ rfl
  refine n_bro (σ := cm_pI σ v 2 (cm_I σ v 2 + zi 1)) (show 322 ≤ cm_nx σ from (by omega)) (by omega) fun σ2 f2 n2 t2 => ⟨rfl, h σ2 (fr_tr (n := 0) (m := 1) (fr_pI (Or.inl rfl)) (f2 _ _) (fun _ _ z => z) (fun _ _ z => z)) n2 ?_ t2⟩
  have e := (f2 no_ no_).I (a := v) vn (fun z => z)
  refine ⟨((f2 no_ no_).tg (a := v) vn).trans t0, by rw [e, pI_nj _ _ _ _ (by decide)]; exact i0, by rw [e, pI_nj _ _ _ _ (by decide)]; exact i1, ?_, hb⟩
  rw [e, pI_at, i2, zn_a k 1 1 rfl]
theorem rc_index {ins : Bool} {b w : Nat} (hw : w < 960) : rwP G v (rcS v ins b) (frR ins b) (fgR ins b) fnI (lsC ins b) (.index w) := by
  intro a d σ Q k h0 hE hv gv v46 vn hd h
  have h0 : nref G σ a w := h0
  obtain ⟨⟨t0, g0⟩, j0, j1, j2, j3⟩ := id h0
  obtain ⟨u0, u1, u2, u3, hb⟩ := id hv
  have hn := hE.1.1
  have ha := (hE.2.2.1 _ g0).1
  have em : mp (frR ins b) (fgR ins b) fnI (.index w) = frR ins b w := rfl
  have ec : lsC ins b (.index w) = if shR ins b w = none then 1 else 0 := rfl
  rw [em, ec] at h
  unfold frR at h
  have hr20 := rwo_lt w
  have er : rwo w = w % 240 / 12 := rfl
  rw [← er] at j1
  have lose : shR ins b w = none → ∀ d, 6 ≤ d → wp_c d 441 [.ref v] σ (qr fun r1 σ1 => qr (fun r1 σ1 => Q (false, .ref r1, σ1)) (false, .ref r1, σ1)) := fun q d hd => by
    rw [q, if_pos rfl] at h
    exact e_lose hv v46 vn hd fun σ2 f2 n2 v2 t2 => ⟨_, _, rfl, _, _, rfl, h σ2 _ (f2.le_ (by show 1 ≤ 2; omega)) v2 ⟨t2, Or.inr ⟨Nat.le_refl _, (by omega)⟩⟩⟩
  have make : ∀ r2 : Nat, r2 < 20 → shR ins b w = some (12 * r2 + w % 240 % 12 + 240 * (w / 240)) → wp_r (d - 1 - 1 - 1) 444 (58, [.ref v, .ref a, .null], [.int (zi (r2 : Int))], σ) (qr fun r1 σ1 => Q (false, .ref r1, σ1)) := fun r2 h20 q => by
    rw [q, if_neg (by simp)] at h
    refine k444_58 (by omega) ⟨fun _ => ⟨t0, n_at t0 ha j2 j3 (by omega) (by omega) fun σ2 f2 n2 t2 i0 i1 i2 i3 => ⟨_, _, rfl, _, _, rfl, h σ2 _ ((f2 _ _).le_ (by show 1 ≤ 2; omega)) (rcS_k (G := G) ins b _ _ _ _ _ _ hv vn (f2 no_ no_) (fun z => z) (fun z => z) hE.2.2 (fun _ _ => ⟨fun z => z, fun z => z⟩)) ?_⟩⟩, fun z => ?_⟩
    · show nref _ _ _ _
      exact rfX_nref ⟨t2, i0.trans j0, i1, i2, i3⟩ (by omega) h20 (Or.inr ⟨Nat.le_refl _, (by omega)⟩)
    · rw [zi_lt (by omega) (by omega) (by omega) (by omega)] at z; omega
  have none20 : shR ins b w = none → wp_r (d - 1 - 1 - 1) 444 (58, [.ref v, .ref a, .null], [.int (zi (20 : Int))], σ) (qr fun r1 σ1 => Q (false, .ref r1, σ1)) := fun q =>
    k444_58 (by omega) ⟨fun z => absurd z (by decide), fun _ => ⟨u0, lose q _ (by omega)⟩⟩
  have go23 : (ins = false → rwo w ≠ b) → wp_r (d - 1 - 1 - 1) 444 (23, [.ref v, .ref a, .null], [], σ) (qr fun r1 σ1 => Q (false, .ref r1, σ1)) := fun hne => by
    refine k444_23 (by omega) ⟨t0, u0, ?_⟩
    rw [j1, u1, u2]
    refine ⟨fun z => ?_, fun z => ⟨fun y => ?_, fun y => ?_⟩⟩
    · rw [zi_lt (by omega) (by omega) (by omega) (by omega)] at z
      refine make (rwo w) hr20 ?_
      unfold shR
      rw [if_pos (by omega)]
      congr 1
      omega
    · rw [zi_lt (by omega) (by omega) (by omega) (by omega)] at z
      rw [bz_0] at y
      subst y
      have := hne rfl
      rw [zi_add, show ((rwo w : Nat) : Int) + -1 = ((rwo w - 1 : Nat) : Int) from (by omega)]
      refine make (rwo w - 1) (by omega) ?_
      unfold shR
      rw [if_neg (by omega), if_neg (by decide), if_pos (by omega)]
      congr 1
      omega
    · rw [zi_lt (by omega) (by omega) (by omega) (by omega)] at z
      rw [bz_0, Bool.not_eq_false] at y
      subst y
      by_cases c : rwo w + 1 < 20
      · rw [zn_a (rwo w) 1 1 rfl]
        refine make (rwo w + 1) c ?_
        unfold shR
        rw [if_neg (by omega), if_pos rfl, if_pos c]
        congr 1
        omega
      · rw [zi_add, show ((rwo w : Nat) : Int) + 1 = 20 from (by omega)]
        refine none20 ?_
        unfold shR
        rw [if_neg (by omega), if_pos rfl, if_neg c]
  refine rc_ref u0 t0 (by omega) (k444 (by omega) ⟨u0, ?_⟩)
  rw [u2, j1, u1]
  refine ⟨fun z => ⟨t0, fun y => lose ?_ _ (by omega), fun y => go23 fun _ => ?_⟩, fun z => go23 fun e => ?_⟩
  · rw [bz_0] at z
    subst z
    rw [zn_eq (by omega) (by omega)] at y
    unfold shR
    rw [if_neg (by omega), if_neg (by decide), if_neg (by omega)]
  · rw [zn_eq (by omega) (by omega)] at y
    exact y
  · rw [bz_0] at z
    exact absurd e z
theorem nref_fr {σ2 : cm_S} {X Y : Nat → Prop} {n a u : Nat} (h : nref G σ a u) (hg : gk G σ) (hf : fr X Y n σ σ2) (hx : ∀ a, G a → ¬ X a ∧ ¬ Y a) : nref G σ2 a u := nref_sm (fun x hx2 => ⟨hx2, fr_sm hf (hg.1 x hx2).1 (hx x hx2).1 (hx x hx2).2⟩) h
theorem rc_elem {ins : Bool} {b u w : Nat} (hu : u < 960) (hw : w < 960) : rwP G v (rcS v ins b) (frR ins b) (fgR ins b) fnI (lsC ins b) (.elem (.index u) (.index w)) := by
  intro a d σ Q k h0 hE hv gv v46 vn hd h
  obtain ⟨⟨t0, g0⟩, h1, h2⟩ := h0
  have hn := hE.1.1
  have ha := (hE.2.2.1 _ g0).1
  have em : mp (frR ins b) (fgR ins b) fnI (.elem (.index u) (.index w)) = fgR ins b u w := rfl
  have ec : lsC ins b (.elem (.index u) (.index w)) = if rng ins b (min (rwo u) (rwo w)) (max (rwo u) (rwo w)) = none then 1 else 0 := rfl
  rw [em, ec] at h
  unfold fgR at h
  have ru := rwo_lt u
  have rw9 := rwo_lt w
  have j1 : cm_I σ (cm_R σ a 0) 1 = zi (rwo u : Int) := h1.2.2.1
  have j2 : cm_I σ (cm_R σ a 1) 1 = zi (rwo w : Int) := h2.2.2.1
  have gG : ∀ x, G x → ¬ (fun x => x = v) x ∧ ¬ no_ x := fun x hx => ⟨fun z => gv (z ▸ hx), fun z => z⟩
  have gN : ∀ x, G x → ¬ no_ x ∧ ¬ no_ x := fun _ _ => ⟨fun z => z, fun z => z⟩
  have at_ : ∀ (p r2 : Nat), p < 960 → r2 < 20 → 12 * r2 + p % 240 % 12 + 240 * (p / 240) = atR p r2 := fun p r2 hp hr => by unfold atR rwo; omega
  -- upper at x3 (number p), lower at s0 (number q)
  have go54 : ∀ (s x3 s0 p q : Nat) (b2 : Bool), nref G σ x3 p → nref G σ s0 q → p < 960 → q < 960 → rwo p = min (rwo u) (rwo w) → rwo q = max (rwo u) (rwo w) → (b2 = decide (rwo u ≤ rwo w)) → (b2 = true → p = u ∧ q = w) → (b2 = false → p = w ∧ q = u) →
      wp_r (d - 1 - 1 - 1) 442 (54, [.ref v, .ref a, .int (bz b2), .ref x3, .null], [.ref s0], σ) (qr fun r1 σ1 => Q (false, .ref r1, σ1)) := fun s x3 s0 p q b2 hp hq p9 q9 rp rq eb bt bf => by
    have k1 : cm_I σ x3 1 = zi (rwo p : Int) := hp.2.2.1
    have k2 : cm_I σ s0 1 = zi (rwo q : Int) := hq.2.2.1
    have x3n := (hE.2.2.1 _ hp.1.2).1
    have s0n := (hE.2.2.1 _ hq.1.2).1
    refine k442_54 (by omega) ⟨hp.1.1, hq.1.1, hv.1, ?_⟩
    rw [k1, k2]
    refine e_changes hv (by omega) (by omega) (by omega) (by omega) (fun rn σ2 f2 v2 => ⟨_, _, rfl, fun _ => ⟨v2.1, ?_⟩, fun z => absurd rfl z⟩) (fun lo up rn hlu hup σ2 f2 v2 i3 i4 => ⟨_, _, rfl, fun z => absurd z (by decide), fun _ => ?_⟩)
    · rw [rp, rq] at rn
      rw [rn, if_pos rfl] at h
      refine e_lose v2 v46 (Nat.lt_of_lt_of_le vn f2.1) (by omega) fun σ3 f3 n3 v3 t3 => ⟨_, _, rfl, _, _, rfl, h σ3 _ ((f2.tr_ f3).le_ (by show 0 + 1 ≤ 5; omega)) v3 ⟨t3, Or.inr ⟨f2.1, (by omega)⟩⟩⟩
    · rw [rp, rq] at rn
      rw [rn, if_neg (by simp)] at h
      have n2 := f2.1
      have hE2 := eB_fr0 hE f2 (fun x z => by have : x = v := z; omega)
      have hp2 := nref_fr hp hE.2.2 f2 gG
      have hq2 := nref_fr hq hE.2.2 f2 gG
      refine ⟨hp2.1.1, v2.1, ?_⟩
      rw [i3]
      refine n_at hp2.1.1 (Nat.lt_of_lt_of_le x3n n2) hp2.2.2.2.1 hp2.2.2.2.2 (by omega) (by omega) fun σ3 f3 n3 t3 c0 c1 c2 c3 => ⟨_, _, rfl, ?_⟩
      have f3' := f3 no_ no_
      have hq3 := nref_fr hq2 hE2.2.2 f3' gN
      have v3 := rcS_k (G := G) ins b _ _ _ _ _ _ v2 (Nat.lt_of_lt_of_le vn n2) f3' (fun z => z) (fun z => z) hE2.2.2 gN
      have e4 : cm_I σ3 v 4 = zi (up : Int) := by rw [f3'.I (Nat.lt_of_lt_of_le vn n2) (fun z => z)]; exact i4
      refine ⟨hq3.1.1, v3.1, ?_⟩
      rw [e4]
      refine n_at hq3.1.1 (by omega) hq3.2.2.2.1 hq3.2.2.2.2 (by omega) (by omega) fun σ4 f4 n4 t4 e0 e1 e2 e3 => ⟨_, _, rfl, ?_⟩
      have f4' := f4 no_ no_
      have F4 : fr (fun x => x = v) no_ 2 σ σ4 := ((f2.tr_ (f3 _ _)).tr_ (f4 _ _)).le_ (by omega)
      have X3 : rfX σ3 (cm_nx σ2) ((p % 240 % 12 : Nat) : Int) (lo : Int) (p / 240) := ⟨t3, c0.trans hp2.2.1, c1, c2, c3⟩
      have X4 : rfX σ4 (cm_nx σ3) ((q % 240 % 12 : Nat) : Int) (up : Int) (q / 240) := ⟨t4, e0.trans hq3.2.1, e1, e2, e3⟩
      have X34 := rfX_fr X3 f4' (by omega) (fun z => z)
      have v4 := rcS_k (G := G) ins b _ _ _ _ _ _ v3 (by omega) f4' (fun z => z) (fun z => z) (gk_nx hE2.2.2 f3'.1) gN
      refine ⟨fun z => ?_, fun z => ?_⟩
      · rw [bz_0] at z
        obtain ⟨e5, e6⟩ := bf z
        rw [z] at eb
        have c9 : ¬ rwo u ≤ rwo w := of_decide_eq_false eb.symm
        have h : ∀ σ2 b9, fr (fun x => x = v) no_ 5 σ σ2 → rcS v ins b σ2 (k + 0) → nd (gx G σ σ2) σ2 (.elem (.index (atR u up)) (.index (atR w lo))) b9 0 → Q (false, .ref b9, σ2) := fun σ2 b9 g1 g2 g3 => h σ2 b9 g1 g2 (by show nd _ _ (if rwo u ≤ rwo w then _ else _) _ _; rw [if_neg c9]; exact g3)
        rintro _ rfl
        refine n_rng (by omega) (by omega) fun σ5 f5 n5 t5 q0 q1 => ⟨rfl, _, _, rfl, h σ5 _ ((F4.tr_ (f5 _ _)).le_ (by omega)) (rcS_k (G := G) ins b _ _ _ _ _ _ v4 (by omega) (f5 no_ no_) (fun z => z) (fun z => z) (gk_nx hE.2.2 F4.1) gN) ⟨⟨t5, Or.inr ⟨(by omega), (by omega)⟩⟩, ?_, ?_⟩⟩
        · rw [q0, ← e6, ← at_ q up q9 hup]
          exact rfX_nref (rfX_fr X4 (f5 no_ no_) (by omega) (fun z => z)) (by omega) hup (Or.inr ⟨(by omega), (by omega)⟩)
        · rw [q1, ← e5, ← at_ p lo p9 (by omega)]
          exact rfX_nref (rfX_fr X34 (f5 no_ no_) (by omega) (fun z => z)) (by omega) (by omega) (Or.inr ⟨(by omega), (by omega)⟩)
      · rw [bz_0, Bool.not_eq_false] at z
        obtain ⟨e5, e6⟩ := bt z
        rw [z] at eb
        have c9 : rwo u ≤ rwo w := of_decide_eq_true eb.symm
        have h : ∀ σ2 b9, fr (fun x => x = v) no_ 5 σ σ2 → rcS v ins b σ2 (k + 0) → nd (gx G σ σ2) σ2 (.elem (.index (atR u lo)) (.index (atR w up))) b9 0 → Q (false, .ref b9, σ2) := fun σ2 b9 g1 g2 g3 => h σ2 b9 g1 g2 (by show nd _ _ (if rwo u ≤ rwo w then _ else _) _ _; rw [if_pos c9]; exact g3)
        rintro _ rfl
        refine n_rng (by omega) (by omega) fun σ5 f5 n5 t5 q0 q1 => ⟨rfl, _, _, rfl, h σ5 _ ((F4.tr_ (f5 _ _)).le_ (by omega)) (rcS_k (G := G) ins b _ _ _ _ _ _ v4 (by omega) (f5 no_ no_) (fun z => z) (fun z => z) (gk_nx hE.2.2 F4.1) gN) ⟨⟨t5, Or.inr ⟨(by omega), (by omega)⟩⟩, ?_, ?_⟩⟩
        · rw [q0, ← e5, ← at_ p lo p9 (by omega)]
          exact rfX_nref (rfX_fr X34 (f5 no_ no_) (by omega) (fun z => z)) (by omega) (by omega) (Or.inr ⟨(by omega), (by omega)⟩)
        · rw [q1, ← e6, ← at_ q up q9 hup]
          exact rfX_nref (rfX_fr X4 (f5 no_ no_) (by omega) (fun z => z)) (by omega) hup (Or.inr ⟨(by omega), (by omega)⟩)
  refine rc_rng hv.1 t0 (by omega) (k442 (by omega) ⟨t0, h1.1.1, h2.1.1, ?_⟩)
  rw [j1, j2]
  refine ⟨fun z => k442_22 (by omega) ⟨fun _ => ⟨t0, ?_⟩, fun y => absurd rfl y⟩, fun z => k442_22 (by omega) ⟨fun y => absurd y (by decide), fun _ => ⟨t0, ?_⟩⟩⟩
  · rw [zi_lt (by omega) (by omega) (by omega) (by omega)] at z
    exact go54 0 _ _ w u false h2 h1 hw hu (by omega) (by omega) (decide_eq_false (by omega)).symm (fun q => by cases q) (fun _ => ⟨rfl, rfl⟩)
  · rw [zi_lt (by omega) (by omega) (by omega) (by omega)] at z
    exact go54 0 _ _ u w true h1 h2 hu hw (by omega) (by omega) (decide_eq_true (by omega)).symm (fun _ => ⟨rfl, rfl⟩) (fun q => by cases q)
theorem lsC_sum (ins : Bool) (b : Nat) : ∀ (as : Fm), isL as → lsC ins b as = ((ags as).map (lsC ins b)).sum := by
  intro as
  induction as with
  | div a r iha ihr =>
    intro hL
    show lsC ins b a + lsC ins b r = lsC ins b a + ((ags r).map (lsC ins b)).sum
    rw [ihr hL]
  | result => exact fun _ => rfl
  | _ => exact fun hL => hL.elim
theorem rc_acc {ins : Bool} {b : Nat} (hb : b < 20) {t : Fm} (hw : wf t) (hn : nn t) : rwP G v (rcS v ins b) (frR ins b) (fgR ins b) fnI (lsC ins b) t := by
  refine rw_all (mokR hb) (rcS_k ins b) ⟨fun _ _ _ => rfl, fun _ _ => rfl, fun _ => rfl, fun f as hL => lsC_sum ins b as hL, fun _ => rfl, rfl⟩ vw_21 (fun σ k h => h.1) (fun w h => rc_index h) (fun c hc9 a d σ Q k h0 hE hv gv v46 vn hd h => ?_) (fun u w a b => rc_elem a b) hw hn
  exact rc_nam hv.1 h0.1.1 (by omega) (k424 (by omega) ⟨_, _, rfl, h σ a fr_0 hv (nd_mono (fun _ hx => Or.inl hx) (t := .length (.arg c)) hc9 h0)⟩)
/-! the renamer -/
def rnS (G : Nat → Prop) (v o c fs ts : Nat) (σ : cm_S) (k : Nat) : Prop := cm_tg σ v = 24 ∧ cm_R σ v 0 = fs ∧ cm_R σ v 1 = ts ∧ cm_I σ v 2 = zi (k : Int) ∧ sIn G σ fs (dec o) ∧ sIn G σ ts (dec c) ∧ 322 ≤ ts ∧ 322 ≤ fs
theorem rnS_k (o c fs ts : Nat) : vsk G v (rnS G v o c fs ts) := fun σ σ2 k n X Y h hn hf hx hy hg hG => by
  obtain ⟨a1, a2, a3, a4, a5, a6, a7, a8⟩ := h
  have e := hf.I hn hx
  have e2 := hf.R hn hy
  have sm9 : ∀ a, G a → G a ∧ sm σ σ2 a := fun a ha => ⟨ha, fr_sm hf (hg.1 a ha).1 (hG a ha).1 (hG a ha).2⟩
  exact ⟨(hf.tg hn).trans a1, by rw [e2]; exact a2, by rw [e2]; exact a3, by rw [e]; exact a4, sIn_sm sm9 a5, sIn_sm sm9 a6, a7, a8⟩
theorem occ_sum (o : Nat) : ∀ (as : Fm), isL as → occL o (tk as) = ((ags as).map fun t => occL o (tk t)).sum := by
  intro as
  induction as with
  | div a r iha ihr =>
    intro hL
    have hL : isL r := hL
    show _ = occL o (tk a) + ((ags r).map fun t => occL o (tk t)).sum
    rcases isL_div hL with z | z
    · subst z; rfl
    · rw [tk_divL a z, occL_app, ← ihr hL]
      congr 1
      show (if (6, 44) = (4, o) then 1 else 0) + occL o (tk r) = _
      rw [if_neg (fun q => by cases q), Nat.zero_add]
  | result => exact fun _ => rfl
  | _ => exact fun hL => hL.elim
theorem occ_k (o : Nat) : cfk (fun t => occL o (tk t)) := by
  have c6 : ∀ (k v : Nat) (r : List (Nat × Nat)), k ≠ 4 → occL o ((k, v) :: r) = occL o r := fun k v r hk => by
    show (if (k, v) = (4, o) then 1 else 0) + occL o r = _
    rw [if_neg (fun e => hk (congrArg Prod.fst e)), Nat.zero_add]
  refine ⟨fun p l r => ?_, fun p a => ?_, fun a => ?_, fun f as hL => ?_, fun _ => rfl, rfl⟩
  · show occL o (tk l ++ (6, opc p) :: tk r) = _
    rw [occL_app, c6 _ _ _ (by decide)]
  · show occL o ((6, 45) :: tk a) = _
    rw [c6 _ _ _ (by decide)]
  · show occL o ((6, 40) :: (tk a ++ [(6, 41)])) = _
    rw [c6 _ _ _ (by decide), occL_app, c6 _ _ _ (by decide)]; rfl
  · show occL o ((5, f) :: (6, 40) :: (tk as ++ [(6, 41)])) = _
    rw [c6 _ _ _ (by decide), c6 _ _ _ (by decide), occL_app, c6 _ _ _ (by decide), ← occ_sum o as hL]; rfl
theorem rn_acc {o c fs ts : Nat} (ho : okN o) (hc : okN c) {t : Fm} (hw : wf t) (hn : nn t) : rwP G v (rnS G v o c fs ts) frI fgI (fnR o c) (fun t => occL o (tk t)) t := by
  refine rw_all (mokI hc) (rnS_k o c fs ts) (occ_k o) vw_24 (fun σ k h => h.1) (fun w h a d σ Q k h0 hE hv gv v46 vn hd h => ?_) (fun e he a d σ Q k h0 hE hv gv v46 vn hd h => ?_) (fun u w hu hw a d σ Q k h0 hE hv gv v46 vn hd h => ?_) hw hn
  · exact rn_ref hv.1 h0.1.1 (by omega) (k432 (by omega) ⟨_, _, rfl, h σ a fr_0 hv (nd_mono (fun _ hx => Or.inl hx) (t := .index w) (by assumption) h0)⟩)
  · obtain ⟨⟨t0, g0⟩, s1, s2⟩ := id h0
    obtain ⟨v0, v1, v2, v3, v4, v5, v6, v7⟩ := id hv
    have hn := hE.1.1
    have em : mp frI fgI (fnR o c) (.length (.arg e)) = .length (.arg (if e = o then c else e)) := rfl
    rw [em] at h
    have eo : occL o (tk (.length (.arg e))) = if e = o then 1 else 0 := by
      show (if (4, e) = (4, o) then 1 else 0) + 0 = _
      by_cases q : e = o
      · subst q; rw [if_pos rfl, if_pos rfl]
      · rw [if_neg q, if_neg (fun z => q (congrArg Prod.snd z))]
    refine rn_nam v0 t0 (by omega) (k451 (by omega) ⟨t0, v0, s1.1.1, ?_⟩)
    rw [v1]
    refine s_equals s1.1 v4.1 (Or.inr (Or.inr (Or.inr (Or.inl s2)))) (by omega) (by omega) ⟨_, _, rfl, fun z => ?_, fun z => ⟨v0, show 322 ≤ v from (by omega), ?_⟩⟩
    · rw [bz_0, decide_eq_false_iff_not, dec_inj he ho] at z
      rw [if_neg z] at h
      refine ⟨_, _, rfl, h σ a fr_0 ?_ (nd_mono (fun _ hx => Or.inl hx) (t := .length (.arg e)) he h0)⟩
      dsimp only
      rw [eo, if_neg z]; exact hv
    · rw [bz_0, Bool.not_eq_false, decide_eq_true_eq, dec_inj he ho] at z
      rw [if_pos z] at h
      rintro _ rfl
      rintro _ rfl
      have f1 : fr (fun x => x = v) no_ 0 σ (cm_pI σ v 2 (cm_I σ v 2 + zi 1)) := fr_pI (Or.inl rfl)
      have i9 : cm_I (cm_pI σ v 2 (cm_I σ v 2 + zi 1)) v 2 = zi ((k + 1 : Nat) : Int) := by rw [pI_at, v3, zn_a k 1 1 rfl]
      have nx1 : cm_nx (cm_pI σ v 2 (cm_I σ v 2 + zi 1)) = cm_nx σ := rfl
      have r1 : cm_R (cm_pI σ v 2 (cm_I σ v 2 + zi 1)) = cm_R σ := rfl
      have tg1 : cm_tg (cm_pI σ v 2 (cm_I σ v 2 + zi 1)) = cm_tg σ := rfl
      generalize cm_pI σ v 2 (cm_I σ v 2 + zi 1) = σ1 at f1 i9 nx1 r1 tg1 ⊢
      have f2 : ∀ X Y, fr X Y 1 σ1 (cm_al σ1 13 1) := fun X Y => fr_al (by omega) (by omega)
      have tn : cm_tg (cm_al σ1 13 1) (cm_nx σ1) = 13 := u1_at _ _ _
      have nx2 : cm_nx (cm_al σ1 13 1) = cm_nx σ1 + 1 := rfl
      generalize cm_al σ1 13 1 = σ2 at f2 tn nx2 ⊢
      have f2' := f2 no_ no_
      have vn1 : v < cm_nx σ1 := (by omega)
      refine ⟨(f2'.tg vn1).trans (by rw [tg1]; exact v0), ?_⟩
      rw [show cm_R σ2 v = cm_R σ v from (f2'.R vn1 (fun z => z)).trans (by rw [r1]), v2]
      refine k374 (by omega) ⟨⟨by rw [tn]; decide, by rw [tn]; decide⟩, k363 (by omega) ⟨by rw [tn]; decide, rfl, tn, show 322 ≤ cm_nx σ1 from (by omega), ?_⟩⟩
      rintro _ rfl
      have f3 : fr no_ (fun x => x = cm_nx σ1) 0 σ2 (cm_pR σ2 (cm_nx σ1) 0 ts) := fr_pR (Or.inl rfl)
      have r3 : cm_R (cm_pR σ2 (cm_nx σ1) 0 ts) (cm_nx σ1) 0 = ts := pR_at _ _ _ _
      have nx3 : cm_nx (cm_pR σ2 (cm_nx σ1) 0 ts) = cm_nx σ2 := rfl
      generalize cm_pR σ2 (cm_nx σ1) 0 ts = σ3 at f3 r3 nx3 ⊢
      have F3 : fr (fun x => x = v) no_ (0 + 1 + 0) σ σ3 := fr_tr (fr_tr f1 (f2 _ _) (fun _ _ z => z) (fun _ _ z => z)) f3 (fun _ _ z => z.elim) (fun y hy z => by have : y = cm_nx σ1 := z; omega)
      have gG : ∀ x, G x → ¬ (fun x => x = v) x ∧ ¬ no_ x := fun x hx => ⟨fun z => gv (z ▸ hx), fun z => z⟩
      have sm9 : ∀ x, G x → G x ∧ sm σ σ3 x := fun x hx => ⟨hx, fr_sm F3 (hE.2.2.1 x hx).1 (gG x hx).1 (gG x hx).2⟩
      have I3 : cm_I σ3 v = cm_I σ1 v := (f3.I (by omega) (fun z => z)).trans (f2'.I vn1 (fun z => z))
      refine ⟨rfl, _, _, rfl, h σ3 (cm_nx σ1) (F3.le_ (by show 0 + 1 + 0 ≤ 1; omega)) ?_ ⟨⟨(f3.tg (by omega)).trans tn, Or.inr ⟨(by omega), (by omega)⟩⟩, ?_, ?_⟩⟩
      · dsimp only
        rw [eo, if_pos z]
        have R3 : cm_R σ3 v = cm_R σ v := F3.R vn (fun z => z)
        exact ⟨(F3.tg vn).trans v0, by rw [R3]; exact v1, by rw [R3]; exact v2, by rw [I3]; exact i9, sIn_sm sm9 v4, sIn_sm sm9 v5, v6, v7⟩
      · rw [r3]
        exact sIn_sm (fun x hx => ⟨Or.inl hx, (sm9 x hx).2⟩) v5
      · rw [r3]; exact v6
  · exact rn_rng hv.1 h0.1.1 (by omega) (k430 (by omega) ⟨_, _, rfl, h σ a fr_0 hv (nd_mono (fun _ hx => Or.inl hx) (t := .elem (.index u) (.index w)) ⟨by assumption, by assumption⟩ h0)⟩)
end
