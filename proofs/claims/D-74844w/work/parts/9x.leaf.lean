/-! ENGINE: shifter and row change, their leaves -/
section
variable {G : Nat → Prop} {σ : cm_S} {v d : Nat} {Q : cm_O → Prop}
/-- a new reference -/
theorem n_at {a : Nat} {x1 x2 : Int32} {g1 g2 : Bool} (ht : cm_tg σ a = 15) (ha : a < cm_nx σ) (h2 : cm_I σ a 2 = bz g1) (h3 : cm_I σ a 3 = bz g2) (hn : 322 ≤ cm_nx σ) (hd : 6 ≤ d)
    (h : ∀ σ2, (∀ X Y, fr X Y 1 σ σ2) → cm_nx σ2 = cm_nx σ + 1 → cm_tg σ2 (cm_nx σ) = 15 → cm_I σ2 (cm_nx σ) 0 = x1 → cm_I σ2 (cm_nx σ) 1 = x2 → cm_I σ2 (cm_nx σ) 2 = bz g1 → cm_I σ2 (cm_nx σ) 3 = bz g2 → Q (false, .ref (cm_nx σ), σ2)) : wp_c d 380 [.ref a, .int x1, .int x2] σ Q := by
  have hne : a ≠ cm_nx σ := (by omega)
  refine k380 (by omega) ?_
  rintro _ rfl
  have tn : cm_tg (cm_al σ 15 4) (cm_nx σ) = 15 := u1_at _ _ _
  have ta : cm_tg (cm_al σ 15 4) a = 15 := (u1_ne _ _ hne).trans ht
  have ia : cm_I (cm_al σ 15 4) a = cm_I σ a := u1_ne _ _ hne
  refine ⟨ta, ?_⟩
  rw [ia, h2, h3]
  refine k382 (by omega) ⟨⟨by rw [tn]; decide, by rw [tn]; decide⟩, k363 (by omega) ⟨by rw [tn]; decide, rfl, tn, hn, ?_⟩⟩
  rintro _ rfl
  rintro _ rfl
  refine ⟨bz_fit _, ?_⟩
  rintro _ rfl
  refine ⟨bz_fit _, ?_⟩
  rintro _ rfl
  refine ⟨rfl, h _ (fun X Y => ?_) rfl tn ?_ ?_ ?_ ?_⟩
  · exact fr_tr (n := 1) (m := 0) (fr_al (by omega) (by omega)) ((((fr_pI (X := fun x => x = cm_nx σ) (Y := no_) (Or.inl rfl)).tr_ (fr_pI (Or.inl rfl))).tr_ (fr_pI (Or.inl rfl))).tr_ (fr_pI (Or.inl rfl))) (fun y hy z => absurd z (Nat.ne_of_lt hy)) (fun _ _ z => z.elim)
  · rw [pI_nj _ _ _ _ (by decide), pI_nj _ _ _ _ (by decide), pI_nj _ _ _ _ (by decide), pI_at]
  · rw [pI_nj _ _ _ _ (by decide), pI_nj _ _ _ _ (by decide), pI_at]
  · rw [pI_nj _ _ _ _ (by decide), pI_at]
  · rw [pI_at]
/-- a new lost reference -/
theorem n_bro (hn : 322 ≤ cm_nx σ) (hd : 4 ≤ d) (h : ∀ σ2, (∀ X Y, fr X Y 1 σ σ2) → cm_nx σ2 = cm_nx σ + 1 → cm_tg σ2 (cm_nx σ) = 14 → Q (false, .int 0, σ2)) : wp_c d 377 [.ref (cm_nx σ)] (cm_al σ 14 0) Q := by
  have tn : cm_tg (cm_al σ 14 0) (cm_nx σ) = 14 := u1_at _ _ _
  exact k377 (by omega) ⟨⟨by rw [tn]; decide, by rw [tn]; decide⟩, k363 (by omega) ⟨by rw [tn]; decide, rfl, h _ (fun X Y => fr_al (by omega) (by omega)) rfl tn⟩⟩
/-- a new range -/
theorem n_rng {a b : Nat} (hn : 322 ≤ cm_nx σ) (hd : 4 ≤ d) (h : ∀ σ2, (∀ X Y, fr X Y 1 σ σ2) → cm_nx σ2 = cm_nx σ + 1 → cm_tg σ2 (cm_nx σ) = 16 → cm_R σ2 (cm_nx σ) 0 = a → cm_R σ2 (cm_nx σ) 1 = b → Q (false, .int 0, σ2)) : wp_c d 386 [.ref (cm_nx σ), .ref a, .ref b] (cm_al σ 16 2) Q := by
  have tn : cm_tg (cm_al σ 16 2) (cm_nx σ) = 16 := u1_at _ _ _
  refine k386 (by omega) ⟨⟨by rw [tn]; decide, by rw [tn]; decide⟩, k363 (by omega) ⟨by rw [tn]; decide, rfl, tn, hn, ?_⟩⟩
  rintro _ rfl
  rintro _ rfl
  refine h _ (fun X Y => ?_) rfl tn ?_ (pR_at _ _ _ _)
  · exact fr_tr (n := 1) (m := 0) (fr_al (by omega) (by omega)) ((fr_pR (X := no_) (Y := fun x => x = cm_nx σ) (Or.inl rfl)).tr_ (fr_pR (Or.inl rfl))) (fun _ _ z => z.elim) (fun y hy z => absurd z (Nat.ne_of_lt hy))
  · rw [pR_nj _ _ _ _ (by decide), pR_at]
/-- a reference's object, perhaps beyond the sheet -/
def rfX (σ : cm_S) (x : Nat) (c r : Int) (w : Nat) : Prop := cm_tg σ x = 15 ∧ cm_I σ x 0 = zi c ∧ cm_I σ x 1 = zi r ∧ cm_I σ x 2 = bz (decide (w % 2 = 1)) ∧ cm_I σ x 3 = bz (decide (w / 2 = 1))
theorem rfX_fr {σ2 : cm_S} {X Y : Nat → Prop} {n x w : Nat} {c r : Int} (h : rfX σ x c r w) (hf : fr X Y n σ σ2) (hx : x < cm_nx σ) (h1 : ¬ X x) : rfX σ2 x c r w := by
  obtain ⟨a1, a2, a3, a4, a5⟩ := h
  have e := hf.I hx h1
  exact ⟨(hf.tg hx).trans a1, by rw [e]; exact a2, by rw [e]; exact a3, by rw [e]; exact a4, by rw [e]; exact a5⟩
theorem rfX_nref {x w : Nat} {c r : Nat} (h : rfX σ x c r w) (hc : c < 12) (hr : r < 20) (hg : G x) : nref G σ x (12 * r + c + 240 * w) := by
  obtain ⟨a1, a2, a3, a4, a5⟩ := h
  have e1 : (12 * r + c + 240 * w) % 240 % 12 = c := (by omega)
  have e2 : (12 * r + c + 240 * w) % 240 / 12 = r := (by omega)
  have e3 : (12 * r + c + 240 * w) / 240 = w := (by omega)
  exact ⟨⟨a1, hg⟩, by rw [e1]; exact a2, by rw [e2]; exact a3, by rw [e3]; exact a4, by rw [e3]; exact a5⟩
theorem e_onSheet {x w : Nat} {c r : Int} (hE : en_ok σ) (h0 : rfX σ x c r w) (hc : -1000 < c ∧ c < 1000) (hr : -1000 < r ∧ r < 1000) (hd : 2 ≤ d) (h : Q (false, .int (bz (decide ((0 ≤ c ∧ c ≤ 11) ∧ 0 ≤ r ∧ r ≤ 19))), σ)) : wp_c d 384 [.ref x] σ Q := by
  obtain ⟨a1, a2, a3, a4, a5⟩ := h0
  refine k384 (by omega) ⟨a1, ?_⟩
  rw [a2]
  refine e_in hE ⟨by omega, by omega⟩ ⟨by omega, by omega⟩ ⟨by omega, by omega⟩ (by omega) ⟨_, _, rfl, fun z => ?_, fun z => ⟨a1, ?_⟩⟩
  · rw [bz_0, decide_eq_false_iff_not] at z
    rw [decide_eq_false (fun q => z q.1)] at h; exact h
  · rw [bz_0, Bool.not_eq_false, decide_eq_true_eq] at z
    rw [a3]
    refine e_in hE ⟨by omega, by omega⟩ ⟨by omega, by omega⟩ ⟨by omega, by omega⟩ (by omega) ⟨_, _, rfl, fun y => ?_, fun y => ?_⟩
    · rw [bz_0, decide_eq_false_iff_not] at y
      rw [decide_eq_false (fun q => y q.2)] at h; exact h
    · rw [bz_0, Bool.not_eq_false, decide_eq_true_eq] at y
      rw [decide_eq_true ⟨z, y⟩] at h; exact h
/-! the shifter -/
def shV (v : Nat) (dc dr : Int) (σ : cm_S) (_ : Nat) : Prop := cm_tg σ v = 22 ∧ cm_I σ v 0 = zi dc ∧ cm_I σ v 1 = zi dr
theorem shV_k (dc dr : Int) : vsk G v (shV v dc dr) := fun σ σ2 k n X Y h hn hf hx hy _ _ => by
  obtain ⟨a1, a2, a3⟩ := h
  have e := hf.I hn hx
  exact ⟨(hf.tg hn).trans a1, by rw [e]; exact a2, by rw [e]; exact a3⟩
def mvC (dc : Int) (u : Nat) : Int := ((u % 240 % 12 : Nat) : Int) + (if u / 240 % 2 = 1 then 0 else dc)
def mvW (dr : Int) (u : Nat) : Int := ((u % 240 / 12 : Nat) : Int) + (if u / 240 / 2 = 1 then 0 else dr)
theorem mvR_eq (dc dr : Int) (u : Nat) : mvR dc dr u = if (0 ≤ mvC dc u ∧ mvC dc u ≤ 11) ∧ 0 ≤ mvW dr u ∧ mvW dr u ≤ 19 then some (12 * (mvW dr u).toNat + (mvC dc u).toNat + 240 * (u / 240)) else none := rfl
theorem e_moved {dc dr : Int} {a u k : Nat} (hE : eB G σ) (hv : shV v dc dr σ k) (h0 : nref G σ a u) (hd : 8 ≤ d) (h : ∀ σ2, (∀ X Y, fr X Y 1 σ σ2) → cm_nx σ2 = cm_nx σ + 1 → rfX σ2 (cm_nx σ) (mvC dc u) (mvW dr u) (u / 240) → Q (false, .ref (cm_nx σ), σ2)) : wp_c d 434 [.ref v, .ref a] σ Q := by
  obtain ⟨⟨t0, g0⟩, i0, i1, i2, i3⟩ := h0
  obtain ⟨v0, v1, v2⟩ := hv
  have ha := (hE.2.2.1 _ g0).1
  have hn := hE.1.1
  have fin : ∀ x1 x2, x1 = zi (mvC dc u) → x2 = zi (mvW dr u) → wp_c (d - 1) 380 [.ref a, .int x1, .int x2] σ (qr fun r1 σ1 => Q (false, .ref r1, σ1)) := fun x1 x2 e1 e2 =>
    n_at t0 ha i2 i3 (by omega) (by omega) fun σ2 f n t j0 j1 j2 j3 => ⟨_, _, rfl, h σ2 f n ⟨t, j0.trans e1, j1.trans e2, j2, j3⟩⟩
  refine k434 (by omega) ⟨t0, fun z => ⟨v0, fun y => fin _ _ ?_ ?_, fun y => fin _ _ ?_ ?_⟩, fun z => ⟨fun y => ⟨v0, fin _ _ ?_ ?_⟩, fun y => fin _ _ ?_ ?_⟩⟩ <;>
    (rw [i2, bz_0] at z; rw [i3, bz_0] at y; simp only [decide_eq_false_iff_not, Decidable.not_not] at z y; first
      | (unfold mvC; rw [if_neg z, i0, v1, zi_add])
      | (unfold mvC; rw [if_pos z, i0, Int.add_zero])
      | (unfold mvW; rw [if_neg y, i1, v2, zi_add])
      | (unfold mvW; rw [if_pos y, i1, Int.add_zero]))
theorem sh_index (dc dr : Int) (hc : -11 ≤ dc ∧ dc ≤ 11) (hr : -19 ≤ dr ∧ dr ≤ 19) {w : Nat} (hw : w < 960) : rwP G v (shV v dc dr) (frC dc dr) (fgC dc dr) fnI (fun _ => 0) (.index w) := by
  intro a d σ Q k h0 hE hv gv v46 vn hd h
  have h0 : nref G σ a w := h0
  have hn := hE.1.1
  have hmc : -1000 < mvC dc w ∧ mvC dc w < 1000 := by unfold mvC; split <;> omega
  have hmw : -1000 < mvW dr w ∧ mvW dr w < 1000 := by unfold mvW; split <;> omega
  refine sh_ref hv.1 h0.1.1 (by omega) (k437 (by omega) ⟨hv.1, e_moved hE hv h0 (by omega) fun σ2 f2 n2 r2 => ⟨_, _, rfl, r2.1, ?_⟩⟩)
  have hE2 := eB_no hE (f2 no_ no_)
  have em : mp (frC dc dr) (fgC dc dr) fnI (.index w) = frC dc dr w := rfl
  rw [em] at h
  unfold frC at h
  rw [mvR_eq] at h
  refine e_onSheet hE2.1 r2 hmc hmw (by omega) ⟨_, _, rfl, fun z => ?_, fun z => ?_⟩
  · rw [bz_0, decide_eq_false_iff_not] at z
    rw [if_neg z] at h
    rintro _ rfl
    refine n_bro (by omega) (by omega) fun σ3 f3 n3 t3 => ⟨rfl, _, _, rfl, h σ3 _ ((f2 _ _).tr_ (f3 _ _)) (shV_k (G := G) dc dr _ _ _ _ _ _ hv vn ((f2 no_ no_).tr_ (f3 no_ no_)) (fun z => z) (fun z => z) hE.2.2 (fun _ _ => ⟨fun z => z, fun z => z⟩)) ⟨t3, Or.inr ⟨(by omega), (by omega)⟩⟩⟩
  · rw [bz_0, Bool.not_eq_false, decide_eq_true_eq] at z
    rw [if_pos z] at h
    refine ⟨_, _, rfl, h σ2 _ ((f2 _ _).le_ (by show 1 ≤ 2; omega)) (shV_k (G := G) dc dr _ _ _ _ _ _ hv vn (f2 no_ no_) (fun z => z) (fun z => z) hE.2.2 (fun _ _ => ⟨fun z => z, fun z => z⟩)) ?_⟩
    show nref _ _ _ _
    refine rfX_nref ?_ (by omega) (by omega) (Or.inr ⟨Nat.le_refl _, (by omega)⟩)
    rw [show ((mvC dc w).toNat : Int) = mvC dc w from (by omega), show ((mvW dr w).toNat : Int) = mvW dr w from (by omega)]
    exact r2
theorem fgC_eq (dc dr : Int) (u w : Nat) : fgC dc dr u w = if ((0 ≤ mvC dc u ∧ mvC dc u ≤ 11) ∧ 0 ≤ mvW dr u ∧ mvW dr u ≤ 19) ∧ ((0 ≤ mvC dc w ∧ mvC dc w ≤ 11) ∧ 0 ≤ mvW dr w ∧ mvW dr w ≤ 19) then .elem (.index (12 * (mvW dr u).toNat + (mvC dc u).toNat + 240 * (u / 240))) (.index (12 * (mvW dr w).toNat + (mvC dc w).toNat + 240 * (w / 240))) else .null := by
  unfold fgC
  rw [mvR_eq, mvR_eq]
  by_cases a : (0 ≤ mvC dc u ∧ mvC dc u ≤ 11) ∧ 0 ≤ mvW dr u ∧ mvW dr u ≤ 19
  · by_cases b : (0 ≤ mvC dc w ∧ mvC dc w ≤ 11) ∧ 0 ≤ mvW dr w ∧ mvW dr w ≤ 19
    · rw [if_pos a, if_pos b, if_pos ⟨a, b⟩]
    · rw [if_pos a, if_neg b, if_neg (fun q => b q.2)]
  · rw [if_neg a]; exact (if_neg (fun q => a q.1)).symm
theorem sh_elem (dc dr : Int) (hc : -11 ≤ dc ∧ dc ≤ 11) (hr : -19 ≤ dr ∧ dr ≤ 19) {u w : Nat} (hu : u < 960) (hw : w < 960) : rwP G v (shV v dc dr) (frC dc dr) (fgC dc dr) fnI (fun _ => 0) (.elem (.index u) (.index w)) := by
  intro a d σ Q k h0 hE hv gv v46 vn hd h
  obtain ⟨⟨t0, g0⟩, h1, h2⟩ := h0
  have hn := hE.1.1
  have ha := (hE.2.2.1 _ g0).1
  have bc : ∀ u, -1000 < mvC dc u ∧ mvC dc u < 1000 := fun u => by unfold mvC; split <;> omega
  have bw : ∀ u, -1000 < mvW dr u ∧ mvW dr u < 1000 := fun u => by unfold mvW; split <;> omega
  have em : mp (frC dc dr) (fgC dc dr) fnI (.elem (.index u) (.index w)) = fgC dc dr u w := rfl
  rw [em, fgC_eq] at h
  have gG : ∀ x, G x → ¬ no_ x ∧ ¬ no_ x := fun _ _ => ⟨fun z => z, fun z => z⟩
  refine sh_rng hv.1 t0 (by omega) (k435 (by omega) ⟨t0, hv.1, e_moved hE hv h1 (by omega) fun σ2 f2 n2 r2 => ⟨_, _, rfl, ?_⟩⟩)
  have f2' := f2 no_ no_
  have hE2 := eB_no hE f2'
  have hv2 := shV_k (G := G) dc dr _ _ _ _ _ _ hv vn f2' (fun z => z) (fun z => z) hE.2.2 gG
  have h22 : nref G σ2 (cm_R σ a 1) w := nref_sm (fun x hx => ⟨hx, fr_sm f2' (hE.2.2.1 x hx).1 (fun z => z) (fun z => z)⟩) h2
  dsimp only
  rw [show cm_R σ2 a = cm_R σ a from f2'.R ha (fun z => z)]
  refine ⟨(f2'.tg ha).trans t0, hv2.1, e_moved hE2 hv2 h22 (by omega) fun σ3 f3 n3 r3 => ⟨_, _, rfl, ?_⟩⟩
  have f3' := f3 no_ no_
  have hE3 := eB_no hE2 f3'
  have r23 := rfX_fr r2 f3' (by omega) (fun z => z)
  have F3 : ∀ X Y, fr X Y 2 σ σ3 := fun X Y => (f2 X Y).tr_ (f3 X Y)
  have hv3 := shV_k (G := G) dc dr _ _ _ _ _ _ hv vn (F3 no_ no_) (fun z => z) (fun z => z) hE.2.2 gG
  have bro : ∀ (K : cm_O → Prop), (¬ (((0 ≤ mvC dc u ∧ mvC dc u ≤ 11) ∧ 0 ≤ mvW dr u ∧ mvW dr u ≤ 19) ∧ ((0 ≤ mvC dc w ∧ mvC dc w ≤ 11) ∧ 0 ≤ mvW dr w ∧ mvW dr w ≤ 19))) → ∀ σ4, σ4 = cm_al σ3 14 0 → wp_c (d - 1 - 1 - 1) 377 [.ref (cm_nx σ3)] σ4 (qv fun σ5 => qr (fun r1 σ1 => Q (false, .ref r1, σ1)) (false, .ref (cm_nx σ3), σ5)) := fun _ z => by
    rw [if_neg z] at h
    rintro _ rfl
    exact n_bro (by omega) (by omega) fun σ4 f4 n4 t4 => ⟨rfl, _, _, rfl, h σ4 _ (((F3 _ _).tr_ (f4 _ _)).le_ (by show 2 + 1 ≤ 5; omega)) (shV_k (G := G) dc dr _ _ _ _ _ _ hv vn ((F3 no_ no_).tr_ (f4 no_ no_)) (fun z => z) (fun z => z) hE.2.2 gG) ⟨t4, Or.inr ⟨(by omega), (by omega)⟩⟩⟩
  refine ⟨r23.1, e_onSheet hE3.1 r23 (bc u) (bw u) (by omega) ⟨_, _, rfl, fun z => ?_, fun z => ⟨r3.1, e_onSheet hE3.1 r3 (bc w) (bw w) (by omega) ⟨_, _, rfl, fun y => ?_, fun y => ?_⟩⟩⟩⟩
  · rw [bz_0, decide_eq_false_iff_not] at z
    exact bro (fun _ => True) (fun q => z q.1)
  · rw [bz_0, decide_eq_false_iff_not] at y
    exact bro (fun _ => True) (fun q => y q.2)
  · rw [bz_0, Bool.not_eq_false, decide_eq_true_eq] at z y
    rw [if_pos ⟨z, y⟩] at h
    rintro _ rfl
    refine n_rng (by omega) (by omega) fun σ4 f4 n4 t4 q0 q1 => ⟨rfl, _, _, rfl, h σ4 _ (((F3 _ _).tr_ (f4 _ _)).le_ (by show 2 + 1 ≤ 5; omega)) (shV_k (G := G) dc dr _ _ _ _ _ _ hv vn ((F3 no_ no_).tr_ (f4 no_ no_)) (fun z => z) (fun z => z) hE.2.2 gG) ⟨⟨t4, Or.inr ⟨(by omega), (by omega)⟩⟩, ?_, ?_⟩⟩
    · rw [q0]
      refine rfX_nref ?_ (by omega) (by omega) (Or.inr ⟨Nat.le_refl _, (by omega)⟩)
      rw [show ((mvC dc u).toNat : Int) = mvC dc u from (by omega), show ((mvW dr u).toNat : Int) = mvW dr u from (by omega)]
      exact rfX_fr r23 (f4 no_ no_) (by omega) (fun z => z)
    · rw [q1]
      refine rfX_nref ?_ (by omega) (by omega) (Or.inr ⟨(by omega), (by omega)⟩)
      rw [show ((mvC dc w).toNat : Int) = mvC dc w from (by omega), show ((mvW dr w).toNat : Int) = mvW dr w from (by omega)]
      exact rfX_fr r3 (f4 no_ no_) (by omega) (fun z => z)
theorem sum_0 (l : List Fm) : (l.map fun _ => 0).sum = 0 := by
  induction l with
  | nil => rfl
  | cons a l ih => rw [List.map_cons, List.sum_cons, ih]
theorem sh_acc (dc dr : Int) (hc : -11 ≤ dc ∧ dc ≤ 11) (hr : -19 ≤ dr ∧ dr ≤ 19) {t : Fm} (hw : wf t) (hn : nn t) : rwP G v (shV v dc dr) (frC dc dr) (fgC dc dr) fnI (fun _ => 0) t := by
  refine rw_all (mokC dc dr) (shV_k dc dr) ⟨fun _ _ _ => rfl, fun _ _ => rfl, fun _ => rfl, fun f as _ => (sum_0 _).symm, fun _ => rfl, rfl⟩ vw_22 (fun σ k h => h.1) (fun w h => sh_index dc dr hc hr h) (fun c hc9 a d σ Q k h0 hE hv gv v46 vn hd h => ?_) (fun u w a b => sh_elem dc dr hc hr a b) hw hn
  exact sh_nam hv.1 h0.1.1 (by omega) (k424 (by omega) ⟨_, _, rfl, h σ a fr_0 hv (nd_mono (fun _ hx => Or.inl hx) (t := .length (.arg c)) hc9 h0)⟩)
end
