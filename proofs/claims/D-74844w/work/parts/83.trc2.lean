/-! THE TWIN: recalculates -/
theorem rcI.ext {S : Sh} {V0 O : Nat → Vl} {M W : Nat → Bool} {all : Bool} (hS : shk S) {Z Z2 : Nat → Bool} {V V2 : Nat → Vl} {n : Nat} (h : rcI S V0 O M W all Z V n) (hZ : ∀ c, c < 240 → Z2 c = Z c) (hV : ∀ c, c < 240 → V2 c = V c) : rcI S V0 O M W all Z2 V2 n := by
  obtain ⟨h1, h2, h3, h4, h5⟩ := h
  refine ⟨fun c hc hd => by rw [hZ c hc]; exact h1 c hc hd, fun Y hY h0 c hc hz => h2 Y hY h0 c hc (by rw [← hZ c hc]; exact hz), fun c hc hz => ?_, fun c hc => ?_, ?_⟩
  · rw [hZ c hc] at hz
    rcases h3 c hc hz with q | q
    · exact .inl q
    · exact .inr fun e he hd => by rw [hZ e he]; exact q e he hd
  · rw [hV c hc, hZ c hc, h4 c hc, due_cg (V := V2) (V2 := V) fun e he _ => hV e he, evC_cg hS (V := V2) (V2 := V) hc fun e he _ => hV e he]
  · rw [h5]
    refine cnt_cg 240 fun c hc => ?_
    rw [hZ c hc, due_cg (V := V2) (V2 := V) fun e he _ => hV e he]
theorem tdn.ext {L : tw_L} {D D2 : Nat → Bool} (h : tdn L D) (e : ∀ x, x < 256 → D x = D2 x) : tdn L D2 := fun x hx => by rw [← e x hx]; exact h x hx
def RCW (a i : Nat) : Prop := (1324 ≤ a ∧ a ≤ 1329) ∨ (1333 ≤ a ∧ a ≤ 1335) ∨ (a = 1315 ∧ (i = 16 ∨ (38 ≤ i ∧ i ≤ 41) ∨ (43 ≤ i ∧ i ≤ 49)))
section
variable {τ : tw_K} {I : tw_I} {L : tw_L} {d : Nat} {B : List Nat} {S : Sh} {H : List Sh} {V O : Nat → Vl} {M W : Nat → Bool} {au : Bool} {ev : Nat}
theorem t_rcfin (hτ : tw_ok τ) {V2 : Nat → Vl} {n : Nat} {x1 x2 : Int32} {Q : tw_I → tw_L → Prop} (hd : 4 ≤ d) (h0 : tst τ I L B S H V2 O M W au n) (hl : tlk L S)
    (h : ∀ I2 L2, twf RCW I L I2 L2 → tst τ I2 L2 B S H V2 V2 (fun _ => false) (fun c => rch S c c) au n → tlk L2 S → Q I2 L2) : wp_r d 301 (165, [.ref 1315, .int x1, .int x2, .int (zi 0)], [], tw τ I L) (tv τ Q) := by
  have loop : ∀ c J K, c ≤ 240 → (twf RCW I L J K ∧ tst τ J K B S H V2 (fil V2 (fun _ => true) c O) (fil (fun _ => false) (fun _ => true) c M) (fil (fun x => rch S x x) (fun _ => true) c W) au n ∧ tlk K S) → wp_r d 301 (165, [.ref 1315, .int x1, .int x2, .int (zi c)], [], tw τ J K) (tv τ Q) := by
    refine up_ind 240 (W := fun c J K => wp_r d 301 (165, [.ref 1315, .int x1, .int x2, .int (zi c)], [], tw τ J K) (tv τ Q)) (P := fun c J K => twf RCW I L J K ∧ tst τ J K B S H V2 (fil V2 (fun _ => true) c O) (fil (fun _ => false) (fun _ => true) c M) (fil (fun x => rch S x x) (fun _ => true) c W) au n ∧ tlk K S) (fun J K hP => ?_) (fun c J K hc hP ih => ?_)
    · have fa : ∀ {α : Type} (g base : Nat → α) (c : Nat), c < 240 → g c = fil g (fun _ => true) 240 base c := fun g base c hc => by unfold fil; rw [if_pos ⟨hc, rfl⟩]
      exact k301_165 hτ (by omega) ⟨fun z => absurd z (by decide), fun _ => h J K hP.1 ((hP.2.1.ext (fun _ _ => rfl) rfl (fun _ _ => rfl) fun c hc => fa (fun _ => false) M c hc).ex2 (fun c hc => fa V2 O c hc) fun c hc => fa (fun x => rch S x x) W c hc) hP.2.2⟩
    · obtain ⟨fr, g, l⟩ := hP
      obtain ⟨v1, v2, v3⟩ := g.v1 hc
      refine k301_165 hτ (by omega) ?_
      rw [zi_lt (by omega) (by omega) (by omega) (by omega), zn_ix (by omega), zn_a c 1 1 rfl]
      refine ⟨fun _ => ⟨zn_in hc (by omega), ?_⟩, fun z => absurd (by omega) z⟩
      rintro I1 rfl
      refine t_isCyclic hτ l hc (by omega) ⟨bz_or _, ?_⟩
      rintro I3 rfl I4 rfl L5 rfl
      have f : twf (fun a i => (a = 1326 ∨ a = 1327 ∨ a = 1328 ∨ a = 1329) ∧ i = c) J K (cm_u2 (cm_u2 (cm_u2 J 1328 c (zi 0)) 1329 c (bz (rch S c c))) 1326 c ((cm_u2 (cm_u2 J 1328 c (zi 0)) 1329 c (bz (rch S c c))) 1324 c)) (cm_u2 K 1327 c (K 1325 c)) := (((twf.rf.pI (by omega) _).pI (by omega) _).pI (by omega) _).pL (by omega) _
      refine ih _ _ ⟨fr.tr (f.wi fun a i z => by unfold RCW; omega), ?_, l.kept f (fun i => by omega) (fun i => by omega)⟩
      rw [fil_t _ _ _ _ rfl, fil_t _ _ _ _ rfl, fil_t _ _ _ _ rfl]
      exact g.fin hτ f (by rw [u2_same, u2_ne _ _ _ _ (by omega), u2_ne _ _ _ _ (by omega)]; exact v1) (by rw [u2_same]; exact v2) v3 (by rw [u2_ne _ _ _ _ (by omega), u2_ne _ _ _ _ (by omega), u2_same]; rfl) (by rw [u2_ne _ _ _ _ (by omega), u2_same])
  exact loop 0 I L (by omega) ⟨twf.rf, by rw [fil_0, fil_0, fil_0]; exact h0, hl⟩
def swp (τ : tw_K) (I : tw_I) (L : tw_L) (B : List Nat) (S : Sh) (H : List Sh) (V O : Nat → Vl) (M W : Nat → Bool) (au all : Bool) (Z : Nat → Bool) (V2 : Nat → Vl) (n : Nat) : Prop :=
  tst τ I L B S H V2 O M W au n ∧ rcI S V O M W all Z V2 n ∧ tdn L Z ∧ tlk L S ∧ ∀ e, 240 ≤ e → Z e = false
theorem t_sweeps (hτ : tw_ok τ) {all : Bool} {Q : tw_I → tw_L → Prop} (hd : 710 ≤ d) (I0 : tw_I) (L0 : tw_L) (h : ∀ V2 n I2 L2, twf RCW I0 L0 I2 L2 → rcR S V O M W all V2 n → tst τ I2 L2 B S H V2 V2 (fun _ => false) (fun c => rch S c c) au n → tlk L2 S → Q I2 L2) :
    ∀ (m : Nat) (Z : Nat → Bool) (V2 : Nat → Vl) (n : Nat) (I : tw_I) (L : tw_L) (x3 : Value), 240 ≤ cnt Z 240 + m → twf RCW I0 L0 I L → swp τ I L B S H V O M W au all Z V2 n → wp_r d 301 (78, [.ref 1315, .int (bz all), .int (zi 1), x3], [], tw τ I L) (tv τ Q) := by
  intro m
  induction m with
  | zero =>
    intro Z V2 n I L x3 hm fr hs
    obtain ⟨g, r, z, l, hz⟩ := hs
    have hS := g.shk
    have full : ∀ c, c < 240 → Z c = true := fun c hc => by
      cases q : Z c with
      | true => rfl
      | false => have := cnt_lt hc q; omega
    have loop : ∀ (c : Nat) I' L', c ≤ 240 → (I' = I ∧ L' = L) → wp_r d 301 (86, [.ref 1315, .int (bz all), .int (zi 0), .int (zi c)], [], tw τ I' L') (tv τ Q) := by
      refine up_ind 240 (W := fun c I' L' => wp_r d 301 (86, [.ref 1315, .int (bz all), .int (zi 0), .int (zi c)], [], tw τ I' L') (tv τ Q)) (P := fun c I' L' => I' = I ∧ L' = L) (fun I' L' hP => ?_) (fun c I' L' hc hP ih => ?_)
      · obtain ⟨rfl, rfl⟩ := hP
        refine k301_86 hτ (by omega) ⟨fun z => absurd z (by decide), fun _ => k301_78 hτ (by omega) ⟨fun _ => t_rcfin hτ (by omega) g l fun I2 L2 f2 g2 l2 => h V2 n I2 L2 (fr.tr f2) ⟨Z, r, fun c hc _ => full c hc⟩ g2 l2, fun z => absurd rfl z⟩⟩
      · obtain ⟨rfl, rfl⟩ := hP
        refine k301_86 hτ (by omega) ?_
        rw [zi_lt (by omega) (by omega) (by omega) (by omega), zn_a c 1 1 rfl]
        refine ⟨fun _ => t_isDone hτ z hc (by omega) ?_, fun z => absurd (by omega) z⟩
        rw [full c hc]
        exact ⟨fun z => absurd z (by decide), fun _ => ih _ _ ⟨rfl, rfl⟩⟩
    exact k301_78 hτ (by omega) ⟨fun z => absurd z (by decide), fun _ => loop 0 I L (by omega) ⟨rfl, rfl⟩⟩
  | succ m ihm =>
    intro Z V2 n I L x3 hm fr hs
    have loop : ∀ (c : Nat) I' L', c ≤ 240 → twf RCW I0 L0 I' L' → ∀ b : Bool, (∃ (Z2 : Nat → Bool) (V3 : Nat → Vl) (n3 : Nat), swp τ I' L' B S H V O M W au all Z2 V3 n3 ∧ (if b then cnt Z 240 < cnt Z2 240 else (cnt Z 240 = cnt Z2 240 ∧ ∀ x, x < c → Z2 x = true ∨ ¬ ∀ e, e < 256 → dir S x e = true → Z2 e = true))) → wp_r d 301 (86, [.ref 1315, .int (bz all), .int (bz b), .int (zi c)], [], tw τ I' L') (tv τ Q) := by
      refine up_ind 240 (W := fun c I' L' => ∀ b : Bool, (∃ (Z2 : Nat → Bool) (V3 : Nat → Vl) (n3 : Nat), swp τ I' L' B S H V O M W au all Z2 V3 n3 ∧ (if b then cnt Z 240 < cnt Z2 240 else (cnt Z 240 = cnt Z2 240 ∧ ∀ x, x < c → Z2 x = true ∨ ¬ ∀ e, e < 256 → dir S x e = true → Z2 e = true))) → wp_r d 301 (86, [.ref 1315, .int (bz all), .int (bz b), .int (zi c)], [], tw τ I' L') (tv τ Q)) (P := fun c I' L' => twf RCW I0 L0 I' L') (fun I' L' fr b hb => ?_) (fun c I' L' hc fr ih b hb => ?_)
      · obtain ⟨Z2, V3, n3, hs, hb⟩ := hb
        refine k301_86 hτ (by omega) ⟨fun z => absurd z (by decide), fun _ => ?_⟩
        cases b with
        | true =>
          have hb : cnt Z 240 < cnt Z2 240 := hb
          exact ihm Z2 V3 n3 I' L' _ (by omega) fr hs
        | false =>
          have hb : cnt Z 240 = cnt Z2 240 ∧ ∀ x, x < 240 → Z2 x = true ∨ ¬ ∀ e, e < 256 → dir S x e = true → Z2 e = true := hb
          obtain ⟨g, r, z, l, hz⟩ := hs
          have hS := g.shk
          refine k301_78 hτ (by omega) ⟨fun _ => t_rcfin hτ (by omega) g l fun I2 L2 f2 g2 l2 => h V3 n3 I2 L2 (fr.tr f2) ⟨Z2, r, fun c hc hr => ?_⟩ g2 l2, fun z => absurd rfl z⟩
          rcases hb.2 c hc with q | q
          · exact q
          · exact absurd (fun e he hd => hr e (dir_lt hS.2 hd) hd) q
      · obtain ⟨Z2, V3, n3, hs, hb⟩ := hb
        obtain ⟨g, r, z, l, hz⟩ := hs
        have hS := g.shk
        refine k301_86 hτ (by omega) ?_
        rw [zi_lt (by omega) (by omega) (by omega) (by omega), zn_a c 1 1 rfl]
        refine ⟨fun _ => t_isDone hτ z hc (by omega) ?_, fun z => absurd (by omega) z⟩
        rw [bz_0]
        have skip : (Z2 c = true ∨ ¬ ∀ e, e < 256 → dir S c e = true → Z2 e = true) → wp_r d 301 (86, [.ref 1315, .int (bz all), .int (bz b), .int (zi ((c + 1 : Nat) : Int))], [], tw τ I' L') (tv τ Q) := fun hx => by
          refine ih I' L' fr b ⟨Z2, V3, n3, ⟨g, r, z, l, hz⟩, ?_⟩
          cases b with
          | true => exact hb
          | false =>
            refine ⟨hb.1, fun x hx2 => ?_⟩
            by_cases e : x = c
            · subst e; exact hx
            · exact hb.2 x (by omega)
        refine ⟨fun z0 => t_isReady hτ l z hc (by omega) (fun rd => ⟨fun z => absurd z (by decide), fun _ => ?_⟩) (fun rd => ⟨fun _ => skip (.inr rd), fun z => absurd rfl z⟩), fun z1 => skip (.inl (by cases q : Z2 c; exact absurd q z1; rfl))⟩
        have rd2 : ∀ e, e < 240 → dir S c e = true → Z2 e = true := fun e he => rd e (by omega)
        have st := r.step hS hc z0 rd2
        have up := cnt_up (P := Z2) (Q := up1 Z2 c true) z0 (up_s _ _ _) 240 fun x _ hx => (up_n _ _ _ hx).symm
        rw [if_pos hc] at up
        have more : ∀ I4 L4 V4 n4, twf RCW I' L' I4 L4 → rcI S V O M W all (up1 Z2 c true) V4 n4 → tst τ I4 L4 B S H V4 O M W au n4 → tdn L4 (up1 Z2 c true) → tlk L4 S → wp_r d 301 (86, [.ref 1315, .int (bz all), .int (zi 1), .int (zi ((c + 1 : Nat) : Int))], [], tw τ I4 L4) (tv τ Q) := fun I4 L4 V4 n4 f4 r4 g4 z4 l4 => by
          refine ih I4 L4 (fr.tr f4) true ⟨up1 Z2 c true, V4, n4, ⟨g4, r4, z4, l4, fun e he => by rw [up_n _ _ _ (by omega)]; exact hz e he⟩, ?_⟩
          show cnt Z 240 < cnt (up1 Z2 c true) 240
          cases b with
          | true => have hb : cnt Z 240 < cnt Z2 240 := hb; omega
          | false => have := hb.1; omega
        have n240 : n3 < 240 := by
          rw [r.2.2.2.2]
          exact cnt_lt hc (by rw [z0, Bool.false_and, Bool.false_and])
        have ev : due S O M W all V3 c = true → wp_r d 301 (142, [.ref 1315, .int (bz all), .int (bz b), .int (zi c)], [], tw τ I' L') (tv τ Q) := fun hdu => by
          rw [if_pos hdu, if_pos hdu] at st
          refine k301_142 hτ (by omega) ?_
          have hF : isF S c = true := by
            cases q : isF S c with
            | true => rfl
            | false => rw [r.1 c hc (by unfold dn0; rw [q]; rfl)] at z0; cases z0
          have hF := of_decide_eq_true hF
          match hq : S.1 c with
          | none => rw [hq] at hF; cases hF
          | some (.inl k) => rw [hq] at hF; cases hF
          | some (.inr t) =>
            refine t_evaluates hτ g hc hq n240 (by omega) fun I3 L3 f3 g3 => ?_
            refine t_does hτ (z.kept f3 (fun i => by unfold EVW; omega)) hc (by omega) fun L4 f4 z4 => ?_
            rw [zn_a c 1 1 rfl]
            have e1 : evC S V3 c = vlE (ev1 S.2 V3 t) := by unfold evC; rw [hq]
            rw [e1] at st
            exact more _ _ _ _ ((f3.wi fun a i z => by unfold EVW at z; unfold RCW; omega).tr (f4.wi fun a i z => by unfold RCW; omega)) st (g3.kept hτ (f4.wi fun a i z => by unfold XW; omega)) z4 ((l.kept f3 (fun i => by unfold EVW; omega) (fun i => by unfold EVW; omega)).kept f4 (fun i => by omega) (fun i => by omega))
        have nev : due S O M W all V3 c = false → wp_c d 209 [.ref 1315, .int (zi c)] (tw τ I' L') (tv τ fun I4 L4 => wp_r d 301 (86, [.ref 1315, .int (bz all), .int (zi 1), .int (zi c + zi 1)], [], tw τ I4 L4) (tv τ Q)) := fun hdu => by
          rw [if_neg (by rw [hdu]; simp), if_neg (by rw [hdu]; simp)] at st
          refine t_does hτ z hc (by omega) fun L4 f4 z4 => ?_
          rw [zn_a c 1 1 rfl]
          exact more _ _ _ _ (f4.wi fun a i z => by unfold RCW; omega) st (g.kept hτ (f4.wi fun a i z => by unfold XW; omega)) z4 (l.kept f4 (fun i => by omega) (fun i => by omega))
        rw [zn_a c 1 1 rfl] at nev
        rw [bz_0]
        unfold due at ev nev
        refine ⟨fun a0 => ⟨zn_in hc (by omega), ?_⟩, fun a1 => ev (by cases all; exact absurd rfl a1; rfl)⟩
        rw [zn_ix (by omega), g.mk1 hc, bz_0]
        refine ⟨fun m0 => ?_, fun m1 => ev (by cases q : M c; exact absurd q m1; rw [a0]; rfl)⟩
        rw [show I' 1329 c = bz (W c) from g.2.2.2.2.2.2.2.1 c hc, bz_0]
        refine ⟨fun w0 => t_isOther hτ g l hc (by omega) ?_, fun w1 => ev (by cases q : W c; exact absurd q w1; rw [a0, m0]; rfl)⟩
        rw [bz_0]
        exact ⟨fun o0 => nev (by rw [a0, m0, w0, o0]; rfl), fun o1 => ev (by rw [a0, m0, w0]; cases q : exB (fun e => dir S c e && othB O V3 e) 240; exact absurd q o1; rfl)⟩
    refine k301_78 hτ (by omega) ⟨fun z => absurd z (by decide), fun _ => loop 0 I L (by omega) fr false ⟨Z, V2, n, hs, ⟨rfl, fun x hx => absurd hx (by omega)⟩⟩⟩
theorem t_recalculates (hτ : tw_ok τ) (h0 : tst τ I L B S H V O M W au ev) {all : Bool} {Q : tw_I → tw_L → Prop} (hd : 720 ≤ d) (h : ∀ V2 n I2 L2, twf RCW I L I2 L2 → rcR S V O M W all V2 n → tst τ I2 L2 B S H V2 V2 (fun _ => false) (fun c => rch S c c) au n → tlk L2 S → Q I2 L2) : wp_c d 301 [.ref 1315, .int (bz all)] (tw τ I L) (tv τ Q) := by
  have hS := h0.shk
  refine k301 hτ (by omega) (t_links hτ h0 (by omega) fun I1 L1 f1 g1 l1 => ?_)
  rintro I2 rfl
  have f2 : twf (fun a i => a = 1315 ∧ i = 16) I1 L1 (cm_u2 I1 1315 16 (zi 0)) L1 := twf.rf.pI ⟨by omega, by omega⟩ _
  have g2 := g1.sev hτ (n := 0) f2 (by rw [u2_same]; rfl) (by omega)
  refine t_beginsDone hτ (by omega) fun L3 f3 z3 => ?_
  have g3 := g2.kept hτ (f3.wi fun a i z => by unfold XW; omega)
  have l3 := l1.kept f3 (fun i => by omega) (fun i => by omega)
  have fr0 : twf RCW I L (cm_u2 I1 1315 16 (zi 0)) L3 := ((f1.wi fun a i z => by unfold ZW BW at z; unfold RCW; omega).tr (f2.wi fun a i z => by unfold RCW; omega)).tr (f3.wi fun a i z => by unfold RCW; omega)
  generalize cm_u2 I1 1315 16 (zi 0) = I2 at *
  have loop : ∀ c J K, c ≤ 240 → (twf RCW I L J K ∧ tst τ J K B S H (fil (cyV S V) (fun _ => true) c V) O M W au 0 ∧ tdn K (fun e => decide (e < c) && dn0 S e) ∧ tlk K S) → ∀ x3, wp_r (d - 1) 301 (15, [.ref 1315, .int (bz all), .int (zi c), x3], [], tw τ J K) (tv τ Q) := by
    refine up_ind 240 (W := fun c J K => ∀ x3, wp_r (d - 1) 301 (15, [.ref 1315, .int (bz all), .int (zi c), x3], [], tw τ J K) (tv τ Q)) (P := fun c J K => twf RCW I L J K ∧ tst τ J K B S H (fil (cyV S V) (fun _ => true) c V) O M W au 0 ∧ tdn K (fun e => decide (e < c) && dn0 S e) ∧ tlk K S) (fun J K hP x3 => ?_) (fun c J K hc hP ih x3 => ?_)
    · obtain ⟨fr, g, z, l⟩ := hP
      refine k301_15 hτ (by omega) ⟨fun z => absurd z (by decide), fun _ => t_sweeps hτ (by omega) I L h 240 (fun e => decide (e < 240) && dn0 S e) (cyV S V) 0 J K _ (by omega) fr ⟨g.ext (fun _ _ => rfl) rfl (fun c hc => ?_) (fun _ _ => rfl), (rcI.start V O M W all).ext hS (fun c hc => ?_) (fun _ _ => rfl), z, l, fun e he => ?_⟩⟩
      · unfold fil; rw [if_pos ⟨hc, rfl⟩]
      · rw [decide_eq_true hc, Bool.true_and]
      · show (decide (e < 240) && dn0 S e) = false
        rw [decide_eq_false (by omega), Bool.false_and]
    · obtain ⟨fr, g, z, l⟩ := hP
      have l3 := cty_lt (S.1 c)
      have fat : fil (cyV S V) (fun _ => true) c V c = V c := fil_at _ _ _ _ (Nat.le_refl _)
      have keepV : rch S c c = false → fil (cyV S V) (fun _ => true) (c + 1) V = fil (cyV S V) (fun _ => true) c V := fun q => by
        rw [fil_t _ _ _ _ rfl, show cyV S V c = V c by unfold cyV; rw [q]; rfl]
        have := up_id (fil (cyV S V) (fun _ => true) c V) c
        rwa [fat] at this
      have keepD : dn0 S c = false → tdn K (fun e => decide (e < c + 1) && dn0 S e) := fun q => z.ext fun e he => by
        by_cases x : e = c
        · subst x; rw [q, Bool.and_false, Bool.and_false]
        · congr 2; apply propext; omega
      have upD : ∀ L2, tdn L2 (up1 (fun e => decide (e < c) && dn0 S e) c true) → dn0 S c = true → tdn L2 (fun e => decide (e < c + 1) && dn0 S e) := fun L2 z2 q => z2.ext fun e he => by
        by_cases x : e = c
        · subst x; rw [up_s, q, decide_eq_true (by omega)]; rfl
        · rw [up_n _ _ _ x]; congr 2; apply propext; omega
      have set : rch S c c = true → ∀ I2 L2, twf RCW J K I2 L2 → tst τ I2 L2 B S H (fil (cyV S V) (fun _ => true) c V) O M W au 0 → tdn L2 (fun e => decide (e < c + 1) && dn0 S e) → tlk L2 S → ∀ I3, I3 = cm_u2 I2 1324 c (zi 2) → ∀ L4, L4 = cm_u2 L2 1325 c (zl 1) → wp_r (d - 1) 301 (15, [.ref 1315, .int (bz all), .int (zi ((c + 1 : Nat) : Int)), x3], [], tw τ I3 L4) (tv τ Q) := fun q I2 L2 f2 g2 z2 l2 I3 e3 L4 e4 => by
        subst e3 e4
        have f : twf (fun a i => (a = 1324 ∨ a = 1325 ∨ a = 1328) ∧ i = c) I2 L2 (cm_u2 I2 1324 c (zi 2)) (cm_u2 L2 1325 c (zl 1)) := (twf.rf.pI (by omega) _).pL (by omega) _
        have g3 := g2.val hτ (v := (2, zl 1)) (m := M c) hc f (by rw [u2_same]; rfl) (by rw [u2_same]) (by rw [u2_ne _ _ _ _ (by omega)]; exact g2.mk1 hc) (.inr (.inr ⟨rfl, 1, rfl, by omega, by omega⟩))
        rw [up_id] at g3
        refine ih _ _ ⟨(fr.tr f2).tr (f.wi fun a i z => by unfold RCW; omega), ?_, z2.kept f (fun i => by omega), l2.kept f (fun i => by omega) (fun i => by omega)⟩ x3
        rw [fil_t _ _ _ _ rfl, show cyV S V c = (2, zl 1) by unfold cyV; rw [q]; rfl]
        exact g3
      have noset : rch S c c = false → ∀ I2 L2, twf RCW J K I2 L2 → tst τ I2 L2 B S H (fil (cyV S V) (fun _ => true) c V) O M W au 0 → tdn L2 (fun e => decide (e < c + 1) && dn0 S e) → tlk L2 S → wp_r (d - 1) 301 (15, [.ref 1315, .int (bz all), .int (zi ((c + 1 : Nat) : Int)), x3], [], tw τ I2 L2) (tv τ Q) := fun q I2 L2 f2 g2 z2 l2 => ih _ _ ⟨fr.tr f2, by rw [keepV q]; exact g2, z2, l2⟩ x3
      refine k301_15 hτ (by omega) ?_
      rw [zi_lt (by omega) (by omega) (by omega) (by omega), zn_ix (by omega), g.ty hc, zi_eq (by omega) (by omega) (by omega) (by omega), zn_a c 1 1 rfl]
      refine ⟨fun _ => ⟨zn_in (show c < 2400 by omega) (by omega), fun y => ?_, fun y => ?_⟩, fun z => absurd (by omega) z⟩
      · have hF : isF S c = true := decide_eq_true (by omega)
        refine t_isCyclic hτ l hc (by omega) ?_
        cases q : rch S c c with
        | false =>
          refine ⟨fun _ => t_isCyclic hτ l hc (by omega) ?_, fun z => absurd rfl z⟩
          rw [q]
          exact ⟨fun _ => noset q J K twf.rf g (keepD (by unfold dn0; rw [hF, q]; rfl)) l, fun z => absurd rfl z⟩
        | true =>
          refine ⟨fun z => absurd z (by decide), fun _ => t_does hτ z hc (by omega) fun L5 f5 z5 => ?_⟩
          have l5 := l.kept f5 (fun i => by omega) (fun i => by omega)
          refine t_isCyclic hτ l5 hc (by omega) ?_
          rw [q]
          exact ⟨fun z => absurd z (by decide), fun _ => ⟨zn_in hc (by omega), set q J L5 (f5.wi fun a i z => by unfold RCW; omega) (g.kept hτ (f5.wi fun a i z => by unfold XW; omega)) (upD L5 z5 (by unfold dn0; rw [q, Bool.or_true])) l5⟩⟩
      · have hF : isF S c = false := decide_eq_false (by omega)
        refine t_does hτ z hc (by omega) fun L5 f5 z5 => ?_
        have l5 := l.kept f5 (fun i => by omega) (fun i => by omega)
        have g5 := g.kept hτ (f5.wi fun a i z => by unfold XW; omega)
        have z6 := upD L5 z5 (by unfold dn0; rw [hF]; rfl)
        refine t_isCyclic hτ l5 hc (by omega) ?_
        cases q : rch S c c with
        | false => exact ⟨fun _ => noset q J L5 (f5.wi fun a i z => by unfold RCW; omega) g5 z6 l5, fun z => absurd rfl z⟩
        | true => exact ⟨fun z => absurd z (by decide), fun _ => ⟨zn_in hc (by omega), set q J L5 (f5.wi fun a i z => by unfold RCW; omega) g5 z6 l5⟩⟩
  exact loop 0 I2 L3 (by omega) ⟨fr0, by rw [fil_0]; exact g3, z3.ext fun e he => by rw [decide_eq_false (by omega)]; rfl, l3⟩ _
end
