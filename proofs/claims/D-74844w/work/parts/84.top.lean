/-! THE TWIN: operations that reckon anew -/
noncomputable def rcV (S : Sh) (V O : Nat → Vl) (M W : Nat → Bool) (all : Bool) : Nat → Vl :=
  haveI := Classical.propDecidable (∃ V2 n, rcR S V O M W all V2 n)
  if h : ∃ V2 n, rcR S V O M W all V2 n then h.choose else V
noncomputable def rcN (S : Sh) (V O : Nat → Vl) (M W : Nat → Bool) (all : Bool) : Nat :=
  haveI := Classical.propDecidable (∃ V2 n, rcR S V O M W all V2 n)
  if h : ∃ V2 n, rcR S V O M W all V2 n then h.choose_spec.choose else 0
theorem rcV_eq {S : Sh} {V O V2 : Nat → Vl} {M W : Nat → Bool} {all : Bool} {n : Nat} (hS : shk S) (h : rcR S V O M W all V2 n) : (∀ c, c < 240 → rcV S V O M W all c = V2 c) ∧ rcN S V O M W all = n := by
  have hex : ∃ V2 n, rcR S V O M W all V2 n := ⟨V2, n, h⟩
  unfold rcV rcN
  rw [dif_pos hex, dif_pos hex]
  exact rcR_one hS hex.choose_spec.choose_spec h
noncomputable def chV (au : Bool) (S : Sh) (V O : Nat → Vl) (M W : Nat → Bool) : Nat → Vl := if au then rcV S V O M W false else V
noncomputable def chO (au : Bool) (S : Sh) (V O : Nat → Vl) (M W : Nat → Bool) : Nat → Vl := if au then rcV S V O M W false else O
def chM (au : Bool) (M : Nat → Bool) : Nat → Bool := if au then (fun _ => false) else M
def chW (au : Bool) (S : Sh) (W : Nat → Bool) : Nat → Bool := if au then (fun c => rch S c c) else W
noncomputable def chE (au : Bool) (S : Sh) (V O : Nat → Vl) (M W : Nat → Bool) (ev : Nat) : Nat := if au then rcN S V O M W false else ev
/-- values put by -/
def tby (I : tw_I) (L : tw_L) (V O : Nat → Vl) (M W : Nat → Bool) (ev : Nat) : Prop := tvl 1336 1337 I L V ∧ tvl 1338 1339 I L O ∧ tmk 1340 I M ∧ tmk 1341 I W ∧ I 1315 56 = zi ev
def BYW (a i : Nat) : Prop := (1336 ≤ a ∧ a ≤ 1341) ∨ (a = 1315 ∧ i = 56)
def VLW (a i : Nat) : Prop := (1324 ≤ a ∧ a ≤ 1329) ∨ (a = 1315 ∧ i = 16)
section
variable {τ : tw_K} {I : tw_I} {L : tw_L} {d : Nat} {B : List Nat} {S : Sh} {H : List Sh} {V O : Nat → Vl} {M W : Nat → Bool} {au : Bool} {ev : Nat}
theorem tby.kept {P : Nat → Nat → Prop} {I2 : tw_I} {L2 : tw_L} (h : tby I L V O M W ev) (f : twf P I L I2 L2) (hp : ∀ a i, BYW a i → ¬ P a i) : tby I2 L2 V O M W ev := by
  obtain ⟨h1, h2, h3, h4, h5⟩ := h
  exact ⟨h1.kept f (fun c => hp _ _ (by unfold BYW; omega)) (fun c => hp _ _ (by unfold BYW; omega)), h2.kept f (fun c => hp _ _ (by unfold BYW; omega)) (fun c => hp _ _ (by unfold BYW; omega)), h3.kept f (fun c => hp _ _ (by unfold BYW; omega)), h4.kept f (fun c => hp _ _ (by unfold BYW; omega)), by rw [(f _ _ (hp _ _ (by unfold BYW; omega))).1]; exact h5⟩
theorem t_rcl (hτ : tw_ok τ) (h0 : tst τ I L B S H V O M W au ev) {all : Bool} {Q : tw_I → tw_L → Prop} (hd : 720 ≤ d) (h : ∀ I2 L2, twf RCW I L I2 L2 → tst τ I2 L2 B S H (rcV S V O M W all) (rcV S V O M W all) (fun _ => false) (fun c => rch S c c) au (rcN S V O M W all) → Q I2 L2) : wp_c d 301 [.ref 1315, .int (bz all)] (tw τ I L) (tv τ Q) := by
  have hS := h0.shk
  refine t_recalculates hτ h0 hd fun V2 n I2 L2 f r g l => h I2 L2 f ?_
  obtain ⟨e1, e2⟩ := rcV_eq hS r
  rw [e2]
  exact (g.ext (fun _ _ => rfl) rfl e1 (fun _ _ => rfl)).ex2 e1 fun _ _ => rfl
theorem t_changed (hτ : tw_ok τ) (h0 : tst τ I L B S H V O M W au ev) {Q : tw_I → tw_L → Prop} (hd : 721 ≤ d) (h : ∀ I2 L2, tst τ I2 L2 B S H (chV au S V O M W) (chO au S V O M W) (chM au M) (chW au S W) au (chE au S V O M W ev) → Q I2 L2) : wp_c d 188 [.ref 1315] (tw τ I L) (tv τ Q) := by
  refine k188 hτ (by omega) ?_
  rw [show I 1315 15 = bz au from h0.2.2.2.2.2.2.2.2.1]
  cases au with
  | false => exact ⟨fun _ => h I L h0, fun z => absurd rfl z⟩
  | true => exact ⟨fun z => absurd z (by decide), fun _ => t_rcl (all := false) hτ h0 (by omega) fun I2 L2 f g => h I2 L2 g⟩
theorem t_setAutomatic (hτ : tw_ok τ) (h0 : tst τ I L B S H V O M W au ev) (b : Bool) {Q : Int32 → tw_I → tw_L → Prop} (hd : 722 ≤ d) (h : ∀ I2 L2, tst τ I2 L2 B S H (chV b S V O M W) (chO b S V O M W) (chM b M) (chW b S W) b (chE b S V O M W ev) → Q (bz au) I2 L2) : wp_c d 307 [.ref 1315, .int (bz b)] (tw τ I L) (ti τ Q) := by
  refine k307 hτ (by omega) ⟨bz_fit _, ?_⟩
  rintro I1 rfl
  have e15 : I 1315 15 = bz au := h0.2.2.2.2.2.2.2.2.1
  have f : twf (fun a i => a = 1315 ∧ i = 15) I L (cm_u2 I 1315 15 (bz b)) L := twf.rf.pI ⟨by omega, by omega⟩ _
  have g : tst τ (cm_u2 I 1315 15 (bz b)) L B S H V O M W b ev := by
    obtain ⟨g1, g2, g3, g4, g5, g6, g7, g8, g9, g10, g11⟩ := h0
    exact ⟨g1.kept hτ (fun a i z => by omega) f, g2.kept f (by omega) (fun i => by omega), g3.kept f (fun a i z => by unfold KW; omega), g4.kept f (by omega) (fun k hk a i z => by unfold KW; omega), g5.kept f (fun c => by omega) (fun c => by omega), g6.kept f (fun c => by omega) (fun c => by omega), g7.kept f (fun c => by omega), g8.kept f (fun c => by omega), by rw [u2_same], by rw [(f _ _ (by omega)).1]; exact g10, g11⟩
  refine t_changed hτ g (by omega) fun I2 L2 g2 => ?_
  rw [e15]
  exact ⟨bz_fit _, h I2 L2 g2⟩
theorem t_recalculate (hτ : tw_ok τ) (h0 : tst τ I L B S H V O M W au ev) {Q : Int32 → tw_I → tw_L → Prop} (hd : 721 ≤ d) (h : ∀ I2 L2, tst τ I2 L2 B S H (rcV S V O M W false) (rcV S V O M W false) (fun _ => false) (fun c => rch S c c) au (rcN S V O M W false) → Q (zi (rcN S V O M W false)) I2 L2) : wp_c d 299 [.ref 1315] (tw τ I L) (ti τ Q) :=
  k299 hτ (by omega) (t_rcl (all := false) hτ h0 (by omega) fun I2 L2 f g => by rw [show I2 1315 16 = zi (rcN S V O M W false) from g.2.2.2.2.2.2.2.2.2.1]; exact h I2 L2 g)
theorem t_recalculateAll (hτ : tw_ok τ) (h0 : tst τ I L B S H V O M W au ev) {Q : Int32 → tw_I → tw_L → Prop} (hd : 721 ≤ d) (h : ∀ I2 L2, tst τ I2 L2 B S H (rcV S V O M W true) (rcV S V O M W true) (fun _ => false) (fun c => rch S c c) au (rcN S V O M W true) → Q (zi (rcN S V O M W true)) I2 L2) : wp_c d 300 [.ref 1315] (tw τ I L) (ti τ Q) :=
  k300 hτ (by omega) (t_rcl (all := true) hτ h0 (by omega) fun I2 L2 f g => by rw [show I2 1315 16 = zi (rcN S V O M W true) from g.2.2.2.2.2.2.2.2.2.1]; exact h I2 L2 g)
theorem t_lastEvaluated (hτ : tw_ok τ) (h0 : tst τ I L B S H V O M W au ev) {Q : Int32 → tw_I → tw_L → Prop} (hd : 1 ≤ d) (h : Q (zi ev) I L) : wp_c d 248 [.ref 1315] (tw τ I L) (ti τ Q) := by
  refine k248 hτ hd ?_
  rw [show I 1315 16 = zi ev from h0.2.2.2.2.2.2.2.2.2.1]
  exact h
theorem t_putsBy (hτ : tw_ok τ) (h0 : tst τ I L B S H V O M W au ev) {Q : tw_I → tw_L → Prop} (hd : 1 ≤ d) (h : ∀ I2 L2, twf BYW I L I2 L2 → tby I2 L2 V O M W ev → Q I2 L2) : wp_c d 286 [.ref 1315] (tw τ I L) (tv τ Q) := by
  refine k286 hτ hd ?_
  have loop : ∀ (c : Nat) J K, c ≤ 240 → (twf BYW I L J K ∧ ∀ x, x < c → J 1336 x = I 1324 x ∧ K 1337 x = L 1325 x ∧ J 1338 x = I 1326 x ∧ K 1339 x = L 1327 x ∧ J 1340 x = I 1328 x ∧ J 1341 x = I 1329 x) → wp_r (d - 1) 286 (2, [.ref 1315, .int (zi c)], [], tw τ J K) (tv τ Q) := by
    refine up_ind 240 (W := fun c J K => wp_r (d - 1) 286 (2, [.ref 1315, .int (zi c)], [], tw τ J K) (tv τ Q)) (P := fun c J K => twf BYW I L J K ∧ ∀ x, x < c → J 1336 x = I 1324 x ∧ K 1337 x = L 1325 x ∧ J 1338 x = I 1326 x ∧ K 1339 x = L 1327 x ∧ J 1340 x = I 1328 x ∧ J 1341 x = I 1329 x) (fun J K hP => ?_) (fun c J K hc hP ih => ?_)
    · obtain ⟨f, p⟩ := hP
      obtain ⟨g1, g2, g3, g4, g5, g6, g7, g8, g9, g10, g11⟩ := h0
      refine k286_2 hτ ⟨fun z => absurd z (by decide), fun _ => ?_⟩
      rintro I7 rfl
      have f2 : twf (fun a i => a = 1315 ∧ i = 56) J K (cm_u2 J 1315 56 (J 1315 16)) K := twf.rf.pI ⟨by omega, by omega⟩ _
      have p2 : ∀ a x, 1336 ≤ a → cm_u2 J 1315 56 (J 1315 16) a x = J a x := fun a x ha => u2_ne _ _ _ _ (by omega) _
      refine h _ _ (f.tr (f2.wi fun a i z => by unfold BYW; omega)) ⟨fun x hx => ?_, fun x hx => ?_, fun x hx => ?_, fun x hx => ?_, ?_⟩
      · rw [p2 _ _ (by omega), (p x hx).1, (p x hx).2.1]; exact g5 x hx
      · rw [p2 _ _ (by omega), (p x hx).2.2.1, (p x hx).2.2.2.1]; exact g6 x hx
      · rw [p2 _ _ (by omega), (p x hx).2.2.2.2.1]; exact g7 x hx
      · rw [p2 _ _ (by omega), (p x hx).2.2.2.2.2]; exact g8 x hx
      · rw [u2_same, (f _ _ (by unfold BYW; omega)).1]; exact g10
    · obtain ⟨f, p⟩ := hP
      have e : ∀ a, (1324 ≤ a ∧ a ≤ 1329) → J a c = I a c ∧ K a c = L a c := fun a ha => f a c (by unfold BYW; omega)
      refine k286_2 hτ ?_
      rw [zi_lt (by omega) (by omega) (by omega) (by omega), zn_ix (by omega), zn_a c 1 1 rfl]
      refine ⟨fun _ => ⟨zn_in hc (by omega), ?_⟩, fun z => absurd (by omega) z⟩
      rintro I1 rfl L2 rfl I3 rfl L4 rfl
      rw [u2_ne _ _ _ _ (by omega), u2_ne _ _ _ _ (by omega), u2_ne _ _ _ _ (by omega), u2_ne _ _ _ _ (by omega), (e 1328 (by omega)).1, h0.mk1 hc]
      refine ⟨bz_or _, ?_⟩
      rintro I5 rfl
      rw [u2_ne _ _ _ _ (by omega), u2_ne _ _ _ _ (by omega), u2_ne _ _ _ _ (by omega), (e 1329 (by omega)).1, show I 1329 c = bz (W c) from h0.2.2.2.2.2.2.2.1 c hc]
      refine ⟨bz_or _, ?_⟩
      rintro I6 rfl
      rw [(e 1324 (by omega)).1, (e 1325 (by omega)).2, (e 1326 (by omega)).1, (e 1327 (by omega)).2]
      refine ih _ _ ⟨(((((f.pI (by unfold BYW; omega) _).pL (by unfold BYW; omega) _).pI (by unfold BYW; omega) _).pL (by unfold BYW; omega) _).pI (by unfold BYW; omega) _).pI (by unfold BYW; omega) _, fun x hx => ?_⟩
      by_cases ex : x = c
      · subst ex
        refine ⟨by rw [u2_ne _ _ _ _ (by omega), u2_ne _ _ _ _ (by omega), u2_ne _ _ _ _ (by omega), u2_same], by rw [u2_ne _ _ _ _ (by omega), u2_same], by rw [u2_ne _ _ _ _ (by omega), u2_ne _ _ _ _ (by omega), u2_same], by rw [u2_same], by rw [u2_ne _ _ _ _ (by omega), u2_same, h0.mk1 hc], by rw [u2_same]; exact (h0.2.2.2.2.2.2.2.1 x hc).symm⟩
      · have := p x (by omega)
        refine ⟨by rw [u2_nj _ _ _ _ _ (by omega), u2_nj _ _ _ _ _ (by omega), u2_nj _ _ _ _ _ (by omega), u2_nj _ _ _ _ _ (by omega)]; exact this.1, by rw [u2_nj _ _ _ _ _ (by omega), u2_nj _ _ _ _ _ (by omega)]; exact this.2.1, by rw [u2_nj _ _ _ _ _ (by omega), u2_nj _ _ _ _ _ (by omega), u2_nj _ _ _ _ _ (by omega), u2_nj _ _ _ _ _ (by omega)]; exact this.2.2.1, by rw [u2_nj _ _ _ _ _ (by omega), u2_nj _ _ _ _ _ (by omega)]; exact this.2.2.2.1, by rw [u2_nj _ _ _ _ _ (by omega), u2_nj _ _ _ _ _ (by omega), u2_nj _ _ _ _ _ (by omega), u2_nj _ _ _ _ _ (by omega)]; exact this.2.2.2.2.1, by rw [u2_nj _ _ _ _ _ (by omega), u2_nj _ _ _ _ _ (by omega), u2_nj _ _ _ _ _ (by omega), u2_nj _ _ _ _ _ (by omega)]; exact this.2.2.2.2.2⟩
  exact loop 0 I L (by omega) ⟨twf.rf, fun x hx => absurd hx (by omega)⟩
theorem t_takesBack {V2 O2 : Nat → Vl} {M2 W2 : Nat → Bool} {ev2 : Nat} (hτ : tw_ok τ) (h0 : tst τ I L B S H V2 O2 M2 W2 au ev2) (hb : tby I L V O M W ev) (hev : ev ≤ 240) {Q : tw_I → tw_L → Prop} (hd : 1 ≤ d) (h : ∀ I2 L2, twf VLW I L I2 L2 → tst τ I2 L2 B S H V O M W au ev → Q I2 L2) : wp_c d 317 [.ref 1315] (tw τ I L) (tv τ Q) := by
  obtain ⟨b1, b2, b3, b4, b5⟩ := hb
  refine k317 hτ hd ?_
  have loop : ∀ (c : Nat) J K, c ≤ 240 → (twf VLW I L J K ∧ ∀ x, x < c → J 1324 x = I 1336 x ∧ K 1325 x = L 1337 x ∧ J 1326 x = I 1338 x ∧ K 1327 x = L 1339 x ∧ J 1328 x = I 1340 x ∧ J 1329 x = I 1341 x) → wp_r (d - 1) 317 (2, [.ref 1315, .int (zi c)], [], tw τ J K) (tv τ Q) := by
    refine up_ind 240 (W := fun c J K => wp_r (d - 1) 317 (2, [.ref 1315, .int (zi c)], [], tw τ J K) (tv τ Q)) (P := fun c J K => twf VLW I L J K ∧ ∀ x, x < c → J 1324 x = I 1336 x ∧ K 1325 x = L 1337 x ∧ J 1326 x = I 1338 x ∧ K 1327 x = L 1339 x ∧ J 1328 x = I 1340 x ∧ J 1329 x = I 1341 x) (fun J K hP => ?_) (fun c J K hc hP ih => ?_)
    · obtain ⟨f, p⟩ := hP
      obtain ⟨g1, g2, g3, g4, g5, g6, g7, g8, g9, g10, g11⟩ := h0
      refine k317_2 hτ ⟨fun z => absurd z (by decide), fun _ => ?_⟩
      rintro I7 rfl
      have f2 : twf (fun a i => a = 1315 ∧ i = 16) J K (cm_u2 J 1315 16 (J 1315 56)) K := twf.rf.pI ⟨by omega, by omega⟩ _
      have p2 : ∀ a x, 1324 ≤ a → cm_u2 J 1315 16 (J 1315 56) a x = J a x := fun a x ha => u2_ne _ _ _ _ (by omega) _
      have fa := f.tr (f2.wi fun a i z => by unfold VLW; omega)
      refine h _ _ fa ⟨g1.kept hτ (fun a i z => by unfold VLW at z; omega) fa, g2.kept fa (by unfold VLW; omega) (fun i => by unfold VLW; omega), g3.kept fa (fun a i z => by unfold VLW at z; unfold KW; omega), g4.kept fa (by unfold VLW; omega) (fun k hk a i z => by unfold VLW at z; unfold KW; omega), fun x hx => ?_, fun x hx => ?_, fun x hx => ?_, fun x hx => ?_, by rw [(fa _ _ (by unfold VLW; omega)).1]; exact g9, ?_, hev⟩
      · rw [p2 _ _ (by omega), (p x hx).1, (p x hx).2.1]; exact b1 x hx
      · rw [p2 _ _ (by omega), (p x hx).2.2.1, (p x hx).2.2.2.1]; exact b2 x hx
      · rw [p2 _ _ (by omega), (p x hx).2.2.2.2.1]; exact b3 x hx
      · rw [p2 _ _ (by omega), (p x hx).2.2.2.2.2]; exact b4 x hx
      · rw [u2_same, (f _ _ (by unfold VLW; omega)).1]; exact b5
    · obtain ⟨f, p⟩ := hP
      have e : ∀ a, (1336 ≤ a ∧ a ≤ 1341) → J a c = I a c ∧ K a c = L a c := fun a ha => f a c (by unfold VLW; omega)
      refine k317_2 hτ ?_
      rw [zi_lt (by omega) (by omega) (by omega) (by omega), zn_ix (by omega), zn_a c 1 1 rfl]
      refine ⟨fun _ => ⟨zn_in hc (by omega), ?_⟩, fun z => absurd (by omega) z⟩
      rintro I1 rfl L2 rfl I3 rfl L4 rfl
      rw [u2_ne _ _ _ _ (by omega), u2_ne _ _ _ _ (by omega), u2_ne _ _ _ _ (by omega), u2_ne _ _ _ _ (by omega), (e 1340 (by omega)).1, b3 c hc]
      refine ⟨bz_or _, ?_⟩
      rintro I5 rfl
      rw [u2_ne _ _ _ _ (by omega), u2_ne _ _ _ _ (by omega), u2_ne _ _ _ _ (by omega), (e 1341 (by omega)).1, b4 c hc]
      refine ⟨bz_or _, ?_⟩
      rintro I6 rfl
      rw [(e 1336 (by omega)).1, (e 1337 (by omega)).2, (e 1338 (by omega)).1, (e 1339 (by omega)).2]
      refine ih _ _ ⟨(((((f.pI (by unfold VLW; omega) _).pL (by unfold VLW; omega) _).pI (by unfold VLW; omega) _).pL (by unfold VLW; omega) _).pI (by unfold VLW; omega) _).pI (by unfold VLW; omega) _, fun x hx => ?_⟩
      by_cases ex : x = c
      · subst ex
        refine ⟨by rw [u2_ne _ _ _ _ (by omega), u2_ne _ _ _ _ (by omega), u2_ne _ _ _ _ (by omega), u2_same], by rw [u2_ne _ _ _ _ (by omega), u2_same], by rw [u2_ne _ _ _ _ (by omega), u2_ne _ _ _ _ (by omega), u2_same], by rw [u2_same], by rw [u2_ne _ _ _ _ (by omega), u2_same]; exact (b3 x hc).symm, by rw [u2_same]; exact (b4 x hc).symm⟩
      · have := p x (by omega)
        refine ⟨by rw [u2_nj _ _ _ _ _ (by omega), u2_nj _ _ _ _ _ (by omega), u2_nj _ _ _ _ _ (by omega), u2_nj _ _ _ _ _ (by omega)]; exact this.1, by rw [u2_nj _ _ _ _ _ (by omega), u2_nj _ _ _ _ _ (by omega)]; exact this.2.1, by rw [u2_nj _ _ _ _ _ (by omega), u2_nj _ _ _ _ _ (by omega), u2_nj _ _ _ _ _ (by omega), u2_nj _ _ _ _ _ (by omega)]; exact this.2.2.1, by rw [u2_nj _ _ _ _ _ (by omega), u2_nj _ _ _ _ _ (by omega)]; exact this.2.2.2.1, by rw [u2_nj _ _ _ _ _ (by omega), u2_nj _ _ _ _ _ (by omega), u2_nj _ _ _ _ _ (by omega), u2_nj _ _ _ _ _ (by omega)]; exact this.2.2.2.2.1, by rw [u2_nj _ _ _ _ _ (by omega), u2_nj _ _ _ _ _ (by omega), u2_nj _ _ _ _ _ (by omega), u2_nj _ _ _ _ _ (by omega)]; exact this.2.2.2.2.2⟩
  exact loop 0 I L (by omega) ⟨twf.rf, fun x hx => absurd hx (by omega)⟩
theorem BYW_XW (a i : Nat) (h : BYW a i) : XW a i := by unfold BYW at h; unfold XW; omega
theorem t_pendingCount (hτ : tw_ok τ) (h0 : tst τ I L B S H V O M W au ev) {Q : Int32 → tw_I → tw_L → Prop} (hd : 721 ≤ d) (h : ∀ I2 L2, tst τ I2 L2 B S H V O M W au ev → Q (zi (rcN S V O M W false)) I2 L2) : wp_c d 281 [.ref 1315] (tw τ I L) (ti τ Q) := by
  have hev := h0.2.2.2.2.2.2.2.2.2.2
  refine k281 hτ (by omega) (t_putsBy hτ h0 (by omega) fun I1 L1 f1 b1 => t_rcl (all := false) hτ (h0.kept hτ (f1.wi BYW_XW)) (by omega) fun I2 L2 f2 g2 => ?_)
  rw [show I2 1315 16 = zi (rcN S V O M W false) from g2.2.2.2.2.2.2.2.2.2.1]
  exact t_takesBack hτ g2 (b1.kept f2 fun a i z => by unfold BYW at z; unfold RCW; omega) hev (by omega) fun I3 L3 f3 g3 => h I3 L3 g3
theorem t_isMarked (hτ : tw_ok τ) (h0 : tst τ I L B S H V O M W au ev) (x : Int32) {Q : Int32 → tw_I → tw_L → Prop} (hd : 3 ≤ d) (h1 : ∀ c : Nat, c < 240 → x = zi c → Q (bz (M c)) I L) (h2 : (¬ ∃ a : Nat, a < 240 ∧ x = zi a) → Q (zi (-1)) I L) : wp_c d 238 [.ref 1315, .int x] (tw τ I L) (ti τ Q) := by
  refine k238 hτ (by omega) (t_isCellX hτ x (by omega) (fun c hc ex => ⟨fun z => absurd z (by decide), fun _ => ?_⟩) (fun n => ⟨fun _ => h2 n, fun z => absurd rfl z⟩))
  subst ex
  have h1 := h1 c hc rfl
  rw [zn_ix (by omega), h0.mk1 hc, bz_0]
  refine ⟨zn_in hc (by omega), fun z => ?_, fun z => ?_⟩
  · rw [z] at h1; exact h1
  · cases q : M c with
    | false => exact absurd q z
    | true => rw [q] at h1; exact h1
theorem t_contentType (hτ : tw_ok τ) (h0 : tst τ I L B S H V O M W au ev) (x : Int32) {Q : Int32 → tw_I → tw_L → Prop} (hd : 3 ≤ d) (h1 : ∀ c : Nat, c < 240 → x = zi c → Q (zi (cty (S.1 c))) I L) (h2 : (¬ ∃ a : Nat, a < 240 ∧ x = zi a) → Q (zi (-1)) I L) : wp_c d 195 [.ref 1315, .int x] (tw τ I L) (ti τ Q) := by
  refine k195 hτ (by omega) (t_isCellX hτ x (by omega) (fun c hc ex => ⟨fun z => absurd z (by decide), fun _ => ?_⟩) (fun n => ⟨fun _ => h2 n, fun z => absurd rfl z⟩))
  subst ex
  rw [zn_ix (by omega), h0.ty hc]
  exact ⟨zn_in (show c < 2400 by omega) (by omega), h1 c hc rfl⟩
theorem t_valueType (hτ : tw_ok τ) (h0 : tst τ I L B S H V O M W au ev) (x : Int32) {Q : Int32 → tw_I → tw_L → Prop} (hd : 3 ≤ d) (h1 : ∀ c : Nat, c < 240 → x = zi c → Q (zi (V c).1) I L) (h2 : (¬ ∃ a : Nat, a < 240 ∧ x = zi a) → Q (zi (-1)) I L) : wp_c d 333 [.ref 1315, .int x] (tw τ I L) (ti τ Q) := by
  refine k333 hτ (by omega) (t_isCellX hτ x (by omega) (fun c hc ex => ⟨fun z => absurd z (by decide), fun _ => ?_⟩) (fun n => ⟨fun _ => h2 n, fun z => absurd rfl z⟩))
  subst ex
  rw [zn_ix (by omega), (h0.v1 hc).1]
  exact ⟨zn_in hc (by omega), h1 c hc rfl⟩
theorem t_number (hτ : tw_ok τ) (h0 : tst τ I L B S H V O M W au ev) (x : Int32) {Q : Int64 → tw_I → tw_L → Prop} (hd : 3 ≤ d) (h1 : ∀ c : Nat, c < 240 → x = zi c → Q (if (V c).1 = 1 then (V c).2 else zl 0) I L) (h2 : (¬ ∃ a : Nat, a < 240 ∧ x = zi a) → Q (zl 0) I L) : wp_c d 276 [.ref 1315, .int x] (tw τ I L) (tl τ Q) := by
  refine k276 hτ (by omega) (t_isCellX hτ x (by omega) (fun c hc ex => ⟨fun z => absurd z (by decide), fun _ => ?_⟩) (fun n => ⟨fun _ => h2 n, fun z => absurd rfl z⟩))
  subst ex
  have h1 := h1 c hc rfl
  have v := h0.v1 hc
  have v3 := vok_le v.2.2
  rw [zn_ix (by omega), v.1, v.2.1, zi_eq (by omega) (by omega) (by omega) (by omega)]
  refine ⟨zn_in hc (by omega), fun z => ?_, fun z => ?_⟩
  · rwa [if_pos (by omega)] at h1
  · rwa [if_neg (by omega)] at h1
theorem t_error (hτ : tw_ok τ) (h0 : tst τ I L B S H V O M W au ev) (x : Int32) {Q : Int32 → tw_I → tw_L → Prop} (hd : 3 ≤ d) (h1 : ∀ c : Nat, c < 240 → x = zi c → Q (if (V c).1 = 2 then (V c).2.toInt32 else zi 0) I L) (h2 : (¬ ∃ a : Nat, a < 240 ∧ x = zi a) → Q (zi (-1)) I L) : wp_c d 211 [.ref 1315, .int x] (tw τ I L) (ti τ Q) := by
  refine k211 hτ (by omega) (t_isCellX hτ x (by omega) (fun c hc ex => ⟨fun z => absurd z (by decide), fun _ => ?_⟩) (fun n => ⟨fun _ => h2 n, fun z => absurd rfl z⟩))
  subst ex
  have h1 := h1 c hc rfl
  have v := h0.v1 hc
  have v3 := vok_le v.2.2
  rw [zn_ix (by omega), v.1, v.2.1, zi_eq (by omega) (by omega) (by omega) (by omega)]
  refine ⟨zn_in hc (by omega), fun z => ?_, fun z => ?_⟩
  · rwa [if_pos (by omega)] at h1
  · rwa [if_neg (by omega)] at h1
end
