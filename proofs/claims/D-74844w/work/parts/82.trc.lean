/-! THE TWIN: reckoning anew -/
theorem dpT_lt {N : List Nm} (hN : nmo N) : ∀ t : Fm, ∀ e, dpT N t e = true → e < 240 := by
  have bx : ∀ a b e, a < 240 → b < 240 → bxd a b e = true → e < 240 := fun a b e ha hb h => by
    unfold bxd at h
    rw [decide_eq_true_eq] at h
    omega
  intro t
  induction t with
  | index v => intro e h; exact bx _ _ e (Nat.mod_lt _ (by decide)) (Nat.mod_lt _ (by decide)) h
  | elem a b =>
    intro e h
    cases a with
    | index u =>
      cases b with
      | index v => exact bx _ _ e (Nat.mod_lt _ (by decide)) (Nat.mod_lt _ (by decide)) h
      | _ => cases h
    | _ => cases h
  | length a iha =>
    intro e h
    cases a with
    | arg c =>
      have h : nmd N c e = true := h
      cases hr : nmR N c with
      | none =>
        unfold nmd at h
        unfold nmR at hr
        cases hb : (nmAt N c).bind fun n => N[n]? with
        | none => rw [hb] at h; cases h
        | some q => rw [hb] at hr; cases hr
      | some r =>
        cases r with
        | none =>
          unfold nmd at h
          unfold nmR at hr
          cases hb : (nmAt N c).bind fun n => N[n]? with
          | none => rw [hb] at h; cases h
          | some q =>
            rw [hb] at hr h
            obtain ⟨x, y⟩ := q
            have hr : some y = some none := hr
            cases hr
            cases h
        | some ab =>
          obtain ⟨a, b⟩ := ab
          obtain ⟨bx2, hd⟩ := nmR_ok hN hr
          rw [hd e] at h
          exact bx a b e bx2.1 bx2.2.1 h
    | _ => cases h
  | op2 o l r ihl ihr =>
    intro e h
    have h : (dpT N l e || dpT N r e) = true := h
    rcases Bool.or_eq_true_iff.mp h with q | q
    · exact ihl e q
    · exact ihr e q
  | op1 o a iha => intro e h; exact iha e h
  | old a iha => intro e h; exact iha e h
  | mul a as iha ihas =>
    intro e h
    cases a with
    | arg f => exact ihas e h
    | _ => cases h
  | div a r iha ihr =>
    intro e h
    have h : (dpT N a e || dpT N r e) = true := h
    rcases Bool.or_eq_true_iff.mp h with q | q
    · exact iha e q
    · exact ihr e q
  | _ => intro e h; cases h
theorem dir_lt {S : Sh} (hS : nmo S.2) {c e : Nat} (h : dir S c e = true) : e < 240 := by
  unfold dir at h
  split at h
  · exact dpT_lt hS _ e h
  · cases h
theorem cnt_lt {P : Nat → Bool} {c : Nat} (hc : c < 240) (h : P c = false) : cnt P 240 < 240 := by
  have := cnt_up (P := P) (Q := up1 P c true) h (up_s _ _ _) 240 fun d _ hd => (up_n _ _ _ hd).symm
  rw [if_pos hc] at this
  have := cnt_le (up1 P c true) 240
  omega
section
variable {τ : tw_K} {I : tw_I} {L : tw_L} {d : Nat} {B : List Nat} {S : Sh} {H : List Sh} {V O : Nat → Vl} {M W : Nat → Bool} {au : Bool} {ev : Nat}
theorem tst.shk (h : tst τ I L B S H V O M W au ev) : shk S := by
  refine ⟨fun c hc => (h.cell hc).2.2.1, fun q hq => ?_⟩
  obtain ⟨n, hn, e⟩ := List.mem_iff_getElem.mp hq
  exact (h.nm (n := n) (by rw [← e]; exact List.getElem?_eq_getElem hn)).2.1
theorem tst.ex2 {O2 : Nat → Vl} {W2 : Nat → Bool} (h : tst τ I L B S H V O M W au ev) (hO : ∀ c, c < 240 → O2 c = O c) (hW : ∀ c, c < 240 → W2 c = W c) : tst τ I L B S H V O2 M W2 au ev := by
  obtain ⟨h1, h2, h3, h4, h5, h6, h7, h8, h9, h10, h11⟩ := h
  refine ⟨h1, h2, h3, h4, h5, fun c hc => ?_, h7, fun c hc => ?_, h9, h10, h11⟩
  · rw [hO c hc]; exact h6 c hc
  · rw [hW c hc]; exact h8 c hc
theorem tst.sev (hτ : tw_ok τ) {I2 : tw_I} {L2 : tw_L} {n : Nat} (h : tst τ I L B S H V O M W au ev) (f : twf (fun a i => a = 1315 ∧ i = 16) I L I2 L2) (e : I2 1315 16 = zi n) (hn : n ≤ 240) : tst τ I2 L2 B S H V O M W au n := by
  obtain ⟨g1, g2, g3, g4, g5, g6, g7, g8, g9, g10, g11⟩ := h
  exact ⟨g1.kept hτ (fun a i z => by omega) f, g2.kept f (by omega) (fun i => by omega), g3.kept f (fun a i z => by unfold KW; omega), g4.kept f (by omega) (fun k hk a i z => by unfold KW; omega), g5.kept f (fun c => by omega) (fun c => by omega), g6.kept f (fun c => by omega) (fun c => by omega), g7.kept f (fun c => by omega), g8.kept f (fun c => by omega), by rw [(f _ _ (by omega)).1]; exact g9, e, hn⟩
theorem tst.fin (hτ : tw_ok τ) {I2 : tw_I} {L2 : tw_L} (h : tst τ I L B S H V O M W au ev) {c : Nat} {o : Vl} {m w : Bool} (f : twf (fun a i => (a = 1326 ∨ a = 1327 ∨ a = 1328 ∨ a = 1329) ∧ i = c) I L I2 L2) (h1 : I2 1326 c = zi o.1) (h2 : L2 1327 c = o.2) (hv : vok o) (h3 : I2 1328 c = bz m) (h4 : I2 1329 c = bz w) : tst τ I2 L2 B S H V (up1 O c o) (up1 M c m) (up1 W c w) au ev := by
  obtain ⟨g1, g2, g3, g4, g5, g6, g7, g8, g9, g10, g11⟩ := h
  refine ⟨g1.kept hτ (fun a i z => by omega) f, g2.kept f (by omega) (fun i => by omega), g3.kept f (fun a i z => by unfold KW; omega), g4.kept f (by omega) (fun k hk a i z => by unfold KW; omega), g5.kept f (fun c => by omega) (fun c => by omega), fun x hx => ?_, fun x hx => ?_, fun x hx => ?_, by rw [(f _ _ (by omega)).1]; exact g9, by rw [(f _ _ (by omega)).1]; exact g10, g11⟩
  · by_cases e : x = c
    · subst e; rw [up_s]; exact ⟨h1, h2, hv⟩
    · rw [up_n _ _ _ e, (f _ _ (by omega)).1, (f _ _ (by omega)).2]; exact g6 x hx
  · by_cases e : x = c
    · subst e; rw [up_s]; exact h3
    · rw [up_n _ _ _ e, (f _ _ (by omega)).1]; exact g7 x hx
  · by_cases e : x = c
    · subst e; rw [up_s]; exact h4
    · rw [up_n _ _ _ e, (f _ _ (by omega)).1]; exact g8 x hx
theorem tst.v1 (h : tst τ I L B S H V O M W au ev) {x : Nat} (hx : x < 240) : I 1324 x = zi (V x).1 ∧ L 1325 x = (V x).2 ∧ vok (V x) := h.2.2.2.2.1 x hx
theorem tst.o1 (h : tst τ I L B S H V O M W au ev) {x : Nat} (hx : x < 240) : I 1326 x = zi (O x).1 ∧ L 1327 x = (O x).2 ∧ vok (O x) := h.2.2.2.2.2.1 x hx
theorem vok_le {v : Vl} (h : vok v) : v.1 ≤ 2 := by rcases h with z | z | z <;> omega
theorem tdn.kept {W : Nat → Nat → Prop} {I2 : tw_I} {L2 : tw_L} {D : Nat → Bool} (h : tdn L D) (f : twf W I L I2 L2) (h1 : ∀ i, ¬ W 1335 i) : tdn L2 D := fun e he => by rw [(f 1335 _ (h1 _)).2]; exact h e he
theorem tlk.kept {W : Nat → Nat → Prop} {I2 : tw_I} {L2 : tw_L} (h : tlk L S) (f : twf W I L I2 L2) (h1 : ∀ i, ¬ W 1333 i) (h2 : ∀ i, ¬ W 1334 i) : tlk L2 S := ⟨h.1.kept f h1, h.2.kept f h2⟩
theorem t_isCyclic (hτ : tw_ok τ) {c : Nat} (hl : tlk L S) (hc : c < 240) {Q : Int32 → tw_I → tw_L → Prop} (hd : 2 ≤ d) (h : Q (bz (rch S c c)) I L) : wp_c d 234 [.ref 1315, .int (zi c)] (tw τ I L) (ti τ Q) :=
  k234 hτ (by omega) (t_hasB hτ hl.2 (.inr rfl) hc hc (by omega) ⟨bz_fit _, h⟩)
theorem t_isDone (hτ : tw_ok τ) {c : Nat} {Z : Nat → Bool} (hz : tdn L Z) (hc : c < 240) {Q : Int32 → tw_I → tw_L → Prop} (hd : 2 ≤ d) (h : Q (bz (Z c)) I L) : wp_c d 236 [.ref 1315, .int (zi c)] (tw τ I L) (ti τ Q) := by
  refine k236 hτ (by omega) ?_
  have e := hz c (by omega)
  refine t_has (c := 0) hτ (tw_t42 hτ) (tw_l42 hτ) (by omega) (by omega) (by omega) (by omega) ⟨bz_fit _, ?_⟩
  rw [show 4 * 0 + c / 64 = c / 64 by omega, e]
  exact h
theorem t_does (hτ : tw_ok τ) {c : Nat} {Z : Nat → Bool} (hz : tdn L Z) (hc : c < 240) {Q : tw_I → tw_L → Prop} (hd : 1 ≤ d) (h : ∀ L2, twf (fun a i => a = 1335) I L I L2 → tdn L2 (up1 Z c true) → Q I L2) : wp_c d 209 [.ref 1315, .int (zi c)] (tw τ I L) (tv τ Q) := by
  refine k209 hτ hd ?_
  rw [zi_rem (by omega) (by omega) (by omega) (by omega), zi_div (by omega) (by omega) (by omega) (by omega), show (c : Int) / 64 = ((c / 64 : Nat) : Int) by omega, show (c : Int) % 64 = ((c % 64 : Nat) : Int) by omega, zn_ix (by omega)]
  refine ⟨zn_in (by omega) (by omega), ?_⟩
  rintro L2 rfl
  refine h _ (twf.rf.pL (W := fun a i => a = 1335) rfl _) fun e he => ?_
  rw [lb_set (by omega) _ _ (by omega), hz e he]
  by_cases x : e = c
  · subst x
    rw [up_s, decide_eq_true ⟨rfl, rfl, rfl⟩, Bool.or_true]
  · rw [up_n _ _ _ x, decide_eq_false (by omega), Bool.or_false]
theorem t_beginsDone (hτ : tw_ok τ) {Q : tw_I → tw_L → Prop} (hd : 1 ≤ d) (h : ∀ L2, twf (fun a i => a = 1335) I L I L2 → tdn L2 (fun _ => false) → Q I L2) : wp_c d 181 [.ref 1315] (tw τ I L) (tv τ Q) := by
  refine k181 hτ hd ?_
  have loop : ∀ k I2 L2, k ≤ 4 → (I2 = I ∧ twf (fun a i => a = 1335) I L I L2 ∧ ∀ j, j < k → L2 1335 j = zl 0) → wp_r (d - 1) 181 (2, [.ref 1315, .int (zi k)], [], tw τ I2 L2) (tv τ Q) := by
    refine up_ind 4 (W := fun k I2 L2 => wp_r (d - 1) 181 (2, [.ref 1315, .int (zi k)], [], tw τ I2 L2) (tv τ Q)) (P := fun k I2 L2 => I2 = I ∧ twf (fun a i => a = 1335) I L I L2 ∧ ∀ j, j < k → L2 1335 j = zl 0) (fun I2 L2 hP => ?_) (fun k I2 L2 hk hP ih => ?_)
    · obtain ⟨rfl, f, hj⟩ := hP
      refine k181_2 hτ ⟨fun z => absurd z (by decide), fun _ => h L2 f fun e he => ?_⟩
      rw [hj _ (by omega), lb_0]
    · obtain ⟨rfl, f, hj⟩ := hP
      refine k181_2 hτ ?_
      rw [zi_lt (by omega) (by omega) (by omega) (by omega), zn_ix (by omega), zn_a k 1 1 rfl]
      refine ⟨fun _ => ⟨zn_in hk (by omega), ?_⟩, fun z => absurd (by omega) z⟩
      rintro L3 rfl
      refine ih _ _ ⟨rfl, f.pL rfl _, fun j hj2 => ?_⟩
      rw [u2_at]
      by_cases e : j = k
      · rw [if_pos e]
      · rw [if_neg e]; exact hj j (by omega)
  exact loop 0 I L (by omega) ⟨rfl, twf.rf, fun j hj => absurd hj (by omega)⟩
theorem t_isReady (hτ : tw_ok τ) {c : Nat} {Z : Nat → Bool} (hl : tlk L S) (hz : tdn L Z) (hc : c < 240) {Q : Int32 → tw_I → tw_L → Prop} (hd : 1 ≤ d) (h1 : (∀ e, e < 256 → dir S c e = true → Z e = true) → Q (zi 1) I L) (h2 : (¬ ∀ e, e < 256 → dir S c e = true → Z e = true) → Q (zi 0) I L) : wp_c d 243 [.ref 1315, .int (zi c)] (tw τ I L) (ti τ Q) := by
  refine k243 hτ hd ?_
  have loop : ∀ (k : Nat) I2 L2, k ≤ 4 → (I2 = I ∧ L2 = L ∧ ∀ e, e < 64 * k → dir S c e = true → Z e = true) → wp_r (d - 1) 243 (2, [.ref 1315, .int (zi c), .int (zi k)], [], tw τ I2 L2) (ti τ Q) := by
    refine up_ind 4 (W := fun k I2 L2 => wp_r (d - 1) 243 (2, [.ref 1315, .int (zi c), .int (zi k)], [], tw τ I2 L2) (ti τ Q)) (P := fun k I2 L2 => I2 = I ∧ L2 = L ∧ ∀ e, e < 64 * k → dir S c e = true → Z e = true) (fun I2 L2 hP => ?_) (fun k I2 L2 hk hP ih => ?_)
    · obtain ⟨rfl, rfl, hj⟩ := hP
      exact k243_2 hτ ⟨fun z => absurd z (by decide), fun _ => h1 fun e he => hj e (by omega)⟩
    · obtain ⟨rfl, rfl, hj⟩ := hP
      refine k243_2 hτ ?_
      rw [zi_lt (by omega) (by omega) (by omega) (by omega), zi_mul, zi_add, zn_a k 1 1 rfl, zi_ix (by omega) (by omega), show (4 * (c : Int) + k).toNat = 4 * c + k by omega, zn_ix (by omega), lb_nz]
      have bit : ∀ i, i < 64 → lb (L2 1333 (4 * c + k)) i = dir S c (64 * k + i) ∧ lb (L2 1335 k) i = Z (64 * k + i) := fun i hi => by
        have a := hl.1 c (64 * k + i) hc (by omega)
        have b := hz (64 * k + i) (by omega)
        rw [show (64 * k + i) / 64 = k by omega, show (64 * k + i) % 64 = i by omega] at a b
        exact ⟨a, b⟩
      refine ⟨fun _ => ⟨(zi_in (by omega) (by omega)).mpr ⟨by omega, by omega⟩, zn_in hk (by omega), fun z => ih _ _ ⟨rfl, rfl, fun e he hde => ?_⟩, fun z => h2 fun y => z fun i hi hb => ?_⟩, fun z => absurd (by omega) z⟩
      · by_cases x : e < 64 * k
        · exact hj e x hde
        · have := bit (e - 64 * k) (by omega)
          rw [show 64 * k + (e - 64 * k) = e by omega] at this
          rw [← this.2]
          exact z (e - 64 * k) (by omega) (by rw [this.1]; exact hde)
      · rw [(bit i hi).1] at hb
        rw [(bit i hi).2]
        exact y _ (by omega) hb
  exact loop 0 I L (by omega) ⟨rfl, rfl, fun e he => absurd he (by omega)⟩
theorem t_isOther (hτ : tw_ok τ) (h0 : tst τ I L B S H V O M W au ev) {c : Nat} (hl : tlk L S) (hc : c < 240) {Q : Int32 → tw_I → tw_L → Prop} (hd : 2 ≤ d) (h : Q (bz (exB (fun e => dir S c e && othB O V e) 240)) I L) : wp_c d 241 [.ref 1315, .int (zi c)] (tw τ I L) (ti τ Q) := by
  refine k241 hτ (by omega) ?_
  have fin : ∀ e, e < 240 → dir S c e = true → othB O V e = true → Q (zi 1) I L := fun e he h1 h2 => by
    rw [(exB_iff _ 240).mpr ⟨e, he, by rw [h1, h2]; rfl⟩] at h
    exact h
  have loop : ∀ k I2 L2, k ≤ 240 → (I2 = I ∧ L2 = L ∧ exB (fun e => dir S c e && othB O V e) k = false) → wp_r (d - 1) 241 (2, [.ref 1315, .int (zi c), .int (zi k)], [], tw τ I2 L2) (ti τ Q) := by
    refine up_ind 240 (W := fun k I2 L2 => wp_r (d - 1) 241 (2, [.ref 1315, .int (zi c), .int (zi k)], [], tw τ I2 L2) (ti τ Q)) (P := fun k I2 L2 => I2 = I ∧ L2 = L ∧ exB (fun e => dir S c e && othB O V e) k = false) (fun I2 L2 hP => ?_) (fun k I2 L2 hk hP ih => ?_)
    · obtain ⟨rfl, rfl, hj⟩ := hP
      rw [hj] at h
      exact k241_2 hτ (by omega) ⟨fun z => absurd z (by decide), fun _ => h⟩
    · obtain ⟨rfl, rfl, hj⟩ := hP
      obtain ⟨v1, v2, v3⟩ := h0.v1 hk
      obtain ⟨o1, o2, o3⟩ := h0.o1 hk
      have v4 := vok_le v3
      have o4 := vok_le o3
      refine k241_2 hτ (by omega) ?_
      rw [zi_lt (by omega) (by omega) (by omega) (by omega), zn_ix (by omega), zn_a k 1 1 rfl]
      refine ⟨fun _ => t_hasB hτ hl.1 (.inl rfl) hc hk (by omega) ?_, fun z => absurd (by omega) z⟩
      have nxt : (dir S c k && othB O V k) = false → wp_r (d - 1) 241 (2, [.ref 1315, .int (zi c), .int (zi ((k + 1 : Nat) : Int))], [], tw τ I2 L2) (ti τ Q) := fun z => ih _ _ ⟨rfl, rfl, by rw [exB, hj, Bool.false_or]; exact z⟩
      rw [bz_0]
      refine ⟨fun z => nxt (by rw [z]; rfl), fun z => ⟨zn_in hk (by omega), ?_⟩⟩
      have z : dir S c k = true := by
        cases q : dir S c k with
        | true => rfl
        | false => exact absurd q z
      rw [v1, v2, o1, o2, zi_eq (by omega) (by omega) (by omega) (by omega)]
      refine ⟨fun y => ⟨fun w => nxt ?_, fun w => fin k hk z ?_⟩, fun y => fin k hk z ?_⟩
      · unfold othB
        rw [decide_eq_true w, decide_eq_true (by omega), z]
        rfl
      · unfold othB
        rw [decide_eq_false w, Bool.and_false]
        rfl
      · unfold othB
        rw [decide_eq_false (by omega), Bool.false_and]
        rfl
  exact loop 0 I L (by omega) ⟨rfl, rfl, rfl⟩
end
