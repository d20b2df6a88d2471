/-! THE TWIN: cycles, levels, the order of calculation -/
theorem lst_ls1 {S : Sh} {c size m x : Nat} (hz : ls1P S c size c) (h1 : 1 ≤ m) (h2 : m < size) : lstP S c m x ↔ dst S c x = some m := by
  constructor
  · intro h
    exact dst_some ⟨h1, h.1, fun k _ hk => h.2 k hk⟩
  · intro h
    obtain ⟨a1, a2, a3⟩ := dst_inv h
    refine ⟨a2, fun k hk hp => ?_⟩
    by_cases k0 : k = 0
    · subst k0
      have e : x = c := hp
      subst e
      have := ls1_uniq hz ⟨a1, a2, a3⟩
      omega
    · exact a3 k (by omega) hk hp
theorem faF_eq {S : Sh} {to c k : Nat} {v : Int32} (hk : k ≤ 250) (h : faF S to v c) : (v = zi k ↔ lstP S to k c) := by
  rcases h with ⟨m, m1, m2, rfl⟩ | ⟨h1, rfl⟩
  · rw [zi_eq (by omega) (by omega) (by omega) (by omega)]
    exact ⟨fun z => by have : m = k := by omega
                       subst this; exact m2, fun z => by rw [lst_uniq m2 z]⟩
  · rw [zi_eq (by omega) (by omega) (by omega) (by omega)]
    exact ⟨fun z => by omega, fun z => absurd z.1 (h1 k)⟩
/-- the cell of a cycle -/
noncomputable def cyA (S : Sh) (c : Nat) (y : Int32) : Int32 := match dst S c c with
  | none => zi (-2)
  | some size => if 0 ≤ y.toInt ∧ y.toInt < size then zi (cyW S c size y.toInt.toNat) else zi (-2)
section
variable {τ : tw_K} {I : tw_I} {L : tw_L} {d : Nat} {B : List Nat} {S : Sh} {H : List Sh} {V O : Nat → Vl} {M W : Nat → Bool} {au : Bool} {ev : Nat}
theorem t_cycleCell (hτ : tw_ok τ) (h0 : tst τ I L B S H V O M W au ev) (x y : Int32) {Q : Int32 → tw_I → tw_L → Prop} (hd : 8 ≤ d) (h1 : ∀ c : Nat, c < 240 → x = zi c → ∀ I2 L2, tst τ I2 L2 B S H V O M W au ev → Q (cyA S c y) I2 L2) (h2 : (¬ ∃ a : Nat, a < 240 ∧ x = zi a) → Q (zi (-1)) I L) : wp_c d 201 [.ref 1315, .int x, .int y] (tw τ I L) (ti τ Q) := by
  have hS := h0.shk
  have hy := zi_rng y
  have ey := zi_self y
  refine k201 hτ (by omega) (t_isCellX hτ x (by omega) (fun c hc ex => ⟨fun z => absurd z (by decide), fun _ => ?_⟩) (fun n => ⟨fun _ => h2 n, fun z => absurd rfl z⟩))
  subst ex
  refine t_links hτ h0 (by omega) fun I2 L2 f g l => t_isCyclic hτ l hc (by omega) ?_
  have h1 := h1 c hc rfl
  rw [bz_0]
  refine ⟨fun z => ?_, fun z => ?_⟩
  · have := h1 I2 L2 g
    unfold cyA at this
    rw [dst_none fun n hn hp => ?_] at this
    · exact this
    · obtain ⟨n, rfl⟩ : ∃ m, n = m + 1 := ⟨n - 1, by omega⟩
      rw [pth_rch n c hp] at z
      cases z
  have z : rch S c c = true := by
    cases q : rch S c c with
    | true => rfl
    | false => exact absurd q z
  obtain ⟨n, hn, hp⟩ := rch_pth hS.2 z
  obtain ⟨size, -, hz⟩ := pth_ls1 hn hp
  refine t_measures hτ hS.2 l hc (by omega) fun I3 f3 hf => ?_
  have g3 := g.kept hτ (f3.wi fun a i z => by unfold XW; omega)
  have h1 := h1 I3 L2 g3
  unfold cyA at h1
  have s250 : size ≤ 251 := by
    obtain ⟨s, rfl⟩ : ∃ s, size = s + 1 := ⟨size - 1, by have := hz.1; omega⟩
    obtain ⟨e, e1, e2, e3⟩ := hz.2.1
    rcases hf e e1 with ⟨m, m1, m2, _⟩ | ⟨q, _⟩
    · have : ¬ m < s := fun q => hz.2.2 (m + 1) (by omega) (by omega) ⟨e, e1, e2, m2.1⟩
      have : ¬ s < m := fun q => m2.2 s q e3
      omega
    · exact absurd e3 (q s)
  refine t_nearest hτ l hc hf (by omega) ?_
  rw [dst_some hz] at h1 ⊢
  simp only at h1
  have s1 := hz.1
  rw [show opz (some size) = zi size from rfl, zi_sub, ← ey, zi_l (by omega) (by omega), zi_l (by omega) (by omega)]
  refine t_in hτ ⟨by omega, by omega⟩ ⟨by omega, by omega⟩ ⟨by omega, by omega⟩ (by omega) ?_
  rw [ey]
  by_cases w : 0 ≤ y.toInt ∧ y.toInt ≤ (size : Int) - 1
  · rw [decide_eq_true w]
    rw [if_pos (by omega)] at h1
    refine ⟨fun z => absurd z (by decide), fun _ => ?_⟩
    obtain ⟨i, hi⟩ : ∃ i : Nat, y.toInt = i := ⟨y.toInt.toNat, by omega⟩
    have ei : y = zi i := by rw [← ey, hi]
    rw [hi, Int.toNat_natCast] at h1
    have loop : ∀ (n k : Nat), i + 1 - k = n → k ≤ i + 1 → 1 ≤ k → (cyW S c size (k - 1) < 240 ∧ (k = 1 ∨ lstP S c (size - (k - 1)) (cyW S c size (k - 1)))) → ∀ v6, wp_r (d - 1) 201 (57, [.ref 1315, .int (zi c), .int y, .int (zi size), .int (zi (cyW S c size (k - 1))), .int (zi k), v6], [], tw τ I3 L2) (ti τ Q) := by
      intro n
      induction n with
      | zero =>
        intro k hn hk hk1 hP v6
        have : k = i + 1 := by omega
        subst this
        refine k201_57 hτ (by omega) ?_
        rw [ei, zi_lt (by omega) (by omega) (by omega) (by omega)]
        exact ⟨fun _ => h1, fun z => absurd (by omega) z⟩
      | succ n ih =>
        intro k hn hk hk1 hP v6
        refine k201_57 hτ (by omega) ?_
        rw [ei, zi_lt (by omega) (by omega) (by omega) (by omega)]
        refine ⟨fun z => absurd z (by omega), fun _ => ?_⟩
        generalize hat : cyW S c size (k - 1) = at_ at *
        obtain ⟨hat2, hP⟩ := hP
        have ex : ∃ e, e < 240 ∧ dir S at_ e = true ∧ lstP S c (size - k) e := by
          rcases hP with rfl | hl
          · have : at_ = c := by rw [← hat]; rfl
            subst this
            obtain ⟨e, e1, e2, e3⟩ := (show pth S at_ (size - 1 + 1) at_ by rw [show size - 1 + 1 = size by omega]; exact hz.2.1)
            refine ⟨e, e1, e2, e3, fun m hm hp => ?_⟩
            exact hz.2.2 (m + 1) (by omega) (by omega) ⟨e, e1, e2, hp⟩
          · rw [show size - (k - 1) = size - k + 1 by omega] at hl
            exact lst_down hl
        have seek : ∀ (n e : Nat), 240 - e = n → e < 240 → (∀ x, x < e → ¬ (dir S at_ x = true ∧ lstP S c (size - k) x)) → wp_r (d - 1) 201 (66, [.ref 1315, .int (zi c), .int (zi i), .int (zi size), .int (zi at_), .int (zi k), .int (zi e)], [], tw τ I3 L2) (ti τ Q) := by
          intro n2
          induction n2 with
          | zero => intro e hn2 he; omega
          | succ n2 ih2 =>
            intro e hn2 he hno
            have fe := faF_eq (k := size - k) (by omega) (hf e he)
            refine k201_66 hτ (by omega) (t_hasB hτ l.1 (.inl rfl) hat2 he (by omega) ?_)
            rw [zn_ix (by omega), zi_sub, show (size : Int) - k = ((size - k : Nat) : Int) by omega, fe, bz_0, zn_a e 1 1 rfl, zn_a k 1 1 rfl]
            have go : ¬ (dir S at_ e = true ∧ lstP S c (size - k) e) → wp_r (d - 1) 201 (66, [.ref 1315, .int (zi c), .int (zi i), .int (zi size), .int (zi at_), .int (zi k), .int (zi ((e + 1 : Nat) : Int))], [], tw τ I3 L2) (ti τ Q) := fun q => by
              have hno2 : ∀ x, x < e + 1 → ¬ (dir S at_ x = true ∧ lstP S c (size - k) x) := fun x hx => by
                by_cases e3 : x = e
                · subst e3; exact q
                · exact hno x (by omega)
              obtain ⟨y, y1, y2, y3⟩ := ex
              have : ¬ y < e + 1 := fun q2 => hno2 y q2 ⟨y2, y3⟩
              exact ih2 (e + 1) (by omega) (by omega) hno2
            refine ⟨fun q => go fun w => (by rw [q] at w; cases w.1), fun q => ⟨zn_in he (by omega), fun q2 => ?_, fun q2 => go fun w => q2 w.2⟩⟩
            have q : dir S at_ e = true := by
              cases q3 : dir S at_ e with
              | true => rfl
              | false => exact absurd q3 q
            have hcy : cyW S c size k = e := by
              obtain ⟨k2, rfl⟩ : ∃ k2, k = k2 + 1 := ⟨k - 1, by omega⟩
              rw [cyW]
              have hat : cyW S c size k2 = at_ := hat
              rw [hat]
              unfold cyN
              rw [fstB_of (j := e) he (by rw [q, decide_eq_true ((lst_ls1 hz (by omega) (by omega)).mp q2)]; rfl) (fun x hx => ?_)]
              · rfl
              · cases q4 : dir S at_ x with
                | false => rfl
                | true => rw [decide_eq_false (fun w => hno x hx ⟨q4, (lst_ls1 hz (by omega) (by omega)).mpr w⟩)]; rfl
            have := ih (k + 1) (by omega) (by omega) (by omega) (by rw [Nat.add_sub_cancel, hcy]; exact ⟨he, .inr q2⟩) (.int (zi e))
            rw [Nat.add_sub_cancel, hcy, ei] at this
            exact this
        have := seek _ 0 rfl (by omega) (fun x hx => absurd hx (by omega))
        exact this
    have := loop _ 1 rfl (by omega) (by omega) ⟨hc, .inl rfl⟩ .null
    exact this
  · rw [decide_eq_false w]
    rw [if_neg (by omega)] at h1
    exact ⟨fun _ => h1, fun z => absurd rfl z⟩
theorem t_isTainted (hτ : tw_ok τ) {c : Nat} (hl : tlk L S) (hc : c < 240) {Q : Int32 → tw_I → tw_L → Prop} (hd : 3 ≤ d) (h : Q (bz (blk S c)) I L) : wp_c d 246 [.ref 1315, .int (zi c)] (tw τ I L) (ti τ Q) := by
  refine k246 hτ (by omega) ?_
  have loop : ∀ (k : Nat) J K, k ≤ 240 → (J = I ∧ K = L ∧ exB (fun e => rch S c e && rch S e e) k = false) → wp_r (d - 1) 246 (2, [.ref 1315, .int (zi c), .int (zi k)], [], tw τ J K) (ti τ Q) := by
    refine up_ind 240 (W := fun k J K => wp_r (d - 1) 246 (2, [.ref 1315, .int (zi c), .int (zi k)], [], tw τ J K) (ti τ Q)) (P := fun k J K => J = I ∧ K = L ∧ exB (fun e => rch S c e && rch S e e) k = false) (fun J K hP => ?_) (fun k J K hk hP ih => ?_)
    · obtain ⟨rfl, rfl, hj⟩ := hP
      have hb : blk S c = false := hj
      rw [hb] at h
      refine k246_2 hτ (by omega) ⟨fun z => absurd z (by decide), fun _ => t_isCyclic hτ hl hc (by omega) ⟨bz_fit _, ?_⟩⟩
      cases q : rch S c c with
      | true => rw [blk_cy hc q] at hb; cases hb
      | false => exact h
    · obtain ⟨rfl, rfl, hj⟩ := hP
      refine k246_2 hτ (by omega) ?_
      rw [zi_lt (by omega) (by omega) (by omega) (by omega), zn_a k 1 1 rfl]
      have nx : (rch S c k && rch S k k) = false → wp_r (d - 1) 246 (2, [.ref 1315, .int (zi c), .int (zi ((k + 1 : Nat) : Int))], [], tw τ J K) (ti τ Q) := fun z => ih _ _ ⟨rfl, rfl, by rw [exB, hj, Bool.false_or]; exact z⟩
      refine ⟨fun _ => t_hasB hτ hl.2 (.inr rfl) hc hk (by omega) ?_, fun z => absurd (by omega) z⟩
      cases q : rch S c k with
      | false => exact ⟨fun _ => nx (by rw [q]; rfl), fun z => absurd rfl z⟩
      | true =>
        refine ⟨fun z => absurd z (by decide), fun _ => t_isCyclic hτ hl hk (by omega) ?_⟩
        cases q2 : rch S k k with
        | false => exact ⟨fun _ => nx (by rw [q2, Bool.and_false]), fun z => absurd rfl z⟩
        | true =>
          have hb : blk S c = true := (exB_iff _ 240).mpr ⟨k, hk, by rw [q, q2]; rfl⟩
          rw [hb] at h
          exact ⟨fun z => absurd z (by decide), fun _ => h⟩
  exact loop 0 I L (by omega) ⟨rfl, rfl, rfl⟩
/-- levels that are known -/
def memo (S : Sh) (I : tw_I) : Prop := ∀ x, x < 240 → I 1345 x = zi 0 ∨ (blk S x = false ∧ I 1345 x = zi (lvl S x))
theorem t_levelOf (hτ : tw_ok τ) (hS : nmo S.2) (hl : tlk L S) : ∀ (r c d : Nat) (I : tw_I) (Q : Int32 → tw_I → tw_L → Prop), rk S c ≤ r → c < 240 → blk S c = false → 2 * r + 4 ≤ d → memo S I → tst τ I L B S H V O M W au ev → (∀ I2, twf (fun a i => a = 1345) I L I2 L → memo S I2 → Q (zi (lvl S c)) I2 L) → wp_c d 251 [.ref 1315, .int (zi c)] (tw τ I L) (ti τ Q) := by
  intro r
  induction r using Nat.strongRecOn with
  | ind r ih =>
    intro c d I Q hr hc hb hd hm h0 h
    have l3 := cty_lt (S.1 c)
    have ll := lvl_le hS r c hb hr
    have r240 := rk_le (S := S) c
    have ll2 := lvl_le hS 240 c hb r240
    refine k251 hτ (by omega) ⟨zn_in (show c < 2400 by omega) (by omega), ?_⟩
    rw [zn_ix (by omega), h0.ty hc, zi_eq (by omega) (by omega) (by omega) (by omega)]
    refine ⟨fun z => ⟨zn_in hc (by omega), ?_⟩, fun z => ⟨zn_in hc (by omega), ?_⟩⟩
    · have hF : isF S c = true := decide_eq_true (by omega)
      rcases hm c hc with q | ⟨_, q⟩
      · rw [q]
        refine ⟨fun w => absurd w (by decide), fun _ => ?_⟩
        have loop : ∀ (e : Nat) J K, e ≤ 240 → (K = L ∧ twf (fun a i => a = 1345) I L J L ∧ memo S J) → wp_r (d - 1) 251 (30, [.ref 1315, .int (zi c), .int (zi (mxB (dir S c) (lvl S) e)), .int (zi e)], [], tw τ J K) (ti τ Q) := by
          refine up_ind 240 (W := fun e J K => wp_r (d - 1) 251 (30, [.ref 1315, .int (zi c), .int (zi (mxB (dir S c) (lvl S) e)), .int (zi e)], [], tw τ J K) (ti τ Q)) (P := fun e J K => K = L ∧ twf (fun a i => a = 1345) I L J L ∧ memo S J) (fun J K hP => ?_) (fun e J K he hP ihe => ?_)
          · obtain ⟨rfl, f, m⟩ := hP
            have e1 := lvl_s hS hb hF
            refine k251_30 hτ (by omega) ⟨fun z => absurd z (by decide), fun _ => ⟨zn_in hc (by omega), ?_⟩⟩
            rw [zn_a _ 1 1 rfl, ← e1, zn_ix (by omega)]
            rintro I4 rfl
            refine h _ (f.pI rfl _) fun x hx => ?_
            rw [u2_at]
            by_cases ex : x = c
            · subst ex; rw [if_pos rfl]; exact .inr ⟨hb, rfl⟩
            · rw [if_neg ex]; exact m x hx
          · obtain ⟨rfl, f, m⟩ := hP
            have mx : mxB (dir S c) (lvl S) e ≤ 241 := mxB_le e fun x hx hd2 => lvl_le hS 240 x (blk_dn (by omega) hd2 hb) (rk_le x)
            refine k251_30 hτ (by omega) ?_
            rw [zi_lt (by omega) (by omega) (by omega) (by omega), zn_a e 1 1 rfl]
            have ge := ihe
            refine ⟨fun _ => t_hasB hτ hl.1 (.inl rfl) hc he (by omega) ?_, fun z => absurd (by omega) z⟩
            cases q2 : dir S c e with
            | false =>
              refine ⟨fun _ => ?_, fun z => absurd rfl z⟩
              have := ihe J _ ⟨rfl, f, m⟩
              rw [mxB, if_neg (by rw [q2]; simp)] at this
              exact this
            | true =>
              have rd := rk_dn he q2 hb
              have bd := blk_dn he q2 hb
              have le2 := lvl_le hS 240 e bd (rk_le e)
              refine ⟨fun z => absurd z (by decide), fun _ => ih (rk S e) (by omega) e (d - 1) J _ (Nat.le_refl _) he bd (by omega) m (h0.kept hτ (f.wi fun a i z => by unfold XW; omega)) fun I5 f5 m5 => ?_⟩
              refine m_max ⟨by omega, by omega⟩ ⟨by omega, by omega⟩ (by omega) (ti_k ?_)
              have := ihe I5 _ ⟨rfl, f.tr f5, m5⟩
              rw [mxB, if_pos q2] at this
              rw [show max (mxB (dir S c) (lvl S) e : Int) (lvl S e : Int) = ((max (mxB (dir S c) (lvl S) e) (lvl S e) : Nat) : Int) by omega]
              exact this
        exact loop 0 I L (by omega) ⟨rfl, twf.rf, hm⟩
      · have e1 := lvl_s hS hb hF
        rw [q, zi_lt (by omega) (by omega) (by omega) (by omega)]
        exact ⟨fun _ => h I twf.rf hm, fun w => absurd (by omega) w⟩
    · have hF : isF S c = false := decide_eq_false (by omega)
      have e1 := lvl_0 hF
      have : I 1345 c = zi (lvl S c) := by
        rcases hm c hc with q | ⟨_, q⟩
        · rw [q, e1]; rfl
        · exact q
      rw [this]
      exact h I twf.rf hm
theorem t_level (hτ : tw_ok τ) (h0 : tst τ I L B S H V O M W au ev) (x : Int32) {Q : Int32 → tw_I → tw_L → Prop} (hd : 500 ≤ d) (h1 : ∀ c : Nat, c < 240 → x = zi c → ∀ I2 L2, tst τ I2 L2 B S H V O M W au ev → Q (if blk S c then zi (-2) else zi (lvl S c)) I2 L2) (h2 : (¬ ∃ a : Nat, a < 240 ∧ x = zi a) → Q (zi (-1)) I L) : wp_c d 250 [.ref 1315, .int x] (tw τ I L) (ti τ Q) := by
  have hS := h0.shk
  refine k250 hτ (by omega) (t_isCellX hτ x (by omega) (fun c hc ex => ⟨fun z => absurd z (by decide), fun _ => ?_⟩) (fun n => ⟨fun _ => h2 n, fun z => absurd rfl z⟩))
  subst ex
  refine t_links hτ h0 (by omega) fun I2 L2 f g l => t_isTainted hτ l hc (by omega) ?_
  have h1 := h1 c hc rfl
  cases hb : blk S c with
  | true =>
    rw [hb] at h1
    exact ⟨fun z => absurd z (by decide), fun _ => h1 I2 L2 g⟩
  | false =>
    rw [hb] at h1
    refine ⟨fun _ => ?_, fun z => absurd rfl z⟩
    have loop : ∀ (e : Nat) J K, e ≤ 240 → (K = L2 ∧ twf (fun a i => a = 1345) I2 L2 J L2 ∧ ∀ x, x < e → J 1345 x = zi 0) → wp_r (d - 1) 250 (26, [.ref 1315, .int (zi c), .int (zi e)], [], tw τ J K) (ti τ Q) := by
      refine up_ind 240 (W := fun e J K => wp_r (d - 1) 250 (26, [.ref 1315, .int (zi c), .int (zi e)], [], tw τ J K) (ti τ Q)) (P := fun e J K => K = L2 ∧ twf (fun a i => a = 1345) I2 L2 J L2 ∧ ∀ x, x < e → J 1345 x = zi 0) (fun J K hP => ?_) (fun e J K he hP ih => ?_)
      · obtain ⟨rfl, f2, p⟩ := hP
        have g2 := g.kept hτ (f2.wi fun a i z => by unfold XW; omega)
        refine k250_26 hτ (by omega) ⟨fun z => absurd z (by decide), fun _ => t_levelOf hτ hS.2 l 240 c (d - 1) J _ (rk_le c) hc hb (by omega) (fun x hx => .inl (p x hx)) g2 fun I5 f5 m5 => ?_⟩
        exact h1 I5 _ (g2.kept hτ (f5.wi fun a i z => by unfold XW; omega))
      · obtain ⟨rfl, f2, p⟩ := hP
        refine k250_26 hτ (by omega) ?_
        rw [zi_lt (by omega) (by omega) (by omega) (by omega), zn_ix (by omega), zn_a e 1 1 rfl]
        refine ⟨fun _ => ⟨zn_in he (by omega), ?_⟩, fun z => absurd (by omega) z⟩
        rintro I5 rfl
        refine ih _ _ ⟨rfl, f2.pI rfl _, fun x hx => ?_⟩
        rw [u2_at]
        by_cases ex : x = e
        · rw [if_pos ex]
        · rw [if_neg ex]; exact p x (by omega)
    exact loop 0 I2 L2 (by omega) ⟨rfl, twf.rf, fun x hx => absurd hx (by omega)⟩
/-- what is asked of the order of calculation -/
def orA (S : Sh) (y : Int32) : Int32 := if 0 ≤ y.toInt ∧ y.toInt < 240 then opz (nxt S (orZ S y.toInt.toNat)) else zi (-2)
theorem orZ_s {S : Sh} {n c : Nat} (h : nxt S (orZ S n) = some c) : orZ S (n + 1) = up1 (orZ S n) c true := orS_s h
theorem orZ_n {S : Sh} {n : Nat} (h : nxt S (orZ S n) = none) : orZ S (n + 1) = orZ S n := orS_n h
theorem orZ_none {S : Sh} {n : Nat} (h : nxt S (orZ S n) = none) : ∀ m, n ≤ m → nxt S (orZ S m) = none := by
  intro m
  induction m with
  | zero => intro hm; have : n = 0 := by omega
            subst this; exact h
  | succ m ih =>
    intro hm
    by_cases e : n = m + 1
    · subst e; exact h
    · have := ih (by omega)
      rw [orZ_n this]
      exact this
theorem orZ_cnt {S : Sh} : ∀ n c, nxt S (orZ S n) = some c → n ≤ cnt (orZ S n) 240 ∧ cnt (orZ S n) 240 < 240 := by
  have step : ∀ n c, nxt S (orZ S n) = some c → cnt (orZ S (n + 1)) 240 = cnt (orZ S n) 240 + 1 := fun n c h => by
    have sp := (fstB_spec 240).1 c h
    have z : orZ S n c = false := by
      have := sp.1
      rw [Bool.and_eq_true] at this
      cases q : orZ S n c with
      | false => rfl
      | true => rw [q] at this; cases this.1
    rw [orZ_s h]
    have := cnt_up (P := orZ S n) (Q := up1 (orZ S n) c true) z (up_s _ _ _) 240 fun d _ hd => (up_n _ _ _ hd).symm
    rw [if_pos sp.2.1] at this
    exact this
  intro n
  induction n with
  | zero =>
    intro c h
    have := step 0 c h
    have := cnt_le (orZ S (0 + 1)) 240
    omega
  | succ n ih =>
    intro c h
    cases q : nxt S (orZ S n) with
    | none => rw [orZ_none q (n + 1) (by omega)] at h; cases h
    | some c2 =>
      have a := ih c2 q
      have b := step n c2 q
      have e := step (n + 1) c h
      have := cnt_le (orZ S (n + 1 + 1)) 240
      omega
theorem t_calculationOrder (hτ : tw_ok τ) (h0 : tst τ I L B S H V O M W au ev) (y : Int32) {Q : Int32 → tw_I → tw_L → Prop} (hd : 8 ≤ d) (h : ∀ I2 L2, tst τ I2 L2 B S H V O M W au ev → Q (orA S y) I2 L2) : wp_c d 184 [.ref 1315, .int y] (tw τ I L) (ti τ Q) := by
  have hS := h0.shk
  have hy := zi_rng y
  have ey := zi_self y
  refine k184 hτ (by omega) (t_links hτ h0 (by omega) fun I1 L1 f1 g1 l1 => t_beginsDone hτ (by omega) fun L2 f2 z2 => ?_)
  have g2 := g1.kept hτ (f2.wi fun a i z => by unfold XW; omega)
  have l2 := l1.kept f2 (fun i => by omega) (fun i => by omega)
  have main : ∀ (k n : Nat) (K : tw_L) (v3 : Value), 240 < n + k → (n = 0 ∨ ∃ c, nxt S (orZ S (n - 1)) = some c) → (∀ m, m < n → y ≠ zi m) → tst τ I1 K B S H V O M W au ev → tlk K S → tdn K (fun e => decide (e < 240) && orZ S n e) → wp_r (d - 1) 184 (40, [.ref 1315, .int y, .int (zi n), v3], [], tw τ I1 K) (ti τ Q) := by
    intro k
    induction k with
    | zero =>
      intro n K v3 hk hn
      rcases hn with hn | ⟨c, hn⟩
      · omega
      · have := orZ_cnt (n - 1) c hn
        omega
    | succ k ih =>
      intro n K v3 hk hn hne g l z
      have n241 : n ≤ 240 := by
        rcases hn with hn | ⟨c, hn⟩
        · omega
        · have := orZ_cnt (n - 1) c hn
          omega
      refine k184_40 hτ (by omega) ?_
      have seek : ∀ (c : Nat) J K', c ≤ 240 → (J = I1 ∧ K' = K ∧ ∀ x, x < c → (!orZ S n x && rdB S (orZ S n) x) = false) → wp_r (d - 1) 184 (42, [.ref 1315, .int y, .int (zi n), .int (zi c)], [], tw τ J K') (ti τ Q) := by
        refine up_ind 240 (W := fun c J K' => wp_r (d - 1) 184 (42, [.ref 1315, .int y, .int (zi n), .int (zi c)], [], tw τ J K') (ti τ Q)) (P := fun c J K' => J = I1 ∧ K' = K ∧ ∀ x, x < c → (!orZ S n x && rdB S (orZ S n) x) = false) (fun J K' hP => ?_) (fun c J K' hc hP ihc => ?_)
        · obtain ⟨rfl, rfl, hno⟩ := hP
          refine k184_42 hτ (by omega) ⟨fun z => absurd z (by decide), fun _ => ⟨fun _ => ?_, fun z => absurd rfl z⟩⟩
          have none : nxt S (orZ S n) = none := by
            cases q : nxt S (orZ S n) with
            | none => rfl
            | some j => have := (fstB_spec 240).1 j q; rw [hno j this.2.1] at this; cases this.1
          have := h J K' g
          unfold orA at this
          by_cases w : 0 ≤ y.toInt ∧ y.toInt < 240
          · rw [if_pos w] at this
            have : n ≤ y.toInt.toNat := by
              have e : y = zi (y.toInt.toNat : Nat) := by rw [show ((y.toInt.toNat : Nat) : Int) = y.toInt by omega]; exact ey.symm
              by_cases q : y.toInt.toNat < n
              · exact absurd e (hne _ q)
              · omega
            rename_i this2
            rw [orZ_none none _ this] at this2
            exact this2
          · rw [if_neg w] at this
            exact this
        · obtain ⟨rfl, rfl, hno⟩ := hP
          refine k184_42 hτ (by omega) ?_
          rw [zi_lt (by omega) (by omega) (by omega) (by omega), zi_eq (by omega) (by omega) (by omega) (by omega), zn_a c 1 1 rfl]
          have skip : (!orZ S n c && rdB S (orZ S n) c) = false → wp_r (d - 1) 184 (42, [.ref 1315, .int y, .int (zi n), .int (zi ((c + 1 : Nat) : Int))], [], tw τ J K') (ti τ Q) := fun q => ihc _ _ ⟨rfl, rfl, fun x hx => by
            by_cases ex : x = c
            · subst ex; exact q
            · exact hno x (by omega)⟩
          refine ⟨fun _ => t_isDone hτ z hc (by omega) ?_, fun z => absurd (by omega) z⟩
          rw [decide_eq_true hc, Bool.true_and, bz_0]
          refine ⟨fun z0 => t_isReady hτ l z hc (by omega) (fun rd => ⟨fun z => absurd z (by decide), fun _ => ⟨fun z => absurd z (by omega), fun _ => ?_⟩⟩) (fun rd => ⟨fun _ => skip ?_, fun z => absurd rfl z⟩), fun z1 => skip (by cases q : orZ S n c; exact absurd q z1; rfl)⟩
          · have rdy : rdB S (orZ S n) c = true := (rdB_iff _ _ _).mpr fun e he hde => by
              have := rd e (by omega) hde
              rw [Bool.and_eq_true] at this
              exact this.2
            have some_c : nxt S (orZ S n) = some c := fstB_of hc (by rw [z0, rdy]; rfl) hno
            have nb := orZ_cnt n c some_c
            refine ⟨fun w => ?_, fun w => ?_⟩
            · have := h J K' g
              unfold orA at this
              have yt : y.toInt = n := by rw [← w, zi_toInt (by omega) (by omega)]
              rw [yt, if_pos (by omega), Int.toNat_natCast, some_c] at this
              exact this
            · refine t_does hτ z hc (by omega) fun L4 f4 z4 => ?_
              rw [zn_a n 1 1 rfl]
              refine ih (n + 1) L4 _ (by omega) (.inr ⟨c, by rw [Nat.add_sub_cancel]; exact some_c⟩) (fun m hm => ?_) (g.kept hτ (f4.wi fun a i z => by unfold XW; omega)) (l.kept f4 (fun i => by omega) (fun i => by omega)) (z4.ext fun e he => ?_)
              · by_cases em : m = n
                · subst em; exact fun q => w q.symm
                · exact hne m (by omega)
              · rw [orZ_s some_c]
                by_cases ex : e = c
                · subst ex
                  show up1 _ e true e = (decide (e < 240) && up1 (orZ S n) e true e)
                  rw [up_s, up_s, decide_eq_true hc]
                  rfl
                · show up1 _ c true e = (decide (e < 240) && up1 (orZ S n) c true e)
                  rw [up_n _ _ _ ex, up_n _ _ _ ex]
          · cases q : rdB S (orZ S n) c with
            | false => rw [Bool.and_false]
            | true =>
              refine absurd (fun e he hde => ?_) rd
              have e2 := dir_lt hS.2 hde
              rw [decide_eq_true e2, (rdB_iff _ _ _).mp q e e2 hde]
              rfl
      exact seek 0 I1 K (by omega) ⟨rfl, rfl, fun x hx => absurd hx (by omega)⟩
  have init : ∀ (c : Nat) J K, c ≤ 240 → (J = I1 ∧ tst τ I1 K B S H V O M W au ev ∧ tlk K S ∧ tdn K (fun e => decide (e < c) && !isF S e)) → ∀ v3, wp_r (d - 1) 184 (10, [.ref 1315, .int y, .int (zi c), v3], [], tw τ J K) (ti τ Q) := by
    refine up_ind 240 (W := fun c J K => ∀ v3, wp_r (d - 1) 184 (10, [.ref 1315, .int y, .int (zi c), v3], [], tw τ J K) (ti τ Q)) (P := fun c J K => J = I1 ∧ tst τ I1 K B S H V O M W au ev ∧ tlk K S ∧ tdn K (fun e => decide (e < c) && !isF S e)) (fun J K hP v3 => ?_) (fun c J K hc hP ih v3 => ?_)
    · obtain ⟨rfl, g, l, z⟩ := hP
      exact k184_10 hτ (by omega) ⟨fun z => absurd z (by decide), fun _ => main 241 0 K _ (by omega) (.inl rfl) (fun m hm => absurd hm (by omega)) g l z⟩
    · obtain ⟨rfl, g, l, z⟩ := hP
      have l3 := cty_lt (S.1 c)
      refine k184_10 hτ (by omega) ?_
      rw [zi_lt (by omega) (by omega) (by omega) (by omega), zn_ix (by omega), g.ty hc, zi_eq (by omega) (by omega) (by omega) (by omega), zn_a c 1 1 rfl]
      refine ⟨fun _ => ⟨zn_in (show c < 2400 by omega) (by omega), fun w => ?_, fun w => ?_⟩, fun z => absurd (by omega) z⟩
      · have hF : isF S c = true := decide_eq_true (by omega)
        refine ih _ _ ⟨rfl, g, l, z.ext fun e he => ?_⟩ v3
        by_cases ex : e = c
        · subst ex; rw [hF]; simp
        · congr 2; apply propext; omega
      · have hF : isF S c = false := decide_eq_false (by omega)
        refine t_does hτ z hc (by omega) fun L4 f4 z4 => ih _ _ ⟨rfl, g.kept hτ (f4.wi fun a i z => by unfold XW; omega), l.kept f4 (fun i => by omega) (fun i => by omega), z4.ext fun e he => ?_⟩ v3
        by_cases ex : e = c
        · subst ex; rw [up_s, hF, decide_eq_true (by omega)]; rfl
        · rw [up_n _ _ _ ex]; congr 2; apply propext; omega
  exact init 0 I1 L2 (by omega) ⟨rfl, g2, l2, z2.ext fun e he => by rw [decide_eq_false (by omega)]; rfl⟩ _
end
