/-! THE TWIN: copies of contents and states, the history -/
/-- the places of one content -/
def CW (y a i : Nat) : Prop := ((a = 1316 ∨ a = 1317 ∨ a = 1318) ∧ i = y) ∨ (a = 1319 ∧ 80 * y ≤ i ∧ i < 80 * y + 80)
def RW (a i : Nat) : Prop := (a = 1315 ∧ i = 8) ∨ ((a = 1316 ∨ a = 1317 ∨ a = 1318) ∧ 240 ≤ i) ∨ (a = 1319 ∧ 19200 ≤ i) ∨ (a = 1320 ∧ 1 ≤ i) ∨ ((a = 1321 ∨ a = 1322 ∨ a = 1323) ∧ 10 ≤ i)
def thi (I : tw_I) (L : tw_L) (H : List Sh) : Prop := I 1315 8 = zi H.length ∧ H.length ≤ 8 ∧ ∀ (i : Nat) (S : Sh), H[i]? = some S → tsh I L (H.length - i) S
def bgV (q : Cn) : Vl := match q with
  | none => (0, zl 0)
  | some (.inl n) => (1, zl n)
  | some (.inr _) => (2, zl 8)
section
variable {τ : tw_K} {I : tw_I} {L : tw_L} {d : Nat}
theorem t_copiesContent (hτ : tw_ok τ) {x y : Nat} {q : Cn} (hx : x < 2400) (hy : y < 2400) (hxy : x ≠ y) (hq : tcell I L x q) {Q : tw_I → tw_L → Prop} (hd : 1 ≤ d)
    (h : ∀ I2 L2, twf (CW y) I L I2 L2 → tcell I2 L2 y q → Q I2 L2) : wp_c d 197 [.ref 1315, .int (zi x), .int (zi y)] (tw τ I L) (tv τ Q) := by
  obtain ⟨q1, ⟨q2, q3, q4⟩, q5, q6⟩ := hq
  refine k197 hτ hd ⟨zn_in hx (by omega), zn_in hy (by omega), ?_⟩
  rintro I1 rfl L1 rfl I3 rfl
  rw [zn_ix (by omega), zn_ix (by omega), u2_ne _ _ _ _ (by omega)]
  have f0 : twf (CW y) I L (cm_u2 (cm_u2 I 1316 y (I 1316 x)) 1318 y (I 1318 x)) (cm_u2 L 1317 y (L 1317 x)) := ((twf.rf.pI (by unfold CW; omega) _).pL (by unfold CW; omega) _).pI (by unfold CW; omega) _
  generalize hI3 : cm_u2 (cm_u2 I 1316 y (I 1316 x)) 1318 y (I 1318 x) = I3 at f0
  generalize hL1 : cm_u2 L 1317 y (L 1317 x) = L1 at f0
  have e1 : I3 1316 y = I 1316 x := by rw [← hI3, u2_ne _ _ _ _ (by omega), u2_same]
  have e2 : I3 1318 y = I 1318 x := by rw [← hI3, u2_same]
  have e3 : I3 1318 x = I 1318 x := by rw [← hI3, u2_nj _ _ _ _ _ hxy, u2_ne _ _ _ _ (by omega)]
  have e4 : L1 1317 y = L 1317 x := by rw [← hL1, u2_same]
  have loop : ∀ (n k : Nat) (L2 : tw_L), (ctk q).length - k = n → k ≤ (ctk q).length → twf (CW y) I L I3 L2 → L2 1317 y = L 1317 x → (∀ i, i < k → L2 1319 (80 * y + i) = L 1319 (80 * x + i)) → wp_r (d - 1) 197 (38, [.ref 1315, .int (zi x), .int (zi y), .int (zi k)], [], tw τ I3 L2) (tv τ Q) := by
    intro n
    induction n with
    | zero =>
      intro k L2 hn hk f hp hcp
      refine k197_38 hτ ⟨zn_in hx (by omega), ?_⟩
      rw [zn_ix (by omega), e3, q2, zi_lt (by omega) (by omega) (by omega) (by omega)]
      refine ⟨fun z => absurd z (by omega), fun _ => h I3 L2 f ⟨by rw [e1]; exact q1, ⟨by rw [e2]; exact q2, q3, fun i t ht => ?_⟩, q5, fun n hn => by rw [hp]; exact q6 n hn⟩⟩
      have hi := (List.getElem?_eq_some_iff.mp ht).1
      rw [hcp i (by omega)]
      exact q4 i t ht
    | succ n ih =>
      intro k L2 hn hk f hp hcp
      refine k197_38 hτ ⟨zn_in hx (by omega), ?_⟩
      rw [zn_ix (by omega), e3, q2, zi_lt (by omega) (by omega) (by omega) (by omega), zi_mul, zi_mul, zi_add, zi_add]
      refine ⟨fun _ => ⟨(zi_in (by omega) (by omega)).mpr ⟨by omega, by omega⟩, (zi_in (by omega) (by omega)).mpr ⟨by omega, by omega⟩, ?_⟩, fun z => absurd (by omega) z⟩
      rintro L3 rfl
      rw [zi_ix (by omega) (by omega), zi_ix (by omega) (by omega), show (80 * (y : Int) + k).toNat = 80 * y + k by omega, show (80 * (x : Int) + k).toNat = 80 * x + k by omega, zn_a k 1 1 rfl]
      refine ih (k + 1) _ (by omega) (by omega) (f.pL (by unfold CW; omega) _) (by rw [u2_ne _ _ _ _ (by omega)]; exact hp) (fun i hi => ?_)
      rw [u2_at]
      by_cases e : i = k
      · subst e
        rw [if_pos rfl]
        exact (f 1319 (80 * x + i) (by unfold CW; omega)).2
      · rw [if_neg (by omega)]
        exact hcp i (by omega)
  exact loop _ 0 L1 rfl (by omega) f0 e4 (fun i hi => absurd hi (by omega))
theorem KW_ne {j k : Nat} (h : j ≠ k) (a i : Nat) (z : KW k a i) : ¬ KW j a i := by
  unfold KW at *
  omega
theorem t_copiesState (hτ : tw_ok τ) {j k : Nat} {S : Sh} (hj : j < 10) (hk : k < 10) (hjk : j ≠ k) (hS : tsh I L j S) {Q : tw_I → tw_L → Prop} (hd : 3 ≤ d)
    (h : ∀ I2 L2, twf (KW k) I L I2 L2 → tsh I2 L2 k S → Q I2 L2) : wp_c d 198 [.ref 1315, .int (zi j), .int (zi k)] (tw τ I L) (tv τ Q) := by
  have hS3 := hS.2.2.1
  have names : ∀ (n c : Nat) (I2 : tw_I) (L2 : tw_L), S.2.length - c = n → c ≤ S.2.length → twf (KW k) I L I2 L2 → (∀ c', c' < 240 → tcell I2 L2 (240 * k + c') (S.1 c')) → I2 1320 k = zi S.2.length → (∀ (i : Nat) (q : Nm), i < c → S.2[i]? = some q → tnm I2 L2 (10 * k + i) q) → wp_r (d - 1) 198 (47, [.ref 1315, .int (zi j), .int (zi k), .int (zi c)], [], tw τ I2 L2) (tv τ Q) := by
    intro n
    induction n with
    | zero =>
      intro c I2 L2 hn hc f hcs h20 hnm
      have s2 := hS.kept f (KW_ne hjk)
      refine k198_47 hτ (by omega) ⟨zn_in hj (by omega), ?_⟩
      rw [zn_ix (by omega), s2.2.1, zi_lt (by omega) (by omega) (by omega) (by omega)]
      refine ⟨fun z => absurd z (by omega), fun _ => h I2 L2 f ⟨hcs, h20, hS3, fun i q hq => hnm i q ?_ hq⟩⟩
      have := (List.getElem?_eq_some_iff.mp hq).1
      omega
    | succ n ih =>
      intro c I2 L2 hn hc f hcs h20 hnm
      have s2 := hS.kept f (KW_ne hjk)
      refine k198_47 hτ (by omega) ⟨zn_in hj (by omega), ?_⟩
      rw [zn_ix (by omega), s2.2.1, zi_lt (by omega) (by omega) (by omega) (by omega), zi_mul, zi_mul, zi_add, zi_add]
      refine ⟨fun _ => ⟨(zi_in (by omega) (by omega)).mpr ⟨by omega, by omega⟩, (zi_in (by omega) (by omega)).mpr ⟨by omega, by omega⟩, ?_⟩, fun z => absurd (by omega) z⟩
      rintro L3 rfl I3 rfl I4 rfl
      rw [zi_ix (by omega) (by omega), zi_ix (by omega) (by omega), show (10 * (k : Int) + c).toNat = 10 * k + c by omega, show (10 * (j : Int) + c).toNat = 10 * j + c by omega, zn_a c 1 1 rfl, u2_ne _ _ _ _ (by omega)]
      have g : twf (fun a i => (a = 1321 ∨ a = 1322 ∨ a = 1323) ∧ i = 10 * k + c) I2 L2 (cm_u2 (cm_u2 I2 1322 (10 * k + c) (I2 1322 (10 * j + c))) 1323 (10 * k + c) (I2 1323 (10 * j + c))) (cm_u2 L2 1321 (10 * k + c) (L2 1321 (10 * j + c))) := ((twf.rf.pL (by omega) _).pI (by omega) _).pI (by omega) _
      refine ih (c + 1) _ _ (by omega) (by omega) (f.tr (g.wi (fun a i z => by unfold KW; omega))) (fun c' hc' => (hcs c' hc').kept g (by omega) (by omega) (by omega) (fun i hi => by omega)) (by rw [(g 1320 k (by omega)).1]; exact h20) (fun i q hi hq => ?_)
      by_cases e : i = c
      · subst e
        obtain ⟨t1, t2, t3⟩ := s2.2.2.2 i q hq
        refine ⟨by rw [u2_same]; exact t1, t2, ?_⟩
        rw [u2_same, u2_ne _ _ _ _ (by omega), u2_same]
        exact t3
      · exact (hnm i q (by omega) hq).kept g (by omega) (by omega) (by omega)
  have cells : ∀ (n c : Nat) (I2 : tw_I) (L2 : tw_L), 240 - c = n → c ≤ 240 → twf (KW k) I L I2 L2 → (∀ c', c' < c → tcell I2 L2 (240 * k + c') (S.1 c')) → wp_r (d - 1) 198 (2, [.ref 1315, .int (zi j), .int (zi k), .int (zi c)], [], tw τ I2 L2) (tv τ Q) := by
    intro n
    induction n with
    | zero =>
      intro c I2 L2 hn hc f hcs
      have s2 := hS.kept f (KW_ne hjk)
      refine k198_2 hτ (by omega) ?_
      rw [zi_lt (by omega) (by omega) (by omega) (by omega)]
      refine ⟨fun z => absurd z (by omega), fun _ => ⟨zn_in hj (by omega), zn_in hk (by omega), ?_⟩⟩
      rintro I3 rfl
      rw [zn_ix (by omega), zn_ix (by omega)]
      have g : twf (fun a i => a = 1320 ∧ i = k) I2 L2 (cm_u2 I2 1320 k (I2 1320 j)) L2 := twf.rf.pI (by omega) _
      exact names _ 0 _ L2 rfl (by omega) (f.tr (g.wi (fun a i z => by unfold KW; omega))) (fun c' hc' => (hcs c' (by omega)).kept g (by omega) (by omega) (by omega) (fun i hi => by omega)) (by rw [u2_same]; exact s2.2.1) (fun i q hi => absurd hi (by omega))
    | succ n ih =>
      intro c I2 L2 hn hc f hcs
      have s2 := hS.kept f (KW_ne hjk)
      refine k198_2 hτ (by omega) ?_
      rw [zi_lt (by omega) (by omega) (by omega) (by omega), zi_mul, zi_mul, zi_add, zi_add, zn_a c 1 1 rfl]
      refine ⟨fun _ => ?_, fun z => absurd (by omega) z⟩
      refine t_copiesContent (x := 240 * j + c) (y := 240 * k + c) hτ (by omega) (by omega) (by omega) (s2.1 c (by omega)) (by omega) fun I3 L3 g gt => ?_
      refine ih (c + 1) I3 L3 (by omega) (by omega) (f.tr (g.wi (fun a i z => by unfold CW at z; unfold KW; omega))) (fun c' hc' => ?_)
      by_cases e : c' = c
      · subst e; exact gt
      · exact (hcs c' (by omega)).kept g (by unfold CW; omega) (by unfold CW; omega) (by unfold CW; omega) (fun i hi => by unfold CW; omega)
  exact k198 hτ (by omega) (cells _ 0 I L rfl (by omega) twf.rf (fun c' hc' => absurd hc' (by omega)))
theorem KW_RW {k : Nat} (h : 1 ≤ k) (a i : Nat) (z : KW k a i) : RW a i := by
  unfold KW at z
  unfold RW
  omega
theorem RW_0 (a i : Nat) (z : RW a i) : ¬ KW 0 a i := by
  unfold RW at z
  unfold KW
  omega
theorem t_records (hτ : tw_ok τ) {S : Sh} {H : List Sh} (hS : tsh I L 0 S) (hH : thi I L H) {Q : tw_I → tw_L → Prop} (hd : 5 ≤ d)
    (h : ∀ I2 L2, twf RW I L I2 L2 → tsh I2 L2 0 S → thi I2 L2 ((S :: H).take 8) → Q I2 L2) : wp_c d 302 [.ref 1315] (tw τ I L) (tv τ Q) := by
  obtain ⟨h1, h2, h3⟩ := hH
  refine k302 hτ (by omega) ?_
  rw [h1, zi_eq (by omega) (by omega) (by omega) (by omega)]
  refine ⟨fun q8 => ?_, fun q8 => ?_⟩
  · have l8 : H.length = 8 := by omega
    have loop : ∀ (n k : Nat) (I2 : tw_I) (L2 : tw_L), 8 - k = n → 1 ≤ k → k ≤ 8 → twf RW I L I2 L2 → I2 1315 8 = zi 8 → (∀ (i : Nat) (T : Sh), H[i]? = some T → (i < 8 - k → tsh I2 L2 (8 - i) T) ∧ (8 - k ≤ i → i < 7 → tsh I2 L2 (7 - i) T)) → wp_r (d - 1) 302 (11, [.ref 1315, .int (zi k)], [], tw τ I2 L2) (tv τ Q) := by
      intro n
      induction n with
      | zero =>
        intro k I2 L2 hn hk1 hk f e8 hst
        have hk : k = 8 := by omega
        subst hk
        refine k302_11 hτ (by omega) ⟨fun z => absurd z (by decide), fun _ => ?_⟩
        rw [e8]
        refine t_copiesState (j := 0) (k := 8) hτ (by omega) (by omega) (by omega) (hS.kept f RW_0) (by omega) fun I3 L3 g gt => ?_
        have fr := f.tr (g.wi (KW_RW (by omega)))
        refine h I3 L3 fr (hS.kept fr RW_0) ⟨?_, by rw [List.length_take]; omega, fun i T hT => ?_⟩
        · rw [(g 1315 8 (by unfold KW; omega)).1, e8, List.length_take, List.length_cons, l8]; rfl
        · have hlen : ((S :: H).take 8).length = 8 := by rw [List.length_take, List.length_cons, l8]; rfl
          rw [hlen]
          have hi := (List.getElem?_eq_some_iff.mp hT).1
          rw [hlen] at hi
          rw [List.getElem?_take, if_pos hi] at hT
          cases i with
          | zero =>
            have hT : S = T := by simpa using hT
            subst hT
            exact gt
          | succ i =>
            rw [List.getElem?_cons_succ] at hT
            have := (hst i T hT).2 (by omega) (by omega)
            rw [show 8 - (i + 1) = 7 - i by omega]
            exact this.kept g (fun a i z => KW_ne (by omega) a i z)
      | succ n ih =>
        intro k I2 L2 hn hk1 hk f e8 hst
        refine k302_11 hτ (by omega) ?_
        rw [zi_lt (by omega) (by omega) (by omega) (by omega), zn_a k 1 1 rfl]
        refine ⟨fun _ => ?_, fun z => absurd (by omega) z⟩
        obtain ⟨T, hT⟩ : ∃ T, H[7 - k]? = some T := ⟨H[7 - k]'(by omega), List.getElem?_eq_getElem (by omega)⟩
        have s1 := (hst (7 - k) T hT).1 (by omega)
        rw [show 8 - (7 - k) = k + 1 by omega] at s1
        refine t_copiesState (j := k + 1) (k := k) hτ (by omega) (by omega) (by omega) s1 (by omega) fun I3 L3 g gt => ?_
        refine ih (k + 1) I3 L3 (by omega) (by omega) (by omega) (f.tr (g.wi (KW_RW hk1))) (by rw [(g 1315 8 (by unfold KW; omega)).1]; exact e8) (fun i U hU => ⟨fun hi => ?_, fun hi hi7 => ?_⟩)
        · exact ((hst i U hU).1 (by omega)).kept g (fun a b z => KW_ne (by omega) a b z)
        · by_cases e : i = 7 - k
          · subst e
            rw [hT] at hU
            cases hU
            rw [show 7 - (7 - k) = k by omega]
            exact gt
          · exact ((hst i U hU).2 (by omega) hi7).kept g (fun a b z => KW_ne (by omega) a b z)
    refine loop _ 1 I L rfl (by omega) (by omega) twf.rf (by rw [h1, l8]; rfl) (fun i T hT => ⟨fun hi => ?_, fun hi hi7 => absurd hi (by omega)⟩)
    have := h3 i T hT
    rw [l8] at this
    exact this
  · rintro I1 rfl
    rw [u2_same, zn_a H.length 1 1 rfl]
    have g0 : twf RW I L (cm_u2 I 1315 8 (zi ((H.length + 1 : Nat) : Int))) L := twf.rf.pI (by unfold RW; omega) _
    refine t_copiesState (j := 0) (k := H.length + 1) hτ (by omega) (by omega) (by omega) (hS.kept g0 RW_0) (by omega) fun I3 L3 g gt => ?_
    have fr := g0.tr (g.wi (KW_RW (by omega)))
    have hlen : ((S :: H).take 8) = S :: H := List.take_of_length_le (by rw [List.length_cons]; omega)
    rw [hlen] at h
    refine h I3 L3 fr (hS.kept fr RW_0) ⟨?_, by rw [List.length_cons]; omega, fun i T hT => ?_⟩
    · rw [(g 1315 8 (by unfold KW; omega)).1, u2_same, List.length_cons]
    · rw [List.length_cons]
      cases i with
      | zero =>
        have hT : S = T := by simpa using hT
        subst hT
        exact gt
      | succ i =>
        rw [List.getElem?_cons_succ] at hT
        have hi := (List.getElem?_eq_some_iff.mp hT).1
        have g1 : twf (fun a i => a = 1315 ∧ i = 8) I L (cm_u2 I 1315 8 (zi ((H.length + 1 : Nat) : Int))) L := twf.rf.pI ⟨rfl, rfl⟩ _
        have := (h3 i T hT).kept g1 (fun a b z => by unfold KW; omega)
        rw [show H.length + 1 - (i + 1) = H.length - i by omega]
        exact this.kept g (fun a b z => KW_ne (by omega) a b z)
theorem t_begins (hτ : tw_ok τ) {c : Nat} {q : Cn} (hc : c < 240) (hq : tcell I L c q) {Q : tw_I → tw_L → Prop} (hd : 1 ≤ d)
    (h : ∀ I2 L2, twf (fun a i => (a = 1324 ∨ a = 1325 ∨ a = 1328) ∧ i = c) I L I2 L2 → I2 1324 c = zi (bgV q).1 → L2 1325 c = (bgV q).2 → I2 1328 c = bz (decide (cty q = 2)) → Q I2 L2) : wp_c d 180 [.ref 1315, .int (zi c)] (tw τ I L) (tv τ Q) := by
  obtain ⟨q1, q2, q3, q4⟩ := hq
  refine k180 hτ hd ⟨zn_in (by omega) (by omega), zn_in hc (by omega), ?_⟩
  rintro I1 rfl
  rw [zn_ix (by omega), u2_ne _ _ _ _ (by omega), q1]
  have fr : ∀ (x y : Int32) (v : Int64), twf (fun a i => (a = 1324 ∨ a = 1325 ∨ a = 1328) ∧ i = c) I L (cm_u2 (cm_u2 I 1324 c x) 1328 c y) (cm_u2 L 1325 c v) := fun x y v => ((twf.rf.pI (by omega) _).pL (by omega) _).pI (by omega) _
  match q, h, q4 with
  | none, h, q4 =>
    refine ⟨fun z => absurd z (by decide), fun _ => ⟨fun z => absurd z (by decide), fun _ => ?_⟩⟩
    rintro L2 rfl I2 rfl
    exact h _ _ (fr _ _ _) (by rw [u2_ne _ _ _ _ (by omega), u2_same]; rfl) (by rw [u2_same]; rfl) (by rw [u2_same]; rfl)
  | some (.inl n), h, q4 =>
    refine ⟨fun z => absurd (show zi 1 = zi 2 from z) (by decide), fun _ => ⟨fun _ => ?_, fun z => absurd rfl z⟩⟩
    rintro L2 rfl I2 rfl
    exact h _ _ (fr _ _ _) (by rw [u2_ne _ _ _ _ (by omega), u2_same]; rfl) (by rw [u2_same, q4 n rfl]; rfl) (by rw [u2_same]; rfl)
  | some (.inr t), h, q4 =>
    refine ⟨fun _ => ?_, fun z => absurd rfl z⟩
    rintro L2 rfl I2 rfl
    exact h _ _ (fr _ _ _) (by rw [u2_ne _ _ _ _ (by omega), u2_same]; rfl) (by rw [u2_same]; rfl) (by rw [u2_same]; rfl)
end
