/-! ENGINE: the rewriter, calls -/
theorem shp_len {f : Nat} {l : List Fm} (h : shp f l) : 1 ≤ l.length ∧ l.length ≤ 8 := by
  unfold shp at h
  split at h
  · exact ⟨h.1, h.2.1⟩
  · rw [h.1]; decide
  · rw [h.1]; decide
  · obtain ⟨a, b, rfl, _⟩ := h; exact ⟨by show 1 ≤ 2; decide, by show 2 ≤ 8; decide⟩
  · obtain ⟨a, b, rfl, _⟩ := h; exact ⟨by show 1 ≤ 2; decide, by show 2 ≤ 8; decide⟩
  · exact ⟨h.2.1, h.2.2.1⟩
theorem grF_le : ∀ n, 1 ≤ n → n ≤ 8 → grF n ≤ n - 1 := by
  intro n h1 h2
  have : ∀ n, n < 9 → 1 ≤ n → grF n ≤ n - 1 := by decide
  exact this n (by omega) h1
theorem grF_mono (n : Nat) : grF n ≤ grF (n + 1) := by
  unfold grF
  by_cases a : n ≤ 3
  · rw [if_pos a]; omega
  · rw [if_neg a, if_neg (show ¬ n + 1 ≤ 3 from (by omega)), if_neg (show ¬ n + 1 ≤ 4 from (by omega))]
    by_cases b : n ≤ 4
    · rw [if_pos b]; split <;> omega
    · rw [if_neg b]
      by_cases c : n ≤ 6
      · rw [if_pos c]; split <;> omega
      · rw [if_neg c, if_neg (show ¬ n + 1 ≤ 6 from (by omega))]; omega
/-- the sum over the first ones -/
def sF (g : Fm → Nat) (ts : List Fm) (j : Nat) : Nat := ((ts.take j).map g).sum
theorem sF_s (g : Fm → Nat) {ts : List Fm} {j : Nat} {t : Fm} (h : ts[j]? = some t) : sF g ts (j + 1) = sF g ts j + g t := by
  obtain ⟨hj, e⟩ := List.getElem?_eq_some_iff.mp h
  unfold sF
  rw [List.take_succ_eq_append_getElem hj, e, List.map_append, List.sum_append]
  rfl
theorem sF_all (g : Fm → Nat) (ts : List Fm) : sF g ts ts.length = (ts.map g).sum := by
  unfold sF
  rw [List.take_length]
theorem sum_p1 (g : Fm → Nat) (ts : List Fm) : (ts.map fun t => g t + 1).sum = (ts.map g).sum + ts.length := by
  induction ts with
  | nil => rfl
  | cons t ts ih =>
    rw [List.map_cons, List.sum_cons, ih, List.map_cons, List.sum_cons, List.length_cons]; omega
section
variable {G : Nat → Prop} {v : Nat} {vs : cm_S → Nat → Prop} {m1 : Nat → Fm} {m2 : Nat → Nat → Fm} {m3 : Nat → Fm} {cf : Fm → Nat}
theorem rw_call (hm : mok m1 m2 m3) (hk : vsk G v vs) (hc : cfk cf) {tv : Nat} (hvw : vways tv) (hvt : ∀ σ k, vs σ k → cm_tg σ v = tv) {f : Nat} {as : Fm} (wa : wf as) (hL : isL as) (hs : shp f (ags as)) (ih : rwR G v vs m1 m2 m3 cf as) : rwP G v vs m1 m2 m3 cf (.mul (.arg f) as) := by
  intro a d σ Q k h0 hE hv gv v46 vn hd h
  obtain ⟨⟨t0, g0⟩, h1, ⟨b, c, xs, h3, h4, h5⟩, h6⟩ := h0
  have hd : 6 * (hh as + 1) + 30 ≤ d := hd
  have ha := (hE.2.2.1 _ g0).1
  have hn := hE.1.1
  have hl := (hE.2.2.1 _ h5).1
  have gb : G b := by
    have := nd_G as wa _ _ h6
    rw [h3.1.2.1] at this; exact this
  have hb := (hE.2.2.1 _ gb).1
  rw [h3.1.2.1] at h6
  have hlen := shp_len hs
  have hts := wt_ags as hL (fun z => by rw [z] at hlen; exact absurd hlen.1 (by decide))
  rw [sum_p1] at hts
  have gG : ∀ x, G x → x ≠ v := fun x hx z => gv (z ▸ hx)
  obtain ⟨N, eN⟩ : ∃ N, N = cm_nx σ := ⟨_, rfl⟩
  refine (hvw d v a σ Q (hvt σ k hv) (by omega)).2.2.2.2.2 t0 (k419 (by omega) ?_)
  rintro _ rfl
  refine l_new (k := 3) (by omega) (by omega) (by omega) (by omega) fun σ2 l2 nx2 f2 => ⟨rfl, ?_⟩
  have f2' := f2 no_ no_
  have e2 : cm_R σ2 a = cm_R σ a := f2'.R ha (fun z => z)
  have hl2 := ls_fr h3 f2' hl hb (fun z => z) (fun z => z) (fun z => z)
  dsimp only
  rw [e2]
  refine ⟨(f2'.tg ha).trans t0, hl2.1.1, l_iter hl2 (by omega) (by omega) fun σ3 f3 nx3 i3 => ⟨_, _, rfl, ?_⟩⟩
  rw [← eN] at l2 nx2 ⊢
  rw [nx2] at nx3 i3 ⊢
  have key : ∀ n j : Nat, ∀ (σi : cm_S) (b2 : Nat) (ys : List Nat) (U : Nat → Prop) (x4 : Value), j + n = (ags as).length → fr (fun x => x = v) no_ (3 + sF wt (ags as) j + grF j) σ σi → vs σi (k + sF cf (ags as) j) → ls σi N b2 (capF j) ys → ys.length = j → (b2 = N + 1 ∨ N + 3 ≤ b2) → b2 < cm_nx σi → itr σi (N + 2) (cm_R σ a 1) j → N + 3 ≤ cm_nx σi →
      (∀ (i : Nat) (t : Fm) (y : Nat), (ags as)[i]? = some t → ys[i]? = some y → nd U σi (mp m1 m2 m3 t) y 0) → (∀ x, U x → gx G σ σi x ∧ x ≠ N ∧ x ≠ N + 2 ∧ x ≠ b2) → (∀ x, G x → U x) →
      wp_r (d - 1 - 1 - 1) 419 (19, [.ref v, .ref a, .ref N, .ref (N + 2), x4], [], σi) (qr fun r1 σ1 => Q (false, .ref r1, σ1)) := by
    intro n
    induction n with
    | zero =>
      intro j σi b2 ys U x4 hj Fi vi li yl hb2 b2n ii nxi nodes hU hGU
      have li3 := ls_fr h3 Fi hl hb (gG _ h5) (fun z => z) (fun z => z)
      refine k419_19 (by omega) ⟨ii.1, i_has li3 ii (by omega) (by omega) ⟨_, _, rfl, fun _ => ?_, fun z => ?_⟩⟩
      · rintro _ rfl
        have g1 : ∀ X Y, fr X Y 1 σi (cm_al σi 17 2) := fun X Y => fr_al (by omega) (by omega)
        have nx1 : cm_nx (cm_al σi 17 2) = cm_nx σi + 1 := rfl
        have tn : cm_tg (cm_al σi 17 2) (cm_nx σi) = 17 := u1_at _ _ _
        generalize cm_al σi 17 2 = σj at g1 nx1 tn ⊢
        have g1' := g1 no_ no_
        have Fj : fr (fun x => x = v) no_ (3 + sF wt (ags as) j + grF j + 1) σ σj := fr_tr Fi (g1 _ _) (fun _ _ z => z) (fun _ _ z => z)
        rw [show cm_R σj a = cm_R σ a from Fj.R ha (fun z => z), h1]
        refine ⟨(Fj.tg ha).trans t0, k389 (by omega) ⟨⟨by rw [tn]; decide, by rw [tn]; decide⟩, k363 (by omega) ⟨by rw [tn]; decide, rfl, tn, show 322 ≤ cm_nx σi from (by omega), ?_⟩⟩⟩
        rintro _ rfl
        rintro _ rfl
        have f6 : fr no_ (fun x => x = cm_nx σi) 0 σj (cm_pR (cm_pR σj (cm_nx σi) 0 (f + 1)) (cm_nx σi) 1 N) := (fr_pR (X := no_) (Y := fun x => x = cm_nx σi) (Or.inl rfl)).tr_ (fr_pR (Or.inl rfl))
        have r0 : cm_R (cm_pR (cm_pR σj (cm_nx σi) 0 (f + 1)) (cm_nx σi) 1 N) (cm_nx σi) 0 = f + 1 := by
          show cm_u2 (cm_u2 (cm_R σj) (cm_nx σi) 0 _) (cm_nx σi) 1 _ (cm_nx σi) 0 = _
          rw [u2_nj _ _ _ _ _ (by decide), u2_same]
        have r1 : cm_R (cm_pR (cm_pR σj (cm_nx σi) 0 (f + 1)) (cm_nx σi) 1 N) (cm_nx σi) 1 = N := u2_same _ _ _ _
        have nx6 : cm_nx (cm_pR (cm_pR σj (cm_nx σi) 0 (f + 1)) (cm_nx σi) 1 N) = cm_nx σj := rfl
        generalize cm_pR (cm_pR σj (cm_nx σi) 0 (f + 1)) (cm_nx σi) 1 N = σ6 at f6 r0 r1 nx6 ⊢
        have h6f : fr no_ (fun x => x = cm_nx σi) (1 + 0) σi σ6 := fr_tr (g1 _ _) f6 (fun _ _ z => z) (fun _ _ z => z)
        have F6 : fr (fun x => x = v) no_ (3 + sF wt (ags as) j + grF j + 1 + 0) σ σ6 := fr_tr Fj f6 (fun _ _ z => z.elim) (fun y hy z => by have : y = cm_nx σi := z; omega)
        have ej : j = (ags as).length := (by omega)
        have hg := grF_le _ hlen.1 hlen.2
        have l6 := ls_fr li h6f (by omega) b2n (fun z => z) (fun z => by have : N = cm_nx σi := z; omega) (fun z => by have : b2 = cm_nx σi := z; omega)
        have gkU : gk U σi := ⟨fun x hx => (hU x hx).1.elim (fun y => (gk_nx hE.2.2 Fi.1).1 x y) (fun y => ⟨y.2, Or.inr (Nat.le_trans hn y.1), (by omega)⟩), fun x a1 a2 => hGU x (hE.2.2.2 x a1 a2)⟩
        have eR : cm_R σ6 N 1 = b2 := l6.1.2.1
        refine ⟨rfl, _, _, rfl, h σ6 (cm_nx σi) (F6.le_ ?_) ?_ ⟨⟨(f6.tg (by omega)).trans tn, Or.inr ⟨(by omega), (by omega)⟩⟩, r0, ⟨b2, capF j, ys, ?_, ?_, ?_⟩, ?_⟩⟩
        · show _ ≤ wt as + 4
          rw [ej, sF_all] at *
          omega
        · rw [hc.2.2.2.1 f as hL, ← sF_all cf (ags as), ← ej]
          exact hk _ _ _ _ _ _ vi (Nat.lt_of_lt_of_le vn Fi.1) h6f (fun z => z) (fun z => by have : v = cm_nx σi := z; omega) (gk_nx hE.2.2 Fi.1) (fun x hx => ⟨fun z => z, fun z => by have := (hE.2.2.1 x hx).1; have : x = cm_nx σi := z; omega⟩)
        · rw [r1]; exact l6
        · rw [ags_mp hL, List.length_map]; omega
        · rw [r1]; exact Or.inr ⟨(by omega), (by omega)⟩
        · rw [r1, eR]
          refine nd_spine (Or.inr ⟨by rcases hb2 with q | q <;> omega, (by omega)⟩) _ (mp_L hL) 0 fun i t hi => ?_
          rw [ags_mp hL, List.getElem?_map] at hi
          cases q : (ags as)[i]? with
          | none => rw [q] at hi; cases hi
          | some t9 =>
            rw [q] at hi
            cases hi
            have hil := (List.getElem?_eq_some_iff.mp q).1
            have wt9 := (ags_mem as wa hL t9 (List.mem_of_getElem? q))
            obtain ⟨w', n'⟩ := mp_nn hm wt9.1 wt9.2
            have ey : ys[i]? = some ys[i] := List.getElem?_eq_getElem (by omega)
            have p := nodes i t9 _ q ey
            have p6 := nd_out w' p gkU h6f (fun _ _ z => z) (fun x hx z => by have := (gkU.1 x hx).1; have : x = cm_nx σi := z; omega)
            rw [Nat.zero_add, l6.2.2.2.1 i _ ey]
            exact nd_mono (fun x hx => (hU x hx).1.elim Or.inl (fun y => Or.inr ⟨y.1, by omega⟩)) w' p6
      · rw [bz_0, decide_eq_false_iff_not] at z
        omega
    | succ n ihn =>
      intro j σi b2 ys U x4 hj Fi vi li yl hb2 b2n ii nxi nodes hU hGU
      have li3 := ls_fr h3 Fi hl hb (gG _ h5) (fun z => z) (fun z => z)
      obtain ⟨t, et⟩ : ∃ t, (ags as)[j]? = some t := ⟨_, List.getElem?_eq_getElem (show j < (ags as).length from (by omega))⟩
      obtain ⟨y0, ey0⟩ : ∃ y0, xs[j]? = some y0 := ⟨_, List.getElem?_eq_getElem (show j < xs.length from (by omega))⟩
      obtain ⟨wt1, nt1⟩ := ags_mem as wa hL t (List.mem_of_getElem? et)
      obtain ⟨pt, ht⟩ := ih t (List.mem_of_getElem? et)
      have hnd : nd G σ t y0 0 := by
        have := nd_arg as wa hL b 0 j t h6 et
        rw [Nat.zero_add, h3.2.2.2.1 j y0 ey0] at this
        exact this
      refine k419_19 (by omega) ⟨ii.1, i_has li3 ii (by omega) (by omega) ⟨_, _, rfl, fun z => ?_, fun _ => ⟨ii.1, i_next li3 ii ey0 (by omega) fun σa fa ia la => ⟨_, _, rfl, ?_⟩⟩⟩⟩
      · rw [bz_0, decide_eq_false_iff_not] at z; omega
      have Fa : fr (fun x => x = v) no_ (3 + sF wt (ags as) j + grF j + 0) σ σa := fr_tr Fi fa (fun y hy z => by have : y = N + 2 := z; omega) (fun _ _ z => z)
      have hEa := eB_fr0 hE Fa (fun x z => by have : x = v := z; omega)
      have gG2 : ∀ x, G x → ¬ (fun x => x = v) x ∧ ¬ no_ x := fun x hx => ⟨gG x hx, fun z => z⟩
      have nda := nd_fr wt1 hnd hE.2.2 Fa gG2
      have na := fa.1
      have va := hk _ _ _ _ _ _ vi (Nat.lt_of_lt_of_le vn Fi.1) fa (fun z => by have : v = N + 2 := z; omega) (fun z => z) (gk_nx hE.2.2 Fi.1) (fun x hx => ⟨fun z => by have := (hE.2.2.1 x hx).1; have : x = N + 2 := z; omega, fun z => z⟩)
      refine ⟨Or.inr (nd_cast wt1 nt1 nda), pt _ _ σa _ _ nda hEa va gv v46 (Nat.lt_of_lt_of_le vn Fa.1) (by omega) fun σb y fb vb nb => ⟨_, _, rfl, ?_⟩⟩
      have nbx := fb.1
      obtain ⟨w', n'⟩ := mp_nn hm wt1 nt1
      have lia := ls_fr li fa (by omega) b2n (fun z => by have : N = N + 2 := z; omega) (fun z => z) (fun z => z)
      have lib := ls_fr lia fb (by omega) (Nat.lt_of_lt_of_le b2n na) (fun z => by have : N = v := z; omega) (fun z => z) (fun z => z)
      have itb := itr_fr ia fb (by omega) (Nat.lt_of_lt_of_le hl Fa.1) (fun z => by have : N + 2 = v := z; omega) (fun z => z) (gG _ h5)
      have gkU : gk U σi := ⟨fun x hx => (hU x hx).1.elim (fun y => (gk_nx hE.2.2 Fi.1).1 x y) (fun y => ⟨y.2, Or.inr (Nat.le_trans hn y.1), (by omega)⟩), fun x a1 a2 => hGU x (hE.2.2.2 x a1 a2)⟩
      have nodesb : ∀ (i : Nat) (t : Fm) (y : Nat), (ags as)[i]? = some t → ys[i]? = some y → nd U σb (mp m1 m2 m3 t) y 0 := fun i t9 y9 q1 q2 => by
        have wt9 := (ags_mem as wa hL t9 (List.mem_of_getElem? q1))
        obtain ⟨w9, n9⟩ := mp_nn hm wt9.1 wt9.2
        have p := nodes i t9 y9 q1 q2
        have pa := nd_out w9 p gkU fa (fun x hx z => (hU x hx).2.2.1 z) (fun _ _ z => z)
        exact nd_out w9 pa (gk_nx gkU na) fb (fun x hx z => (hU x hx).1.elim (fun q => gG x q z) (fun q => by have : x = v := z; omega)) (fun _ _ z => z)
      have gkb : gk (gx G σa σb) σb := gk_gx hEa.2.2 hEa.1.1 nbx
      have yG := nd_G _ w' _ _ nb
      refine ⟨Or.inr (nd_cast w' n' nb), lib.1.1, ?_⟩
      have lib' : ls σb N b2 (capF ys.length) ys := by rw [yl]; exact lib
      refine l_addC lib' (nd_asg w' n' nb) (gkb.1 _ yG).1 (by omega) (Nat.lt_of_lt_of_le (Nat.lt_of_lt_of_le b2n na) nbx) (by omega) (fun q hq => ?_) (by omega) fun σc b3 lc hb3 fc => ⟨_, _, rfl, ?_⟩
      · obtain ⟨i, hi, eq⟩ := List.mem_iff_getElem.mp hq
        have ei : ys[i]? = some q := by rw [← eq]; exact List.getElem?_eq_getElem hi
        obtain ⟨t9, et9⟩ : ∃ t9, (ags as)[i]? = some t9 := ⟨_, List.getElem?_eq_getElem (show i < (ags as).length from (by omega))⟩
        have wt9 := (ags_mem as wa hL t9 (List.mem_of_getElem? et9))
        obtain ⟨w9, n9⟩ := mp_nn hm wt9.1 wt9.2
        have p := nodesb i t9 q et9 ei
        have := nd_asg w9 n9 p
        exact ⟨this.1, this.2, Nat.lt_of_lt_of_le ((gkU.1 _ (nd_G _ w9 _ _ p)).1) (Nat.le_trans na nbx)⟩
      · have ncx := fc.1
        rw [yl] at lc fc
        have hb2' : ∀ x, x < cm_nx σ → ¬ (x = N ∨ x = b2) := fun x hx z => by rcases hb2 with q | q <;> rcases z with w | w <;> omega
        have Fb : fr (fun x => x = v) no_ (3 + sF wt (ags as) j + grF j + 0 + wt t) σ σb := fr_tr Fa fb (fun _ _ z => z) (fun _ _ z => z)
        have Fc : fr (fun x => x = v) no_ (3 + sF wt (ags as) j + grF j + 0 + wt t + (grF (j + 1) - grF j)) σ σc := fr_tr Fb fc (fun x hx z => by have : x = N := z; omega) (fun x hx z => absurd z (hb2' x hx))
        have gm := grF_mono j
        have b2v : b2 ≠ v := by rcases hb2 with q | q <;> omega
        have b3n : b3 < cm_nx σc := by rcases hb3 with q | q <;> omega
        refine ihn (j + 1) σc b3 (ys ++ [y]) (fun x => U x ∨ (cm_nx σa ≤ x ∧ x < cm_nx σb)) _ (by omega) (Fc.le_ (by rw [sF_s wt et]; omega)) ?_ lc (by rw [List.length_append, yl]; rfl) (by rcases hb3 with q | q <;> omega) b3n (itr_fr itb fc (by omega) (Nat.lt_of_lt_of_le hl Fb.1) (fun z => by have : N + 2 = N := z; omega) (fun z => by rcases hb2 with q | q <;> rcases z with w | w <;> omega) (fun z => by have : cm_R σ a 1 = N := z; omega)) (by omega) ?_ ?_ (fun x hx => Or.inl (hGU x hx))
        · rw [sF_s cf et, ← Nat.add_assoc]
          exact hk _ _ _ _ _ _ vb (Nat.lt_of_lt_of_le vn Fb.1) fc (fun z => by have : v = N := z; omega) (fun z => z.elim (fun q => by omega) (fun q => b2v q.symm)) (gk_nx hE.2.2 Fb.1) (fun x hx => ⟨fun z => by have := (hE.2.2.1 x hx).1; have : x = N := z; omega, fun z => by have := (hE.2.2.1 x hx).1; rcases hb2 with q | q <;> rcases z with w | w <;> omega⟩)
        · intro i t9 y9 q1 q2
          have wt9 := (ags_mem as wa hL t9 (List.mem_of_getElem? q1))
          obtain ⟨w9, n9⟩ := mp_nn hm wt9.1 wt9.2
          rcases get_app q2 with q | ⟨q, qe⟩
          · have p := nodesb i t9 y9 q1 q
            have pc := nd_out w9 p (gk_nx gkU (Nat.le_trans na nbx)) fc (fun x hx z => (hU x hx).2.1 z) (fun x hx z => z.elim (fun q => (hU x hx).2.1 q) (fun q => (hU x hx).2.2.2 q))
            exact nd_mono (fun x hx => Or.inl hx) w9 pc
          · subst qe
            rw [yl] at q
            subst q
            rw [et] at q1
            cases q1
            have hx9 : ∀ x, gx G σa σb x → x ≠ N ∧ x ≠ b2 := fun x hx => hx.elim (fun q => ⟨by have := (hE.2.2.1 x q).1; omega, by have := (hE.2.2.1 x q).1; rcases hb2 with w | w <;> omega⟩) (fun q => ⟨by omega, by omega⟩)
            have pc := nd_out w9 nb gkb fc (fun x hx z => (hx9 x hx).1 z) (fun x hx z => z.elim (fun q => (hx9 x hx).1 q) (fun q => (hx9 x hx).2 q))
            exact nd_mono (fun x hx => hx.elim (fun q => Or.inl (hGU x q)) Or.inr) w9 pc
        · intro x hx
          rcases hx with q | q
          · obtain ⟨a1, a2, a3, a4⟩ := hU x q
            have xn := (gkU.1 x q).1
            refine ⟨a1.elim Or.inl (fun z => Or.inr ⟨z.1, by omega⟩), a2, a3, ?_⟩
            rcases hb3 with w | w
            · rw [w]; exact a4
            · omega
          · refine ⟨Or.inr ⟨by omega, by omega⟩, by omega, by omega, ?_⟩
            rcases hb3 with w | w
            · omega
            · omega
  have f3' : fr (fun x => x = v) no_ 3 σ σ3 := fr_tr (n := 2) (m := 1) (f2 _ _) (f3 _ _) (fun _ _ z => z) (fun _ _ z => z)
  have l3 := ls_fr l2 (f3 no_ no_) (by omega) (by omega) (fun z => z) (fun z => z) (fun z => z)
  exact key (ags as).length 0 σ3 (N + 1) [] G .null (by omega) f3' (hk _ _ _ _ _ _ hv vn (fr_tr (n := 2) (m := 1) (X := no_) (Y := no_) (f2 _ _) (f3 no_ no_) (fun _ _ z => z) (fun _ _ z => z)) (fun z => z) (fun z => z) hE.2.2 (fun _ _ => ⟨fun z => z, fun z => z⟩)) l3 rfl (Or.inl rfl) (by omega) i3 (by omega) (fun i t y q1 q2 => by cases q2) (fun x hx => ⟨Or.inl hx, by have := (hE.2.2.1 x hx).1; omega, by have := (hE.2.2.1 x hx).1; omega, by have := (hE.2.2.1 x hx).1; omega⟩) (fun x hx => hx)
/-- every formula, if leaves are known -/
theorem rw_all (hm : mok m1 m2 m3) (hk : vsk G v vs) (hc : cfk cf) {tv : Nat} (hvw : vways tv) (hvt : ∀ σ k, vs σ k → cm_tg σ v = tv) (l1 : ∀ w, w < 960 → rwP G v vs m1 m2 m3 cf (.index w)) (l2 : ∀ c, okN c → rwP G v vs m1 m2 m3 cf (.length (.arg c))) (l3 : ∀ u w, u < 960 → w < 960 → rwP G v vs m1 m2 m3 cf (.elem (.index u) (.index w))) {t : Fm} (hw : wf t) (hn : nn t) : rwP G v vs m1 m2 m3 cf t := by
  refine (fm_ind2 (P := rwP G v vs m1 m2 m3 cf) (R := rwR G v vs m1 m2 m3 cf) ?_ l1 ?_ l2 l3 (fun o l r _ wl wr nl nr ihl ihr => rw_op2 hm hk hc hvw hvt wl wr nl nr ihl ihr) ?_ ?_ (fun f as wa hL hs ih => rw_call hm hk hc hvw hvt wa hL hs ih) ?_ ?_ t hw).1 hn
  · intro n hn a d σ Q k h0 hE hv gv v46 vn hd h
    refine (hvw d v a σ Q (hvt σ k hv) (by omega)).1 h0.1.1 (k422 (by omega) ⟨_, _, rfl, h σ a fr_0 ?_ (nd_mono (fun _ hx => Or.inl hx) (t := .arg n) hn h0)⟩)
    rw [hc.2.2.2.2.1]; exact hv
  · intro a d σ Q k h0 hE hv gv v46 vn hd h
    refine (hvw d v a σ Q (hvt σ k hv) (by omega)).2.1 h0.1 (k417 (by omega) ⟨_, _, rfl, h σ a fr_0 ?_ (nd_mono (fun _ hx => Or.inl hx) (t := .null) trivial h0)⟩)
    rw [hc.2.2.2.2.2]; exact hv
  · intro t wt_ nt ih a d σ Q k h0 hE hv gv v46 vn hd h
    have hd : 6 * (hh t + 1) + 30 ≤ d := hd
    refine (hvw d v a σ Q (hvt σ k hv) (by omega)).2.2.2.1 h0.1.1 (k426 (by omega) (rw_one (A := True) (B := True) (tg9 := 18) (Or.inl rfl) hm hk wt_ nt ih h0.1.1 h0.1.2 h0.2 hE hv gv v46 vn (by omega) fun σ2 b f2 v2 hb n2 => ⟨_, _, rfl, h σ2 b (f2.le_ (by show _ ≤ wt t + 1; omega)) ?_ ⟨hb, n2⟩⟩))
    rw [hc.2.1]; exact v2
  · intro t wt_ nt ih a d σ Q k h0 hE hv gv v46 vn hd h
    have hd : 6 * (hh t + 1) + 30 ≤ d := hd
    refine (hvw d v a σ Q (hvt σ k hv) (by omega)).2.2.2.2.1 h0.1.1 (k428 (by omega) (rw_one (A := True) (B := True) (tg9 := 12) (Or.inr rfl) hm hk wt_ nt ih h0.1.1 h0.1.2 h0.2 hE hv gv v46 vn (by omega) fun σ2 b f2 v2 hb n2 => ⟨_, _, rfl, h σ2 b (f2.le_ (by show _ ≤ wt t + 2; omega)) ?_ ⟨hb, n2⟩⟩))
    rw [hc.2.2.1]; exact v2
  · intro t r wt wr nt hL iht ihr a ha
    have ha : a ∈ t :: ags r := ha
    rcases List.mem_cons.mp ha with e | e
    · subst e; exact ⟨iht, Nat.le_max_left _ _⟩
    · exact ⟨(ihr a e).1, Nat.le_trans (ihr a e).2 (Nat.le_max_right _ _)⟩
  · intro a ha
    cases ha
end
