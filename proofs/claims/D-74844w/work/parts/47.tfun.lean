/-! THE TWIN: functions' names, any token -/
/-- the functions' names, as constants -/
def tcs (τ : tw_K) (I : tw_I) : Prop := ∀ (f : Nat) (bs : List Nat), fnames[f]? = some bs → tw_R τ 1332 f = 23 + f ∧ isStr (tw τ I (fun _ _ => zl 0)) (23 + f) bs
theorem fn_len : ∀ (f : Nat) (bs : List Nat), fnames[f]? = some bs → f < 9 ∧ bs.length ≤ 5 := by
  intro f bs h
  have hf : f < 9 := (List.getElem?_eq_some_iff.mp h).1
  have h2 : (fnames.all fun bs => decide (bs.length ≤ 5)) = true := by decide
  have h3 := List.all_eq_true.mp h2 bs (List.mem_of_getElem? h)
  exact ⟨hf, by simpa using h3⟩
def seg (B : List Nat) (b e : Nat) : List Nat := (B.drop b).take (e - b)
theorem seg_get {B : List Nat} {b e k : Nat} (hk : k < e - b) : (seg B b e)[k]? = B[b + k]? := by
  unfold seg
  rw [List.getElem?_take_of_lt hk, List.getElem?_drop]
theorem seg_len {B : List Nat} {b e : Nat} (he : e ≤ B.length) : (seg B b e).length = e - b := by
  unfold seg
  rw [List.length_take, List.length_drop]; omega
theorem fnAt_some {B : List Nat} {b e f : Nat} (h : fnames[f]? = some (seg B b e)) (hn : ∀ g : Nat, g < f → fnames[g]? ≠ some (seg B b e)) : fnAt B b e = some f := by
  unfold fnAt
  rw [List.findIdx?_eq_some_iff_getElem]
  obtain ⟨hf, he⟩ := List.getElem?_eq_some_iff.mp h
  refine ⟨hf, ?_, fun j hj => ?_⟩
  · rw [he]; unfold seg; simp
  · intro z
    rw [beq_iff_eq] at z
    exact hn j hj (List.getElem?_eq_some_iff.mpr ⟨by omega, z⟩)
theorem fnAt_none {B : List Nat} {b e : Nat} (hn : ∀ g : Nat, g < 9 → fnames[g]? ≠ some (seg B b e)) : fnAt B b e = none := by
  unfold fnAt
  rw [List.findIdx?_eq_none_iff]
  intro x hx
  obtain ⟨g, hg, rfl⟩ := List.mem_iff_getElem.mp hx
  rw [beq_eq_false_iff_ne]
  intro z
  exact hn g hg (List.getElem?_eq_some_iff.mpr ⟨hg, z⟩)
section
variable {τ : tw_K} {I : tw_I} {L : tw_L} {d : Nat} {B : List Nat}
theorem t_fn_in (hτ : tw_ok τ) (hc : tcs τ I) (hB : tbf I B) {b e f : Nat} (hbe : b ≤ e) (heB : e ≤ B.length) {bs : List Nat} (hf : fnames[f]? = some bs) (hl : bs.length = e - b) {Q : Int32 → tw_I → tw_L → Prop} (hd : 4 ≤ d)
    (h1 : bs = seg B b e → Q (zi f) I L) (h2 : bs ≠ seg B b e → ∀ x4 x5 : Int32, wp_r d 220 (2, [.ref 1315, .int (zi b), .int (zi ((e - b : Nat) : Int)), .int (zi f + zi 1), .int x4, .int x5], [], tw τ I L) (ti τ Q)) :
    ∀ (n k : Nat), e - b - k = n → k ≤ e - b → (∀ j, j < k → bs[j]? = (seg B b e)[j]?) → wp_r d 220 (34, [.ref 1315, .int (zi b), .int (zi ((e - b : Nat) : Int)), .int (zi f), .int (zi 1), .int (zi k)], [], tw τ I L) (ti τ Q) := by
  have hlen := hB.2.1
  obtain ⟨hf9, hl5⟩ := fn_len f bs hf
  obtain ⟨c1, c2⟩ := hc f bs hf
  intro n
  induction n with
  | zero =>
    intro k hn hk hs
    have : bs = seg B b e := by
      apply List.ext_getElem?
      intro j
      by_cases q : j < k
      · exact hs j q
      · rw [List.getElem?_eq_none (by omega), List.getElem?_eq_none (by rw [seg_len heB]; omega)]
    refine k220_34 hτ (by omega) ⟨fun q => absurd q (by decide), fun _ => ⟨fun q => ?_, fun _ => h1 this⟩⟩
    rw [zi_lt (by omega) (by omega) (by omega) (by omega)] at q; omega
  | succ n ih =>
    intro k hn hk hs
    refine k220_34 hτ (by omega) ⟨fun q => absurd q (by decide), fun _ => ⟨fun _ => ⟨zn_in hf9 (by omega), ?_⟩, fun q => ?_⟩⟩
    · rw [zn_ix (by omega), c1]
      have hx : bs[k]? = some bs[k] := List.getElem?_eq_getElem (by omega)
      refine ⟨c2.1, s_charAt (σ := tw τ I L) c2 hx hd (ti_k ?_)⟩
      rw [zi_add, show (b : Int) + k = ((b + k : Nat) : Int) by omega]
      refine t_byteAt hτ (by omega) hB (by omega) ?_
      have hy : B[b + k]? = some B[b + k] := List.getElem?_eq_getElem (by omega)
      have hy2 : (seg B b e)[k]? = some B[b + k] := by rw [seg_get (by omega)]; exact hy
      have hcb : cb (-2) B (b + k) = (B[b + k] : Nat) := by unfold cb; rw [hy]
      have r1 := hB.bok _ _ hy
      have r2 := (c2.2.2.2.2.2 k _ hx).2
      rw [hcb, zn_eq (by omega) (by omega)]
      have go1 := ih (k + 1)
      rw [show ((k + 1 : Nat) : Int) = (k : Int) + 1 by omega, ← zi_add] at go1
      refine ⟨fun q => go1 (by omega) (by omega) (fun j hj => ?_), fun q => ?_⟩
      · by_cases q2 : j < k
        · exact hs j q2
        · obtain rfl : j = k := by omega
          rw [hx, hy2, q]
      · refine k220_34 hτ (by omega) ⟨fun _ => h2 (fun z => q ?_) _ _, fun q => absurd rfl q⟩
        have := congrArg (fun l => l[k]?) z
        simp only [hx, hy2, Option.some.injEq] at this
        exact this
    · rw [zi_lt (by omega) (by omega) (by omega) (by omega)] at q; omega
theorem t_fn_out (hτ : tw_ok τ) (hc : tcs τ I) (hB : tbf I B) {b e : Nat} (hbe : b ≤ e) (heB : e ≤ B.length) {Q : Int32 → tw_I → tw_L → Prop} (hd : 4 ≤ d)
    (h : Q (match fnAt B b e with | some f => zi f | none => zi (-2)) I L) :
    ∀ (n f : Nat), 9 - f = n → f ≤ 9 → (∀ g : Nat, g < f → fnames[g]? ≠ some (seg B b e)) → ∀ x4 x5 : Value, wp_r d 220 (2, [.ref 1315, .int (zi b), .int (zi ((e - b : Nat) : Int)), .int (zi f), x4, x5], [], tw τ I L) (ti τ Q) := by
  have hlen := hB.2.1
  intro n
  induction n with
  | zero =>
    intro f hn hf hno x4 x5
    obtain rfl : f = 9 := by omega
    rw [fnAt_none hno] at h
    refine k220_2 hτ (by omega) ⟨fun q => ?_, fun _ => h⟩
    rw [zi_lt (by omega) (by omega) (by omega) (by omega)] at q; omega
  | succ n ih =>
    intro f hn hf hno x4 x5
    have hf9 : f < 9 := by omega
    have hfs : fnames[f]? = some fnames[f] := List.getElem?_eq_getElem hf9
    obtain ⟨c1, c2⟩ := hc f _ hfs
    obtain ⟨-, hl5⟩ := fn_len f _ hfs
    have next : fnames[f] ≠ seg B b e → ∀ x4 x5 : Int32, wp_r d 220 (2, [.ref 1315, .int (zi b), .int (zi ((e - b : Nat) : Int)), .int (zi f + zi 1), .int x4, .int x5], [], tw τ I L) (ti τ Q) := by
      intro hne x4 x5
      rw [zn_a f 1 1 rfl]
      refine ih (f + 1) (by omega) (by omega) (fun g hg => ?_) _ _
      by_cases q : g < f
      · exact hno g q
      · obtain rfl : g = f := by omega
        rw [hfs]
        intro z
        exact hne (Option.some.inj z)
    refine k220_2 hτ (by omega) ⟨fun _ => ⟨zn_in hf9 (by omega), ?_⟩, fun q => ?_⟩
    · rw [zn_ix (by omega), c1]
      refine ⟨c2.1, s_length (σ := tw τ I L) c2 (by omega) (ti_k ?_)⟩
      rw [zn_eq (by omega) (by omega)]
      refine ⟨fun q => ?_, fun q => ?_⟩
      · refine t_fn_in hτ hc hB hbe heB hfs q hd (fun z => ?_) next _ 0 rfl (by omega) (fun j hj => by omega)
        rw [fnAt_some (by rw [hfs, z]) hno] at h
        exact h
      · refine k220_34 hτ (by omega) ⟨fun _ => next (fun z => q ?_) _ _, fun q => absurd rfl q⟩
        rw [z, seg_len heB]
    · rw [zi_lt (by omega) (by omega) (by omega) (by omega)] at q; omega
theorem t_functionAt (hτ : tw_ok τ) (hc : tcs τ I) (hB : tbf I B) {b e : Nat} (hbe : b ≤ e) (heB : e ≤ B.length) {Q : Int32 → tw_I → tw_L → Prop} (hd : 5 ≤ d)
    (h : Q (match fnAt B b e with | some f => zi f | none => zi (-2)) I L) : wp_c d 220 [.ref 1315, .int (zi b), .int (zi ((e - b : Nat) : Int))] (tw τ I L) (ti τ Q) :=
  k220 hτ (by omega) (t_fn_out hτ hc hB hbe heB (by omega) h _ 0 rfl (by omega) (fun g hg => by omega) _ _)
theorem fnAt_lt {B : List Nat} {b e f : Nat} (h : fnAt B b e = some f) : f < 9 := by
  unfold fnAt at h
  rw [List.findIdx?_eq_some_iff_getElem] at h
  exact h.1
end
