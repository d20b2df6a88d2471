/-! PURE: rows that come and go -/
def rwo (v : Nat) : Nat := v % 240 / 12
def shR (ins : Bool) (b v : Nat) : Option Nat := if rwo v < b then some v else if ins then (if rwo v + 1 < 20 then some (v + 12) else none) else (if b < rwo v then some (v - 12) else none)
/-- rows of a range -/
def rng (ins : Bool) (b f g : Nat) : Option (Nat × Nat) :=
  if ins then (if (if f < b then f else f + 1) < 20 then some (if f < b then f else f + 1, min 19 (if g < b then g else g + 1)) else none)
  else (if (if g < b then (g : Int) else (g : Int) - 1) < (if b < f then (f : Int) - 1 else f) then none else some (if b < f then f - 1 else f, if g < b then g else g - 1))
def atR (v r : Nat) : Nat := v - 12 * rwo v + 12 * r
def frR (ins : Bool) (b v : Nat) : Fm := match shR ins b v with
  | some w => .index w
  | none => .null
def fgR (ins : Bool) (b u v : Nat) : Fm := match rng ins b (min (rwo u) (rwo v)) (max (rwo u) (rwo v)) with
  | none => .null
  | some (lo, up) => if rwo u ≤ rwo v then .elem (.index (atR u lo)) (.index (atR v up)) else .elem (.index (atR u up)) (.index (atR v lo))
theorem rwo_lt (v : Nat) : rwo v < 20 := by unfold rwo; omega
theorem shR_lt {ins : Bool} {b v w : Nat} (hv : v < 960) (h : shR ins b v = some w) : w < 960 := by
  unfold shR at h
  split at h
  · cases h; exact hv
  split at h
  · split at h
    · rename_i q
      have h := Option.some.inj h
      unfold rwo at q
      omega
    · cases h
  · split at h
    · have h := Option.some.inj h
      omega
    · cases h
theorem rng_lt {ins : Bool} {b f g lo up : Nat} (hb : b < 20) (hf : f ≤ g) (hg : g < 20) (h : rng ins b f g = some (lo, up)) : lo ≤ up ∧ up < 20 := by
  unfold rng at h
  cases ins with
  | true =>
    simp only [if_true] at h
    generalize h1 : (if f < b then f else f + 1) = p at h
    generalize h2 : (if g < b then g else g + 1) = r at h
    split at h
    · rename_i q
      have h := Option.some.inj h
      simp only [Prod.mk.injEq] at h
      obtain ⟨e1, e2⟩ := h
      split at h1 <;> split at h2 <;> omega
    · cases h
  | false =>
    simp only [Bool.false_eq_true, if_false] at h
    generalize h1 : (if g < b then (g : Int) else (g : Int) - 1) = p at h
    generalize h2 : (if b < f then (f : Int) - 1 else (f : Int)) = r at h
    generalize h3 : (if b < f then f - 1 else f) = s at h
    generalize h4 : (if g < b then g else g - 1) = t at h
    split at h
    · cases h
    · rename_i q
      have h := Option.some.inj h
      simp only [Prod.mk.injEq] at h
      obtain ⟨e1, e2⟩ := h
      split at h1 <;> split at h2 <;> split at h3 <;> split at h4 <;> omega
theorem atR_lt {v r : Nat} (hv : v < 960) (hr : r < 20) : atR v r < 960 := by unfold atR rwo; omega
theorem mokR {ins : Bool} {b : Nat} (hb : b < 20) : mok (frR ins b) (fgR ins b) fnI := by
  refine ⟨fun v hv => ?_, fun u v hu hv => ?_, fun c hc => ⟨c, hc, rfl⟩⟩
  · unfold frR
    cases h : shR ins b v with
    | none => exact .inl rfl
    | some w => exact .inr ⟨w, shR_lt hv h, rfl⟩
  · unfold fgR
    have := rwo_lt u
    have := rwo_lt v
    cases h : rng ins b (min (rwo u) (rwo v)) (max (rwo u) (rwo v)) with
    | none => exact .inl rfl
    | some q =>
      obtain ⟨lo, up⟩ := q
      have g := rng_lt hb (by omega) (by omega) h
      simp only
      split
      · exact .inr ⟨_, _, atR_lt hu (by omega), atR_lt hv (by omega), rfl⟩
      · exact .inr ⟨_, _, atR_lt hu (by omega), atR_lt hv (by omega), rfl⟩
