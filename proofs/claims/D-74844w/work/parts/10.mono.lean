/-! room only grows -/
def cm_ro (r : cm_F ⊕ cm_O) : cm_S := match r with
  | .inl f => f.2.2.2
  | .inr o => o.2.2
def cm_le (σ τ : cm_S) : Prop := cm_nx σ ≤ cm_nx τ ∧ cm_sz σ ≤ cm_sz τ
theorem cm_le_rf (σ : cm_S) : cm_le σ σ := ⟨Nat.le_refl _, Nat.le_refl _⟩
theorem cm_le.trans {σ τ υ : cm_S} (h : cm_le σ τ) (h2 : cm_le τ υ) : cm_le σ υ := ⟨Nat.le_trans h.1 h2.1, Nat.le_trans h.2 h2.2⟩
def cm_mn (σ : cm_S) (X : cm_X) : Prop := ∀ r, X = some r → cm_le σ (cm_ro r)
section
variable {σ τ : cm_S} {st ls : List Value} {i : Nat}
theorem cm_mn_no : cm_mn σ none := fun r h => by cases h
theorem cm_mn_go {pc : Nat} (h : cm_le σ τ) : cm_mn σ (cm_go pc ls st τ) := fun r e => by cases e; exact h
theorem cm_mn_end {b : Bool} {v : Value} (h : cm_le σ τ) : cm_mn σ (cm_end b v τ) := fun r e => by cases e; exact h
theorem cm_mn_pi {k : Int32 → List Value → cm_X} (h : ∀ x r, cm_mn σ (k x r)) : cm_mn σ (cm_pi st k) := fun r e => by
  obtain ⟨x, t, -, g⟩ := cm_pi_some e; exact h x t r g
theorem cm_mn_pl {k : Int64 → List Value → cm_X} (h : ∀ x r, cm_mn σ (k x r)) : cm_mn σ (cm_pl st k) := fun r e => by
  obtain ⟨x, t, -, g⟩ := cm_pl_some e; exact h x t r g
theorem cm_mn_pr {k : Nat → List Value → cm_X} (h : ∀ x r, cm_mn σ (k x r)) : cm_mn σ (cm_pr st k) := fun r e => by
  obtain ⟨x, t, -, g⟩ := cm_pr_some e; exact h x t r g
theorem cm_mn_pa {k : Value → List Value → cm_X} (h : ∀ x r, cm_mn σ (k x r)) : cm_mn σ (cm_pa st k) := fun r e => by
  obtain ⟨x, t, -, g⟩ := cm_pa_some e; exact h x t r g
theorem cm_mn_li {k : Int32 → cm_X} (h : ∀ x, cm_mn σ (k x)) : cm_mn σ (cm_li ls i k) := fun r e => by
  obtain ⟨x, -, g⟩ := cm_li_some e; exact h x r g
theorem cm_mn_ll {k : Int64 → cm_X} (h : ∀ x, cm_mn σ (k x)) : cm_mn σ (cm_ll ls i k) := fun r e => by
  obtain ⟨x, -, g⟩ := cm_ll_some e; exact h x r g
theorem cm_mn_lr {k : Nat → cm_X} (h : ∀ x, cm_mn σ (k x)) : cm_mn σ (cm_lr ls i k) := fun r e => by
  obtain ⟨x, -, g⟩ := cm_lr_some e; exact h x r g
theorem cm_mn_if {c : Prop} [Decidable c] {a b : cm_X} (h1 : cm_mn σ a) (h2 : cm_mn σ b) : cm_mn σ (if c then a else b) := by
  by_cases hc : c
  · rw [if_pos hc]; exact h1
  · rw [if_neg hc]; exact h2
theorem cm_mn_args {k : List Value → List Value → cm_X} (h : ∀ a r, cm_mn σ (k a r)) : ∀ (n : Nat) (st acc : List Value), cm_mn σ (cm_args n st acc k) := by
  intro n
  induction n with
  | zero => intro st acc; exact h acc st
  | succ n ih =>
    intro st acc
    cases st with
    | nil => exact cm_mn_no
    | cons v st => exact ih st (v :: acc)
theorem cm_mn_bk {P : cm_P} {m pc len rk : Nat} {r : Option cm_O} (h : ∀ b v τ, r = some (b, v, τ) → cm_le σ τ) : cm_mn σ (cm_bk P m pc len rk ls st r) := by
  unfold cm_bk
  split
  · exact cm_mn_no
  · have := h _ _ _ rfl
    split
    · exact cm_mn_go this
    · exact cm_mn_no
    · exact cm_mn_end this
  · have := h _ _ _ rfl
    split <;> first | exact cm_mn_go this | exact cm_mn_no
theorem cm_mn_copy {P : cm_P} {a b : Nat} {sp dp n : Int32} {k : cm_S → cm_X} (h : ∀ τ, cm_le σ τ → cm_mn σ (k τ)) : cm_mn σ (cm_copy P σ a b sp dp n k) := by
  unfold cm_copy
  exact cm_mn_if (cm_mn_if (h _ ⟨Nat.le_refl _, Nat.le_refl _⟩) (cm_mn_if (h _ ⟨Nat.le_refl _, Nat.le_refl _⟩) (cm_mn_if (h _ ⟨Nat.le_refl _, Nat.le_refl _⟩) cm_mn_no))) cm_mn_no
theorem cm_mn_sio {P : cm_P} {d : Nat} {calls : Nat → List Value → cm_S → Option cm_O} {m pc x y : Nat} {i n : Int32} {k : cm_X} (h : cm_mn σ k) : cm_mn σ (cm_sio P d calls m pc x y i n st σ k) := fun r e => h r (cm_sio_some e).2
end
theorem cm_le_al (σ : cm_S) (t n : Nat) : cm_le σ (cm_al σ t n) := ⟨Nat.le_succ _, Nat.le_add_right _ _⟩
set_option maxHeartbeats 2000000 in
theorem cm_step_mn {P : cm_P} {d : Nat} {calls : Nat → List Value → cm_S → Option cm_O} (hc : ∀ m as σ b v τ, calls m as σ = some (b, v, τ) → cm_le σ τ) (m pc : Nat) (e : cm_E) (L st : List Value) (σ : cm_S) : cm_mn σ (cm_step P d calls m pc e L st σ) := by
  obtain ⟨i, len, x, y, z, v⟩ := e
  have rf := cm_le_rf σ
  cases i <;> unfold cm_step <;> dsimp only <;>
    repeat' (first
      | exact cm_mn_no
      | exact cm_mn_go rf
      | exact cm_mn_go (cm_le_al _ _ _)
      | exact cm_mn_go ⟨Nat.le_refl _, Nat.le_refl _⟩
      | exact cm_mn_go ⟨Nat.le_succ _, Nat.le_add_right _ _⟩
      | exact cm_mn_end rf
      | refine cm_mn_if ?_ ?_
      | refine cm_mn_pi fun _ _ => ?_
      | refine cm_mn_pl fun _ _ => ?_
      | refine cm_mn_pr fun _ _ => ?_
      | refine cm_mn_pa fun _ _ => ?_
      | refine cm_mn_li fun _ => ?_
      | refine cm_mn_ll fun _ => ?_
      | refine cm_mn_lr fun _ => ?_
      | refine cm_mn_args (fun _ _ => ?_) _ _ _
      | exact cm_mn_bk fun _ _ _ e => hc _ _ _ _ _ _ e
      | refine cm_mn_copy fun _ h => cm_mn_go h
      | exact cm_mn_sio (cm_mn_go rf)
      | split)
theorem cm_it_mn {P : cm_P} {d : Nat} {calls : Nat → List Value → cm_S → Option cm_O} (hc : ∀ m as σ b v τ, calls m as σ = some (b, v, τ) → cm_le σ τ) (m : Nat) : ∀ n f r, cm_it P d calls m n f = some r → cm_le f.2.2.2 r.2.2 := by
  intro n
  induction n with
  | zero => intro f r h; cases h
  | succ n ih =>
    intro f r h
    have hs : cm_mn f.2.2.2 (cm_one P d calls m f) := by
      unfold cm_one
      split
      · exact cm_step_mn hc _ _ _ _ _ _
      · exact cm_mn_no
    unfold cm_it at h
    split at h
    · cases h
    · rename_i g hg
      exact (hs _ hg).trans (ih g r h)
    · rename_i r' hr
      cases h
      exact hs _ hr
theorem cm_call_mn (P : cm_P) : ∀ d m as σ b v τ, cm_call P d m as σ = some (b, v, τ) → cm_le σ τ := by
  intro d
  induction d with
  | zero => intro m as σ b v τ h; cases h
  | succ d ih =>
    intro m as σ b v τ h
    unfold cm_call at h
    split at h
    · obtain ⟨n, hn⟩ := cm_run_spec h
      exact cm_it_mn ih m n _ _ hn
    · cases h
