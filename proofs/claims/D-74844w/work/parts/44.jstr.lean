/-! STRINGS -/
/-- a byte as a byte array keeps it -/
def sb (x : Nat) : Int32 := (zi (x : Int)).toInt8.toInt32
def isStr (σ : cm_S) (a : Nat) (bs : List Nat) : Prop := cm_tg σ a = 29 ∧ cm_I σ a 1 = zi 0 ∧ cm_tg σ (cm_R σ a 0) = 103 ∧ cm_ln σ (cm_R σ a 0) = bs.length ∧ bs.length < 1000000 ∧ ∀ (i x : Nat), bs[i]? = some x → cm_I σ (cm_R σ a 0) i = sb x ∧ x < 256
theorem sb_and : ∀ x : Nat, x < 256 → ((sb x &&& zi 255).toUInt32 % 65536).toInt32 = zi (x : Int) := by decide +kernel
theorem sb_fit : ∀ x : Nat, x < 256 → cm_fit 5 (zi (x : Int)) = true := by decide +kernel
theorem sb_and2 : ∀ x : Nat, x < 256 → (sb x &&& zi 255) = zi (x : Int) := by decide +kernel
theorem sb_pos : ∀ x : Nat, x < 128 → sb x = zi (x : Int) := by decide +kernel
theorem sb_inj : ∀ x, x < 256 → ∀ y, y < 256 → sb x = sb y → x = y := by
  intro x hx y hy h
  have h1 := sb_and2 x hx
  have h2 := sb_and2 y hy
  rw [h, h2, zi_eq (by omega) (by omega) (by omega) (by omega)] at h1
  omega
theorem zi_ofNat (n : Nat) : Int32.ofNat n = zi (n : Int) := Int32.ofInt_eq_ofNat.symm
theorem zi_shr0 (x : Int32) : x >>> (zi 0 &&& 31) = x := by
  have e : (zi 0 &&& 31 : Int32) = 0 := by decide
  rw [e]
  exact Int32.shiftRight_zero
section
variable {σ : cm_S} {Q : cm_O → Prop} {d a : Nat} {bs : List Nat}
theorem s_isLatin1 (hs : isStr σ a bs) (hd : 1 ≤ d) (h : Q (false, .int (zi 1), σ)) : wp_c d 519 [.ref a] σ Q :=
  k519 hd ⟨hs.1, fun _ => h, fun q => absurd hs.2.1 q⟩
theorem s_coder (hs : isStr σ a bs) (hd : 1 ≤ d) (h : Q (false, .int (zi 0), σ)) : wp_c d 511 [.ref a] σ Q :=
  k511 hd ⟨hs.1, by rw [hs.2.1]; decide, by rw [hs.2.1]; exact h⟩
theorem s_length (hs : isStr σ a bs) (hd : 2 ≤ d) (h : Q (false, .int (zi bs.length), σ)) : wp_c d 520 [.ref a] σ Q := by
  refine k520 hd ⟨hs.1, by rw [hs.2.2.1]; decide, s_coder hs (by omega) (qi_k ?_)⟩
  rw [zi_shr0, hs.2.2.2.1, zi_ofNat]
  exact h
theorem s_pre {i n : Nat} (hi : i < n) (hn : n < 2147483648) {x2 : Nat} (hd : 1 ≤ d) (h : Q (false, .int (zi i), σ)) : wp_c d 528 [.int (zi i), .int (zi n), .ref x2] σ Q := by
  refine k528 hd ⟨fun q => ?_, fun _ => ⟨fun _ => h, fun q => ?_⟩⟩
  · rw [zi_lt (by omega) (by omega) (by omega) (by omega)] at q; omega
  · rw [zi_lt (by omega) (by omega) (by omega) (by omega)] at q; omega
theorem s_check {i n : Nat} (hi : i < n) (hn : n < 2147483648) (hd : 2 ≤ d) (h : Q (false, .int 0, σ)) : wp_c d 510 [.int (zi i), .int (zi n)] σ Q :=
  k510 hd ⟨s_pre hi hn (by omega) rfl, s_pre hi hn (by omega) rfl, h⟩
theorem s_charAt1 (hs : isStr σ a bs) {i x : Nat} (hx : bs[i]? = some x) (hd : 3 ≤ d) (h : Q (false, .int (zi x), σ)) : wp_c d 522 [.ref (cm_R σ a 0), .int (zi i)] σ Q := by
  obtain ⟨h1, h2, h3, h4, h5, h6⟩ := hs
  have hl : i < bs.length := (List.getElem?_eq_some_iff.mp hx).1
  obtain ⟨g1, g2⟩ := h6 i x hx
  refine k522 (by omega) ⟨by rw [h3]; decide, ?_⟩
  rw [h4, zi_ofNat]
  refine s_check hl (by omega) (by omega) (qv_k ⟨h3, ?_, ?_⟩)
  · rw [h4]; exact zn_in hl (by omega)
  · rw [zn_ix (by omega), g1, sb_and x g2]
    exact ⟨sb_fit x g2, h⟩
theorem s_charAt (hs : isStr σ a bs) {i x : Nat} (hx : bs[i]? = some x) (hd : 4 ≤ d) (h : Q (false, .int (zi x), σ)) : wp_c d 507 [.ref a, .int (zi i)] σ Q := by
  have g2 := (hs.2.2.2.2.2 i x hx).2
  refine k507 (by omega) ⟨hs.1, s_isLatin1 hs (by omega) (qi_k ⟨fun q => absurd q (by decide), fun _ => ⟨hs.1, ?_⟩⟩)⟩
  exact s_charAt1 hs hx (by omega) (qi_k ⟨sb_fit x g2, h⟩)
end
