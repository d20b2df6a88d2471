/-! WEAKEST PRECONDITIONS OF THE CLEAN MACHINE over the program cp (by gen/mkwpbase.py) -/
def zi (n : Int) : Int32 := Int32.ofInt n
def zl (n : Int) : Int64 := Int64.ofInt n
def wp_r (d m : Nat) (f : cm_F) (Q : cm_O → Prop) : Prop := ∃ r, cm_run cp d (cm_call cp d) m f = some r ∧ Q r
def wp_c (d m : Nat) (args : List Value) (σ : cm_S) (Q : cm_O → Prop) : Prop := ∃ r, cm_call cp d m args σ = some r ∧ Q r
def qv (Q : cm_S → Prop) : cm_O → Prop := fun o => o.1 = false ∧ Q o.2.2
def qi (Q : Int32 → cm_S → Prop) : cm_O → Prop := fun o => ∃ x σ, o = (false, .int x, σ) ∧ Q x σ
def ql (Q : Int64 → cm_S → Prop) : cm_O → Prop := fun o => ∃ x σ, o = (false, .long x, σ) ∧ Q x σ
def qr (Q : Nat → cm_S → Prop) : cm_O → Prop := fun o => ∃ x σ, o = (false, .ref x, σ) ∧ Q x σ
/-- normal ends and thrown objects -/
def qX (Q : cm_O → Prop) (E : Nat → cm_S → Prop) : cm_O → Prop := fun o => (o.1 = true ∧ ∃ x, o.2.1 = .ref x ∧ E x o.2.2) ∨ (o.1 = false ∧ Q o)
theorem qv_k {Q : cm_S → Prop} {v : Value} {σ : cm_S} (h : Q σ) : qv Q (false, v, σ) := ⟨rfl, h⟩
theorem qi_k {Q : Int32 → cm_S → Prop} {x : Int32} {σ : cm_S} (h : Q x σ) : qi Q (false, .int x, σ) := ⟨x, σ, rfl, h⟩
theorem ql_k {Q : Int64 → cm_S → Prop} {x : Int64} {σ : cm_S} (h : Q x σ) : ql Q (false, .long x, σ) := ⟨x, σ, rfl, h⟩
theorem qr_k {Q : Nat → cm_S → Prop} {x : Nat} {σ : cm_S} (h : Q x σ) : qr Q (false, .ref x, σ) := ⟨x, σ, rfl, h⟩
theorem qX_e {Q : cm_O → Prop} {E : Nat → cm_S → Prop} {x : Nat} {σ : cm_S} (h : E x σ) : qX Q E (true, .ref x, σ) := Or.inl ⟨rfl, x, rfl, h⟩
theorem qX_n {Q : cm_O → Prop} {E : Nat → cm_S → Prop} {v : Value} {σ : cm_S} (h : Q (false, v, σ)) : qX Q E (false, v, σ) := Or.inr ⟨rfl, h⟩
theorem wp_c.mono {d m : Nat} {a : List Value} {σ : cm_S} {Q Q2 : cm_O → Prop} (h : wp_c d m a σ Q) (k : ∀ o, Q o → Q2 o) : wp_c d m a σ Q2 := by
  obtain ⟨r, h1, h2⟩ := h
  exact ⟨r, h1, k r h2⟩
theorem wp_r.mono {d m : Nat} {f : cm_F} {Q Q2 : cm_O → Prop} (h : wp_r d m f Q) (k : ∀ o, Q o → Q2 o) : wp_r d m f Q2 := by
  obtain ⟨r, h1, h2⟩ := h
  exact ⟨r, h1, k r h2⟩
theorem wm_v {d m : Nat} {a : List Value} {σ : cm_S} {Q Q2 : cm_S → Prop} (h : wp_c d m a σ (qv Q)) (k : ∀ τ, Q τ → Q2 τ) : wp_c d m a σ (qv Q2) := h.mono fun _ q => ⟨q.1, k _ q.2⟩
theorem wm_i {d m : Nat} {a : List Value} {σ : cm_S} {Q Q2 : Int32 → cm_S → Prop} (h : wp_c d m a σ (qi Q)) (k : ∀ x τ, Q x τ → Q2 x τ) : wp_c d m a σ (qi Q2) := h.mono fun _ ⟨x, τ, e, q⟩ => ⟨x, τ, e, k _ _ q⟩
theorem wm_l {d m : Nat} {a : List Value} {σ : cm_S} {Q Q2 : Int64 → cm_S → Prop} (h : wp_c d m a σ (ql Q)) (k : ∀ x τ, Q x τ → Q2 x τ) : wp_c d m a σ (ql Q2) := h.mono fun _ ⟨x, τ, e, q⟩ => ⟨x, τ, e, k _ _ q⟩
theorem wm_r {d m : Nat} {a : List Value} {σ : cm_S} {Q Q2 : Nat → cm_S → Prop} (h : wp_c d m a σ (qr Q)) (k : ∀ x τ, Q x τ → Q2 x τ) : wp_c d m a σ (qr Q2) := h.mono fun _ ⟨x, τ, e, q⟩ => ⟨x, τ, e, k _ _ q⟩
theorem wm_X {Q Q2 : cm_O → Prop} {E E2 : Nat → cm_S → Prop} {o : cm_O} (h : qX Q E o) (k : Q o → Q2 o) (e : ∀ x τ, E x τ → E2 x τ) : qX Q2 E2 o := by
  rcases h with ⟨h1, x, h2, h3⟩ | ⟨h1, h2⟩
  · exact Or.inl ⟨h1, x, h2, e _ _ h3⟩
  · exact Or.inr ⟨h1, k h2⟩
theorem cr_T {c : Prop} {A B : Prop} (hc : c) (h : A) : (c → A) ∧ (¬ c → B) := ⟨fun _ => h, fun n => absurd hc n⟩
theorem cr_F {c : Prop} {A B : Prop} (hc : ¬ c) (h : B) : (c → A) ∧ (¬ c → B) := ⟨fun n => absurd n hc, fun _ => h⟩
theorem cr_ii {c : Prop} {A B A2 B2 : Prop} (h : (c → A) ∧ (¬ c → B)) (f : c → A → A2) (g : ¬ c → B → B2) : (c → A2) ∧ (¬ c → B2) := ⟨fun q => f q (h.1 q), fun q => g q (h.2 q)⟩
section
variable {d m pc n len x y z : Nat} {v : Value} {L L2 st : List Value} {σ : cm_S} {Q : cm_O → Prop} {a b : Int32} {p q : Int64} {r s : Nat} {u w : Value}
theorem cr_go {e : cm_E} {g : cm_F} (h : cm_at cp m pc = some e) (hs : cm_step cp d (cm_call cp d) m pc e L st σ = some (.inl g)) (k : wp_r d m g Q) : wp_r d m (pc, L, st, σ) Q := by
  obtain ⟨o, h1, h2⟩ := k
  refine ⟨o, ?_, h2⟩
  rw [cm_run_eq]
  have : cm_one cp d (cm_call cp d) m (pc, L, st, σ) = some (.inl g) := by unfold cm_one; dsimp only; rw [h]; exact hs
  rw [this]
  exact h1
theorem cr_fin {e : cm_E} {o : cm_O} (h : cm_at cp m pc = some e) (hs : cm_step cp d (cm_call cp d) m pc e L st σ = some (.inr o)) (k : Q o) : wp_r d m (pc, L, st, σ) Q := by
  refine ⟨o, ?_, k⟩
  rw [cm_run_eq]
  have : cm_one cp d (cm_call cp d) m (pc, L, st, σ) = some (.inr o) := by unfold cm_one; dsimp only; rw [h]; exact hs
  rw [this]
theorem wc_in {args : List Value} (hd : 1 ≤ d) (hok : args.all cm_okv = true) (hl : Nat.ble (cm_ent args).length (cm_nl cp m) = true) (he : cm_el (cm_nl cp m) args = L) (K : wp_r (d - 1) m (0, L, [], σ) Q) : wp_c d m args σ Q := by
  obtain ⟨e, rfl⟩ : ∃ e, d = e + 1 := ⟨d - 1, by omega⟩
  obtain ⟨o, h1, h2⟩ := K
  refine ⟨o, ?_, h2⟩
  show (if _ then _ else _) = _
  rw [if_pos ⟨hok, Nat.le_of_ble_eq_true hl⟩, he]
  exact h1
theorem wr_iconst {k : Int} (h : cm_at cp m pc = some (.iconst k, len, x, y, z, v))  (hn : pc + 1 = n) (K : wp_r d m (n, L, .int (zi k) :: st, σ) Q) : wp_r d m (pc, L, st, σ) Q := by subst hn; exact cr_go h rfl K
theorem wr_bipush {k : Int} (h : cm_at cp m pc = some (.bipush k, len, x, y, z, v)) (hc : (Int8.ofInt k).toInt32 = a) (hn : pc + 2 = n) (K : wp_r d m (n, L, .int a :: st, σ) Q) : wp_r d m (pc, L, st, σ) Q := by subst hn; subst hc; exact cr_go h rfl K
theorem wr_sipush {k : Int} (h : cm_at cp m pc = some (.sipush k, len, x, y, z, v)) (hc : (Int16.ofInt k).toInt32 = a) (hn : pc + 3 = n) (K : wp_r d m (n, L, .int a :: st, σ) Q) : wp_r d m (pc, L, st, σ) Q := by subst hn; subst hc; exact cr_go h rfl K
theorem wr_lconst {k : Fin 2} (h : cm_at cp m pc = some (.lconst k, len, x, y, z, v)) (hc : Int64.ofNat k.val = p) (hn : pc + 1 = n) (K : wp_r d m (n, L, .long p :: st, σ) Q) : wp_r d m (pc, L, st, σ) Q := by subst hn; subst hc; exact cr_go h rfl K
theorem wr_aconst_null (h : cm_at cp m pc = some (.aconst_null, len, x, y, z, v))  (hn : pc + 1 = n) (K : wp_r d m (n, L, .ref 0 :: st, σ) Q) : wp_r d m (pc, L, st, σ) Q := by subst hn; exact cr_go h rfl K
theorem wr_ldc {k : Nat} (h : cm_at cp m pc = some (.ldc k, len, x, y, z, v)) (hc : v = w) (hn : pc + 2 = n) (K : wp_r d m (n, L, w :: st, σ) Q) : wp_r d m (pc, L, st, σ) Q := by subst hn; subst hc; exact cr_go h rfl K
theorem wr_ldc_w {k : Nat} (h : cm_at cp m pc = some (.ldc_w k, len, x, y, z, v)) (hc : v = w) (hn : pc + 3 = n) (K : wp_r d m (n, L, w :: st, σ) Q) : wp_r d m (pc, L, st, σ) Q := by subst hn; subst hc; exact cr_go h rfl K
theorem wr_ldc2_w {k : Nat} (h : cm_at cp m pc = some (.ldc2_w k, len, x, y, z, v)) (hc : v = w) (hn : pc + 3 = n) (K : wp_r d m (n, L, w :: st, σ) Q) : wp_r d m (pc, L, st, σ) Q := by subst hn; subst hc; exact cr_go h rfl K
theorem wr_getstatic {k : Nat} (h : cm_at cp m pc = some (.getstatic k, len, x, y, 0, v)) (hc : v = w) (hn : pc + 3 = n) (K : wp_r d m (n, L, w :: st, σ) Q) : wp_r d m (pc, L, st, σ) Q := by subst hn; subst hc; exact cr_go h rfl K
theorem wr_sio {k : Nat} (h : cm_at cp m pc = some (.getstatic k, len, x, y, 1, v)) (hd : 1 ≤ d) (hn : pc + 6 = n) (hw : Nat.ble (cm_wd st) 8 = true) (hr : cm_rk cp x = 1) (hh : cm_hd cp m (pc + 3) = none) (h0 : wp_c d x [.int a, .int b, .ref 0] σ (fun o => o = (false, .int a, σ))) (h1 : wp_c d x [.int a, .int b, .ref y] σ (fun o => o = (false, .int a, σ))) (K : wp_r d m (n, L, .int a :: st, σ) Q) : wp_r d m (pc, L, .int b :: .int a :: st, σ) Q := by
  subst hn
  obtain ⟨r0, c0, rfl⟩ := h0
  obtain ⟨r1, c1, rfl⟩ := h1
  refine cr_go h ?_ K
  show cm_sio _ _ _ _ _ _ _ _ _ _ _ _ = _
  rw [cm_sio_of ⟨by omega, Nat.le_of_ble_eq_true hw, hr, hh, c0, c1⟩]
  rfl
theorem wr_iload_n {k : Fin 4} (h : cm_at cp m pc = some (.iload_n k, len, x, y, z, v)) (hl : L[k.val]? = some (.int a)) (hn : pc + 1 = n) (K : wp_r d m (n, L, .int a :: st, σ) Q) : wp_r d m (pc, L, st, σ) Q := by subst hn; refine cr_go h ?_ K; show cm_li L _ _ = _; unfold cm_li; rw [hl]; rfl
theorem wr_iload {k : Nat} (h : cm_at cp m pc = some (.iload k, len, x, y, z, v)) (hl : L[k]? = some (.int a)) (hn : pc + 2 = n) (K : wp_r d m (n, L, .int a :: st, σ) Q) : wp_r d m (pc, L, st, σ) Q := by subst hn; refine cr_go h ?_ K; show cm_li L _ _ = _; unfold cm_li; rw [hl]; rfl
theorem wr_aload_n {k : Fin 4} (h : cm_at cp m pc = some (.aload_n k, len, x, y, z, v)) (hl : L[k.val]? = some (.ref r)) (hn : pc + 1 = n) (K : wp_r d m (n, L, .ref r :: st, σ) Q) : wp_r d m (pc, L, st, σ) Q := by subst hn; refine cr_go h ?_ K; show cm_lr L _ _ = _; unfold cm_lr; rw [hl]; rfl
theorem wr_aload {k : Nat} (h : cm_at cp m pc = some (.aload k, len, x, y, z, v)) (hl : L[k]? = some (.ref r)) (hn : pc + 2 = n) (K : wp_r d m (n, L, .ref r :: st, σ) Q) : wp_r d m (pc, L, st, σ) Q := by subst hn; refine cr_go h ?_ K; show cm_lr L _ _ = _; unfold cm_lr; rw [hl]; rfl
theorem wr_lload_n {k : Fin 4} {j : Nat} (h : cm_at cp m pc = some (.lload_n k, len, x, y, z, v)) (hl : L[k.val]? = some (.long p)) (hl2 : L[k.val + 1]? = some (.retAddr j)) (hn : pc + 1 = n) (K : wp_r d m (n, L, .long p :: st, σ) Q) : wp_r d m (pc, L, st, σ) Q := by subst hn; refine cr_go h ?_ K; show cm_ll L _ _ = _; unfold cm_ll; rw [hl, hl2]; rfl
theorem wr_lload {k : Nat} {j : Nat} (h : cm_at cp m pc = some (.lload k, len, x, y, z, v)) (hl : L[k]? = some (.long p)) (hl2 : L[k + 1]? = some (.retAddr j)) (hn : pc + 2 = n) (K : wp_r d m (n, L, .long p :: st, σ) Q) : wp_r d m (pc, L, st, σ) Q := by subst hn; refine cr_go h ?_ K; show cm_ll L _ _ = _; unfold cm_ll; rw [hl, hl2]; rfl
theorem wr_istore_n {k : Fin 4} (h : cm_at cp m pc = some (.istore_n k, len, x, y, z, v)) (hn : pc + 1 = n) (hl : Nat.blt k.val L.length = true) (hL : cm_set L k.val (.int a) = L2) (K : wp_r d m (n, L2, st, σ) Q) : wp_r d m (pc, L, .int a :: st, σ) Q := by
  subst hn; subst hL
  refine cr_go h ?_ K
  show (if _ then _ else _) = _
  rw [if_pos (by simpa [Nat.blt_eq] using hl)]; rfl
theorem wr_istore {k : Nat} (h : cm_at cp m pc = some (.istore k, len, x, y, z, v)) (hn : pc + 2 = n) (hl : Nat.blt k L.length = true) (hL : cm_set L k (.int a) = L2) (K : wp_r d m (n, L2, st, σ) Q) : wp_r d m (pc, L, .int a :: st, σ) Q := by
  subst hn; subst hL
  refine cr_go h ?_ K
  show (if _ then _ else _) = _
  rw [if_pos (by simpa [Nat.blt_eq] using hl)]; rfl
theorem wr_astore_n {k : Fin 4} (h : cm_at cp m pc = some (.astore_n k, len, x, y, z, v)) (hn : pc + 1 = n) (hl : Nat.blt k.val L.length = true) (hL : cm_set L k.val (.ref r) = L2) (K : wp_r d m (n, L2, st, σ) Q) : wp_r d m (pc, L, .ref r :: st, σ) Q := by
  subst hn; subst hL
  refine cr_go h ?_ K
  show (if _ then _ else _) = _
  rw [if_pos (by simpa [Nat.blt_eq] using hl)]; rfl
theorem wr_astore {k : Nat} (h : cm_at cp m pc = some (.astore k, len, x, y, z, v)) (hn : pc + 2 = n) (hl : Nat.blt k L.length = true) (hL : cm_set L k (.ref r) = L2) (K : wp_r d m (n, L2, st, σ) Q) : wp_r d m (pc, L, .ref r :: st, σ) Q := by
  subst hn; subst hL
  refine cr_go h ?_ K
  show (if _ then _ else _) = _
  rw [if_pos (by simpa [Nat.blt_eq] using hl)]; rfl
theorem wr_lstore_n {k : Fin 4} (h : cm_at cp m pc = some (.lstore_n k, len, x, y, z, v)) (hn : pc + 1 = n) (hl : Nat.blt (k.val + 1) L.length = true) (hL : cm_set2 L k.val p = L2) (K : wp_r d m (n, L2, st, σ) Q) : wp_r d m (pc, L, .long p :: st, σ) Q := by
  subst hn; subst hL
  refine cr_go h ?_ K
  show (if _ then _ else _) = _
  rw [if_pos (by simpa [Nat.blt_eq] using hl)]; rfl
theorem wr_lstore {k : Nat} (h : cm_at cp m pc = some (.lstore k, len, x, y, z, v)) (hn : pc + 2 = n) (hl : Nat.blt (k + 1) L.length = true) (hL : cm_set2 L k p = L2) (K : wp_r d m (n, L2, st, σ) Q) : wp_r d m (pc, L, .long p :: st, σ) Q := by
  subst hn; subst hL
  refine cr_go h ?_ K
  show (if _ then _ else _) = _
  rw [if_pos (by simpa [Nat.blt_eq] using hl)]; rfl
theorem wr_iinc {k : Nat} {i : Int} (h : cm_at cp m pc = some (.iinc k i, len, x, y, z, v)) (hn : pc + len = n) (hl : L[k]? = some (.int a)) (hL : cm_set L k (.int (a + zi i)) = L2) (K : wp_r d m (n, L2, st, σ) Q) : wp_r d m (pc, L, st, σ) Q := by
  subst hn; subst hL
  refine cr_go h ?_ K
  show cm_li L _ _ = _
  unfold cm_li; rw [hl]; rfl
theorem wr_iadd (h : cm_at cp m pc = some (.iadd, len, x, y, z, v))  (hn : pc + 1 = n) (K : wp_r d m (n, L, .int (a + b) :: st, σ) Q) : wp_r d m (pc, L, .int b :: .int a :: st, σ) Q := by subst hn; exact cr_go h rfl K
theorem wr_isub (h : cm_at cp m pc = some (.isub, len, x, y, z, v))  (hn : pc + 1 = n) (K : wp_r d m (n, L, .int (a - b) :: st, σ) Q) : wp_r d m (pc, L, .int b :: .int a :: st, σ) Q := by subst hn; exact cr_go h rfl K
theorem wr_imul (h : cm_at cp m pc = some (.imul, len, x, y, z, v))  (hn : pc + 1 = n) (K : wp_r d m (n, L, .int (a * b) :: st, σ) Q) : wp_r d m (pc, L, .int b :: .int a :: st, σ) Q := by subst hn; exact cr_go h rfl K
theorem wr_iand (h : cm_at cp m pc = some (.iand, len, x, y, z, v))  (hn : pc + 1 = n) (K : wp_r d m (n, L, .int (a &&& b) :: st, σ) Q) : wp_r d m (pc, L, .int b :: .int a :: st, σ) Q := by subst hn; exact cr_go h rfl K
theorem wr_ior (h : cm_at cp m pc = some (.ior, len, x, y, z, v))  (hn : pc + 1 = n) (K : wp_r d m (n, L, .int (a ||| b) :: st, σ) Q) : wp_r d m (pc, L, .int b :: .int a :: st, σ) Q := by subst hn; exact cr_go h rfl K
theorem wr_ixor (h : cm_at cp m pc = some (.ixor, len, x, y, z, v))  (hn : pc + 1 = n) (K : wp_r d m (n, L, .int (a ^^^ b) :: st, σ) Q) : wp_r d m (pc, L, .int b :: .int a :: st, σ) Q := by subst hn; exact cr_go h rfl K
theorem wr_ishl (h : cm_at cp m pc = some (.ishl, len, x, y, z, v))  (hn : pc + 1 = n) (K : wp_r d m (n, L, .int (a <<< (b &&& 31)) :: st, σ) Q) : wp_r d m (pc, L, .int b :: .int a :: st, σ) Q := by subst hn; exact cr_go h rfl K
theorem wr_ishr (h : cm_at cp m pc = some (.ishr, len, x, y, z, v))  (hn : pc + 1 = n) (K : wp_r d m (n, L, .int (a >>> (b &&& 31)) :: st, σ) Q) : wp_r d m (pc, L, .int b :: .int a :: st, σ) Q := by subst hn; exact cr_go h rfl K
theorem wr_iushr (h : cm_at cp m pc = some (.iushr, len, x, y, z, v))  (hn : pc + 1 = n) (K : wp_r d m (n, L, .int ((a.toUInt32 >>> (b.toUInt32 &&& Int32.toUInt32 31)).toInt32) :: st, σ) Q) : wp_r d m (pc, L, .int b :: .int a :: st, σ) Q := by subst hn; exact cr_go h rfl K
theorem wr_idiv (h : cm_at cp m pc = some (.idiv, len, x, y, z, v)) (hb : b ≠ 0) (hn : pc + 1 = n) (K : wp_r d m (n, L, .int (a / b) :: st, σ) Q) : wp_r d m (pc, L, .int b :: .int a :: st, σ) Q := by subst hn; refine cr_go h ?_ K; show (if _ then _ else _) = _; rw [if_neg hb]; rfl
theorem wr_irem (h : cm_at cp m pc = some (.irem, len, x, y, z, v)) (hb : b ≠ 0) (hn : pc + 1 = n) (K : wp_r d m (n, L, .int (a - a / b * b) :: st, σ) Q) : wp_r d m (pc, L, .int b :: .int a :: st, σ) Q := by subst hn; refine cr_go h ?_ K; show (if _ then _ else _) = _; rw [if_neg hb]; rfl
theorem wr_ladd (h : cm_at cp m pc = some (.ladd, len, x, y, z, v))  (hn : pc + 1 = n) (K : wp_r d m (n, L, .long (p + q) :: st, σ) Q) : wp_r d m (pc, L, .long q :: .long p :: st, σ) Q := by subst hn; exact cr_go h rfl K
theorem wr_lsub (h : cm_at cp m pc = some (.lsub, len, x, y, z, v))  (hn : pc + 1 = n) (K : wp_r d m (n, L, .long (p - q) :: st, σ) Q) : wp_r d m (pc, L, .long q :: .long p :: st, σ) Q := by subst hn; exact cr_go h rfl K
theorem wr_lmul (h : cm_at cp m pc = some (.lmul, len, x, y, z, v))  (hn : pc + 1 = n) (K : wp_r d m (n, L, .long (p * q) :: st, σ) Q) : wp_r d m (pc, L, .long q :: .long p :: st, σ) Q := by subst hn; exact cr_go h rfl K
theorem wr_land (h : cm_at cp m pc = some (.land, len, x, y, z, v))  (hn : pc + 1 = n) (K : wp_r d m (n, L, .long (p &&& q) :: st, σ) Q) : wp_r d m (pc, L, .long q :: .long p :: st, σ) Q := by subst hn; exact cr_go h rfl K
theorem wr_lor (h : cm_at cp m pc = some (.lor, len, x, y, z, v))  (hn : pc + 1 = n) (K : wp_r d m (n, L, .long (p ||| q) :: st, σ) Q) : wp_r d m (pc, L, .long q :: .long p :: st, σ) Q := by subst hn; exact cr_go h rfl K
theorem wr_lxor (h : cm_at cp m pc = some (.lxor, len, x, y, z, v))  (hn : pc + 1 = n) (K : wp_r d m (n, L, .long (p ^^^ q) :: st, σ) Q) : wp_r d m (pc, L, .long q :: .long p :: st, σ) Q := by subst hn; exact cr_go h rfl K
theorem wr_ldiv (h : cm_at cp m pc = some (.ldiv, len, x, y, z, v)) (hb : q ≠ 0) (hn : pc + 1 = n) (K : wp_r d m (n, L, .long (p / q) :: st, σ) Q) : wp_r d m (pc, L, .long q :: .long p :: st, σ) Q := by subst hn; refine cr_go h ?_ K; show (if _ then _ else _) = _; rw [if_neg hb]; rfl
theorem wr_lrem (h : cm_at cp m pc = some (.lrem, len, x, y, z, v)) (hb : q ≠ 0) (hn : pc + 1 = n) (K : wp_r d m (n, L, .long (p - p / q * q) :: st, σ) Q) : wp_r d m (pc, L, .long q :: .long p :: st, σ) Q := by subst hn; refine cr_go h ?_ K; show (if _ then _ else _) = _; rw [if_neg hb]; rfl
theorem wr_lshl (h : cm_at cp m pc = some (.lshl, len, x, y, z, v))  (hn : pc + 1 = n) (K : wp_r d m (n, L, .long (p <<< (b.toInt64 &&& 63)) :: st, σ) Q) : wp_r d m (pc, L, .int b :: .long p :: st, σ) Q := by subst hn; exact cr_go h rfl K
theorem wr_lshr (h : cm_at cp m pc = some (.lshr, len, x, y, z, v))  (hn : pc + 1 = n) (K : wp_r d m (n, L, .long (p >>> (b.toInt64 &&& 63)) :: st, σ) Q) : wp_r d m (pc, L, .int b :: .long p :: st, σ) Q := by subst hn; exact cr_go h rfl K
theorem wr_lushr (h : cm_at cp m pc = some (.lushr, len, x, y, z, v))  (hn : pc + 1 = n) (K : wp_r d m (n, L, .long ((p.toUInt64 >>> (b.toInt64.toUInt64 &&& Int64.toUInt64 63)).toInt64) :: st, σ) Q) : wp_r d m (pc, L, .int b :: .long p :: st, σ) Q := by subst hn; exact cr_go h rfl K
theorem wr_lcmp (h : cm_at cp m pc = some (.lcmp, len, x, y, z, v))  (hn : pc + 1 = n) (K : wp_r d m (n, L, .int (lg_cmp p q) :: st, σ) Q) : wp_r d m (pc, L, .long q :: .long p :: st, σ) Q := by subst hn; exact cr_go h rfl K
theorem wr_ineg (h : cm_at cp m pc = some (.ineg, len, x, y, z, v))  (hn : pc + 1 = n) (K : wp_r d m (n, L, .int (-a) :: st, σ) Q) : wp_r d m (pc, L, .int a :: st, σ) Q := by subst hn; exact cr_go h rfl K
theorem wr_lneg (h : cm_at cp m pc = some (.lneg, len, x, y, z, v))  (hn : pc + 1 = n) (K : wp_r d m (n, L, .long (-p) :: st, σ) Q) : wp_r d m (pc, L, .long p :: st, σ) Q := by subst hn; exact cr_go h rfl K
theorem wr_i2l (h : cm_at cp m pc = some (.i2l, len, x, y, z, v))  (hn : pc + 1 = n) (K : wp_r d m (n, L, .long a.toInt64 :: st, σ) Q) : wp_r d m (pc, L, .int a :: st, σ) Q := by subst hn; exact cr_go h rfl K
theorem wr_l2i (h : cm_at cp m pc = some (.l2i, len, x, y, z, v))  (hn : pc + 1 = n) (K : wp_r d m (n, L, .int p.toInt32 :: st, σ) Q) : wp_r d m (pc, L, .long p :: st, σ) Q := by subst hn; exact cr_go h rfl K
theorem wr_i2b (h : cm_at cp m pc = some (.i2b, len, x, y, z, v))  (hn : pc + 1 = n) (K : wp_r d m (n, L, .int a.toInt8.toInt32 :: st, σ) Q) : wp_r d m (pc, L, .int a :: st, σ) Q := by subst hn; exact cr_go h rfl K
theorem wr_i2c (h : cm_at cp m pc = some (.i2c, len, x, y, z, v))  (hn : pc + 1 = n) (K : wp_r d m (n, L, .int (a.toUInt32 % 65536).toInt32 :: st, σ) Q) : wp_r d m (pc, L, .int a :: st, σ) Q := by subst hn; exact cr_go h rfl K
theorem wr_pop (h : cm_at cp m pc = some (.pop, len, x, y, z, v)) (hc : u.category = 1) (hn : pc + 1 = n) (K : wp_r d m (n, L, st, σ) Q) : wp_r d m (pc, L, u :: st, σ) Q := by subst hn; refine cr_go h ?_ K; show (if _ then _ else _) = _; rw [if_pos hc]; rfl
theorem wr_dup (h : cm_at cp m pc = some (.dup, len, x, y, z, v)) (hc : u.category = 1) (hn : pc + 1 = n) (K : wp_r d m (n, L, u :: u :: st, σ) Q) : wp_r d m (pc, L, u :: st, σ) Q := by subst hn; refine cr_go h ?_ K; show (if _ then _ else _) = _; rw [if_pos hc]; rfl
theorem wr_dup_x1 (h : cm_at cp m pc = some (.dup_x1, len, x, y, z, v)) (hc : u.category = 1) (hc2 : w.category = 1) (hn : pc + 1 = n) (K : wp_r d m (n, L, u :: w :: u :: st, σ) Q) : wp_r d m (pc, L, u :: w :: st, σ) Q := by subst hn; refine cr_go h ?_ K; show (if _ then _ else _) = _; rw [if_pos ⟨hc, hc2⟩]; rfl
theorem wr_dup2 (h : cm_at cp m pc = some (.dup2, len, x, y, z, v)) (hc : u.category = 1) (hc2 : w.category = 1) (hn : pc + 1 = n) (K : wp_r d m (n, L, u :: w :: u :: w :: st, σ) Q) : wp_r d m (pc, L, u :: w :: st, σ) Q := by subst hn; refine cr_go h ?_ K; show (if _ then _ else _) = _; rw [if_neg (by rw [hc]; decide)]; show (if _ then _ else _) = _; rw [if_pos ⟨hc, hc2⟩]; rfl
theorem wr_dup2L (h : cm_at cp m pc = some (.dup2, len, x, y, z, v))  (hn : pc + 1 = n) (K : wp_r d m (n, L, .long p :: .long p :: st, σ) Q) : wp_r d m (pc, L, .long p :: st, σ) Q := by subst hn; exact cr_go h rfl K
theorem wr_goto {o : Int} (h : cm_at cp m pc = some (.goto o, len, x, y, z, v)) (K : wp_r d m (x, L, st, σ) Q) : wp_r d m (pc, L, st, σ) Q := cr_go h rfl K
theorem wr_icmp_eq {o : Int} (h : cm_at cp m pc = some (.if_icmp .eq o, len, x, y, z, v)) (hn : pc + 3 = n) (K : (a = b → wp_r d m (x, L, st, σ) Q) ∧ (¬ (a = b) → wp_r d m (n, L, st, σ) Q)) : wp_r d m (pc, L, .int b :: .int a :: st, σ) Q := by
  subst hn
  by_cases hc : a = b
  · refine cr_go h ?_ (K.1 hc)
    show (if cm_cmp _ _ _ = true then _ else _) = _
    rw [if_pos (by simpa [cm_cmp, zi] using hc)]; rfl
  · refine cr_go h ?_ (K.2 hc)
    show (if cm_cmp _ _ _ = true then _ else _) = _
    rw [if_neg (by simpa [cm_cmp, zi] using hc)]; rfl
theorem wr_if_eq {o : Int} (h : cm_at cp m pc = some (.ifCond .eq o, len, x, y, z, v)) (hn : pc + 3 = n) (K : (a = (zi 0) → wp_r d m (x, L, st, σ) Q) ∧ (¬ (a = (zi 0)) → wp_r d m (n, L, st, σ) Q)) : wp_r d m (pc, L, .int a :: st, σ) Q := by
  subst hn
  by_cases hc : a = (zi 0)
  · refine cr_go h ?_ (K.1 hc)
    show (if cm_cmp _ _ _ = true then _ else _) = _
    rw [if_pos (by simpa [cm_cmp, zi] using hc)]; rfl
  · refine cr_go h ?_ (K.2 hc)
    show (if cm_cmp _ _ _ = true then _ else _) = _
    rw [if_neg (by simpa [cm_cmp, zi] using hc)]; rfl
theorem wr_icmp_ne {o : Int} (h : cm_at cp m pc = some (.if_icmp .ne o, len, x, y, z, v)) (hn : pc + 3 = n) (K : (a = b → wp_r d m (n, L, st, σ) Q) ∧ (¬ (a = b) → wp_r d m (x, L, st, σ) Q)) : wp_r d m (pc, L, .int b :: .int a :: st, σ) Q := by
  subst hn
  by_cases hc : a = b
  · refine cr_go h ?_ (K.1 hc)
    show (if cm_cmp _ _ _ = true then _ else _) = _
    rw [if_neg (by simpa [cm_cmp, zi] using hc)]; rfl
  · refine cr_go h ?_ (K.2 hc)
    show (if cm_cmp _ _ _ = true then _ else _) = _
    rw [if_pos (by simpa [cm_cmp, zi] using hc)]; rfl
theorem wr_if_ne {o : Int} (h : cm_at cp m pc = some (.ifCond .ne o, len, x, y, z, v)) (hn : pc + 3 = n) (K : (a = (zi 0) → wp_r d m (n, L, st, σ) Q) ∧ (¬ (a = (zi 0)) → wp_r d m (x, L, st, σ) Q)) : wp_r d m (pc, L, .int a :: st, σ) Q := by
  subst hn
  by_cases hc : a = (zi 0)
  · refine cr_go h ?_ (K.1 hc)
    show (if cm_cmp _ _ _ = true then _ else _) = _
    rw [if_neg (by simpa [cm_cmp, zi] using hc)]; rfl
  · refine cr_go h ?_ (K.2 hc)
    show (if cm_cmp _ _ _ = true then _ else _) = _
    rw [if_pos (by simpa [cm_cmp, zi] using hc)]; rfl
theorem wr_icmp_lt {o : Int} (h : cm_at cp m pc = some (.if_icmp .lt o, len, x, y, z, v)) (hn : pc + 3 = n) (K : (a < b → wp_r d m (x, L, st, σ) Q) ∧ (¬ (a < b) → wp_r d m (n, L, st, σ) Q)) : wp_r d m (pc, L, .int b :: .int a :: st, σ) Q := by
  subst hn
  by_cases hc : a < b
  · refine cr_go h ?_ (K.1 hc)
    show (if cm_cmp _ _ _ = true then _ else _) = _
    rw [if_pos (by simpa [cm_cmp, zi] using hc)]; rfl
  · refine cr_go h ?_ (K.2 hc)
    show (if cm_cmp _ _ _ = true then _ else _) = _
    rw [if_neg (by simpa [cm_cmp, zi] using hc)]; rfl
theorem wr_if_lt {o : Int} (h : cm_at cp m pc = some (.ifCond .lt o, len, x, y, z, v)) (hn : pc + 3 = n) (K : (a < (zi 0) → wp_r d m (x, L, st, σ) Q) ∧ (¬ (a < (zi 0)) → wp_r d m (n, L, st, σ) Q)) : wp_r d m (pc, L, .int a :: st, σ) Q := by
  subst hn
  by_cases hc : a < (zi 0)
  · refine cr_go h ?_ (K.1 hc)
    show (if cm_cmp _ _ _ = true then _ else _) = _
    rw [if_pos (by simpa [cm_cmp, zi] using hc)]; rfl
  · refine cr_go h ?_ (K.2 hc)
    show (if cm_cmp _ _ _ = true then _ else _) = _
    rw [if_neg (by simpa [cm_cmp, zi] using hc)]; rfl
theorem wr_icmp_ge {o : Int} (h : cm_at cp m pc = some (.if_icmp .ge o, len, x, y, z, v)) (hn : pc + 3 = n) (K : (a < b → wp_r d m (n, L, st, σ) Q) ∧ (¬ (a < b) → wp_r d m (x, L, st, σ) Q)) : wp_r d m (pc, L, .int b :: .int a :: st, σ) Q := by
  subst hn
  by_cases hc : a < b
  · refine cr_go h ?_ (K.1 hc)
    show (if cm_cmp _ _ _ = true then _ else _) = _
    rw [if_neg (by simp only [cm_cmp, decide_eq_true_eq]; exact Int32.not_le.mpr hc)]; rfl
  · refine cr_go h ?_ (K.2 hc)
    show (if cm_cmp _ _ _ = true then _ else _) = _
    rw [if_pos (by simp only [cm_cmp, decide_eq_true_eq]; exact Int32.not_lt.mp hc)]; rfl
theorem wr_if_ge {o : Int} (h : cm_at cp m pc = some (.ifCond .ge o, len, x, y, z, v)) (hn : pc + 3 = n) (K : (a < (zi 0) → wp_r d m (n, L, st, σ) Q) ∧ (¬ (a < (zi 0)) → wp_r d m (x, L, st, σ) Q)) : wp_r d m (pc, L, .int a :: st, σ) Q := by
  subst hn
  by_cases hc : a < (zi 0)
  · refine cr_go h ?_ (K.1 hc)
    show (if cm_cmp _ _ _ = true then _ else _) = _
    rw [if_neg (by simp only [cm_cmp, decide_eq_true_eq]; exact Int32.not_le.mpr hc)]; rfl
  · refine cr_go h ?_ (K.2 hc)
    show (if cm_cmp _ _ _ = true then _ else _) = _
    rw [if_pos (by simp only [cm_cmp, decide_eq_true_eq]; exact Int32.not_lt.mp hc)]; rfl
theorem wr_icmp_gt {o : Int} (h : cm_at cp m pc = some (.if_icmp .gt o, len, x, y, z, v)) (hn : pc + 3 = n) (K : (b < a → wp_r d m (x, L, st, σ) Q) ∧ (¬ (b < a) → wp_r d m (n, L, st, σ) Q)) : wp_r d m (pc, L, .int b :: .int a :: st, σ) Q := by
  subst hn
  by_cases hc : b < a
  · refine cr_go h ?_ (K.1 hc)
    show (if cm_cmp _ _ _ = true then _ else _) = _
    rw [if_pos (by simpa [cm_cmp, zi] using hc)]; rfl
  · refine cr_go h ?_ (K.2 hc)
    show (if cm_cmp _ _ _ = true then _ else _) = _
    rw [if_neg (by simpa [cm_cmp, zi] using hc)]; rfl
theorem wr_if_gt {o : Int} (h : cm_at cp m pc = some (.ifCond .gt o, len, x, y, z, v)) (hn : pc + 3 = n) (K : ((zi 0) < a → wp_r d m (x, L, st, σ) Q) ∧ (¬ ((zi 0) < a) → wp_r d m (n, L, st, σ) Q)) : wp_r d m (pc, L, .int a :: st, σ) Q := by
  subst hn
  by_cases hc : (zi 0) < a
  · refine cr_go h ?_ (K.1 hc)
    show (if cm_cmp _ _ _ = true then _ else _) = _
    rw [if_pos (by simpa [cm_cmp, zi] using hc)]; rfl
  · refine cr_go h ?_ (K.2 hc)
    show (if cm_cmp _ _ _ = true then _ else _) = _
    rw [if_neg (by simpa [cm_cmp, zi] using hc)]; rfl
theorem wr_icmp_le {o : Int} (h : cm_at cp m pc = some (.if_icmp .le o, len, x, y, z, v)) (hn : pc + 3 = n) (K : (b < a → wp_r d m (n, L, st, σ) Q) ∧ (¬ (b < a) → wp_r d m (x, L, st, σ) Q)) : wp_r d m (pc, L, .int b :: .int a :: st, σ) Q := by
  subst hn
  by_cases hc : b < a
  · refine cr_go h ?_ (K.1 hc)
    show (if cm_cmp _ _ _ = true then _ else _) = _
    rw [if_neg (by simp only [cm_cmp, decide_eq_true_eq]; exact Int32.not_le.mpr hc)]; rfl
  · refine cr_go h ?_ (K.2 hc)
    show (if cm_cmp _ _ _ = true then _ else _) = _
    rw [if_pos (by simp only [cm_cmp, decide_eq_true_eq]; exact Int32.not_lt.mp hc)]; rfl
theorem wr_if_le {o : Int} (h : cm_at cp m pc = some (.ifCond .le o, len, x, y, z, v)) (hn : pc + 3 = n) (K : ((zi 0) < a → wp_r d m (n, L, st, σ) Q) ∧ (¬ ((zi 0) < a) → wp_r d m (x, L, st, σ) Q)) : wp_r d m (pc, L, .int a :: st, σ) Q := by
  subst hn
  by_cases hc : (zi 0) < a
  · refine cr_go h ?_ (K.1 hc)
    show (if cm_cmp _ _ _ = true then _ else _) = _
    rw [if_neg (by simp only [cm_cmp, decide_eq_true_eq]; exact Int32.not_le.mpr hc)]; rfl
  · refine cr_go h ?_ (K.2 hc)
    show (if cm_cmp _ _ _ = true then _ else _) = _
    rw [if_pos (by simp only [cm_cmp, decide_eq_true_eq]; exact Int32.not_lt.mp hc)]; rfl
theorem cm_lz_eq (p q : Int64) : lg_cmp p q = zi 0 ↔ p = q := by
  unfold lg_cmp
  by_cases h1 : p > q
  · rw [if_pos h1]
    constructor
    · intro h; exact absurd h (by decide)
    · intro h; subst h; exact (Int64.lt_irrefl h1).elim
  · rw [if_neg h1]
    by_cases h2 : p = q
    · rw [if_pos h2]; exact ⟨fun _ => h2, fun _ => by decide⟩
    · rw [if_neg h2]; exact ⟨fun h => absurd h (by decide), fun h => absurd h h2⟩
theorem cm_lz_lt (p q : Int64) : lg_cmp p q < zi 0 ↔ p < q := by
  unfold lg_cmp
  by_cases h1 : p > q
  · rw [if_pos h1]
    constructor
    · intro h; exact absurd h (by decide)
    · intro h; exact (Int64.lt_irrefl (Int64.lt_trans h h1)).elim
  · rw [if_neg h1]
    by_cases h2 : p = q
    · rw [if_pos h2]; subst h2; exact ⟨fun h => absurd h (by decide), fun h => (Int64.lt_irrefl h).elim⟩
    · rw [if_neg h2]; exact ⟨fun _ => Int64.lt_of_le_of_ne (Int64.not_lt.mp h1) h2, fun h => by decide⟩
theorem cm_lz_gt (p q : Int64) : zi 0 < lg_cmp p q ↔ q < p := by
  unfold lg_cmp
  by_cases h1 : p > q
  · rw [if_pos h1]; exact ⟨fun _ => h1, fun _ => by decide⟩
  · rw [if_neg h1]
    by_cases h2 : p = q
    · rw [if_pos h2]; exact ⟨fun h => absurd h (by decide), fun h => absurd h h1⟩
    · rw [if_neg h2]; exact ⟨fun h => absurd h (by decide), fun h => absurd h h1⟩
theorem cr_iff {c c2 : Prop} (hc : c ↔ c2) {A B : Prop} (h : (c2 → A) ∧ (¬ c2 → B)) : (c → A) ∧ (¬ c → B) := ⟨fun q => h.1 (hc.mp q), fun q => h.2 (fun e => q (hc.mpr e))⟩
theorem wr_lcmp_eq {o : Int} {n1 len2 x2 y2 z2 : Nat} {v2 : Value} (h : cm_at cp m pc = some (.lcmp, len2, x2, y2, z2, v2)) (hn1 : pc + 1 = n1) (h2 : cm_at cp m n1 = some (.ifCond .eq o, len, x, y, z, v)) (hn : n1 + 3 = n) (K : (p = q → wp_r d m (x, L, st, σ) Q) ∧ (¬ (p = q) → wp_r d m (n, L, st, σ) Q)) : wp_r d m (pc, L, .long q :: .long p :: st, σ) Q :=
  wr_lcmp h hn1 (wr_if_eq h2 hn (cr_iff (cm_lz_eq p q) K))
theorem wr_lcmp_ne {o : Int} {n1 len2 x2 y2 z2 : Nat} {v2 : Value} (h : cm_at cp m pc = some (.lcmp, len2, x2, y2, z2, v2)) (hn1 : pc + 1 = n1) (h2 : cm_at cp m n1 = some (.ifCond .ne o, len, x, y, z, v)) (hn : n1 + 3 = n) (K : (p = q → wp_r d m (n, L, st, σ) Q) ∧ (¬ (p = q) → wp_r d m (x, L, st, σ) Q)) : wp_r d m (pc, L, .long q :: .long p :: st, σ) Q :=
  wr_lcmp h hn1 (wr_if_ne h2 hn (cr_iff (cm_lz_eq p q) K))
theorem wr_lcmp_lt {o : Int} {n1 len2 x2 y2 z2 : Nat} {v2 : Value} (h : cm_at cp m pc = some (.lcmp, len2, x2, y2, z2, v2)) (hn1 : pc + 1 = n1) (h2 : cm_at cp m n1 = some (.ifCond .lt o, len, x, y, z, v)) (hn : n1 + 3 = n) (K : (p < q → wp_r d m (x, L, st, σ) Q) ∧ (¬ (p < q) → wp_r d m (n, L, st, σ) Q)) : wp_r d m (pc, L, .long q :: .long p :: st, σ) Q :=
  wr_lcmp h hn1 (wr_if_lt h2 hn (cr_iff (cm_lz_lt p q) K))
theorem wr_lcmp_ge {o : Int} {n1 len2 x2 y2 z2 : Nat} {v2 : Value} (h : cm_at cp m pc = some (.lcmp, len2, x2, y2, z2, v2)) (hn1 : pc + 1 = n1) (h2 : cm_at cp m n1 = some (.ifCond .ge o, len, x, y, z, v)) (hn : n1 + 3 = n) (K : (p < q → wp_r d m (n, L, st, σ) Q) ∧ (¬ (p < q) → wp_r d m (x, L, st, σ) Q)) : wp_r d m (pc, L, .long q :: .long p :: st, σ) Q :=
  wr_lcmp h hn1 (wr_if_ge h2 hn (cr_iff (cm_lz_lt p q) K))
theorem wr_lcmp_gt {o : Int} {n1 len2 x2 y2 z2 : Nat} {v2 : Value} (h : cm_at cp m pc = some (.lcmp, len2, x2, y2, z2, v2)) (hn1 : pc + 1 = n1) (h2 : cm_at cp m n1 = some (.ifCond .gt o, len, x, y, z, v)) (hn : n1 + 3 = n) (K : (q < p → wp_r d m (x, L, st, σ) Q) ∧ (¬ (q < p) → wp_r d m (n, L, st, σ) Q)) : wp_r d m (pc, L, .long q :: .long p :: st, σ) Q :=
  wr_lcmp h hn1 (wr_if_gt h2 hn (cr_iff (cm_lz_gt p q) K))
theorem wr_lcmp_le {o : Int} {n1 len2 x2 y2 z2 : Nat} {v2 : Value} (h : cm_at cp m pc = some (.lcmp, len2, x2, y2, z2, v2)) (hn1 : pc + 1 = n1) (h2 : cm_at cp m n1 = some (.ifCond .le o, len, x, y, z, v)) (hn : n1 + 3 = n) (K : (q < p → wp_r d m (n, L, st, σ) Q) ∧ (¬ (q < p) → wp_r d m (x, L, st, σ) Q)) : wp_r d m (pc, L, .long q :: .long p :: st, σ) Q :=
  wr_lcmp h hn1 (wr_if_le h2 hn (cr_iff (cm_lz_gt p q) K))
theorem wr_ifnull {o : Int} (h : cm_at cp m pc = some (.ifnull o, len, x, y, z, v)) (hn : pc + 3 = n) (K : (r = 0 → wp_r d m (x, L, st, σ) Q) ∧ (¬ r = 0 → wp_r d m (n, L, st, σ) Q)) : wp_r d m (pc, L, .ref r :: st, σ) Q := by
  subst hn
  by_cases hc : r = 0
  · refine cr_go h ?_ (K.1 hc)
    show (if _ then _ else _) = _
    rw [if_pos hc]; rfl
  · refine cr_go h ?_ (K.2 hc)
    show (if _ then _ else _) = _
    rw [if_neg hc]; rfl
theorem wr_ifnonnull {o : Int} (h : cm_at cp m pc = some (.ifnonnull o, len, x, y, z, v)) (hn : pc + 3 = n) (K : (r = 0 → wp_r d m (n, L, st, σ) Q) ∧ (¬ r = 0 → wp_r d m (x, L, st, σ) Q)) : wp_r d m (pc, L, .ref r :: st, σ) Q := by
  subst hn
  by_cases hc : r = 0
  · refine cr_go h ?_ (K.1 hc)
    show (if _ then _ else _) = _
    rw [if_pos hc]; rfl
  · refine cr_go h ?_ (K.2 hc)
    show (if _ then _ else _) = _
    rw [if_neg hc]; rfl
def cm_ac (r s : Nat) : Prop := r = s ∨ r = 0 ∨ s = 0 ∨ cm_K cp ≤ r ∨ cm_K cp ≤ s ∨ (r < cm_KD cp ∧ s < cm_KD cp)
theorem wr_acmp_eq {o : Int} (h : cm_at cp m pc = some (.if_acmp .eq o, len, x, y, z, v)) (hn : pc + 3 = n) (hac : cm_ac r s) (K : (r = s → wp_r d m (x, L, st, σ) Q) ∧ (¬ r = s → wp_r d m (n, L, st, σ) Q)) : wp_r d m (pc, L, .ref s :: .ref r :: st, σ) Q := by
  subst hn
  by_cases hc : r = s
  · refine cr_go h ?_ (K.1 hc)
    show (if _ then _ else _) = _
    rw [if_pos (show _ ∨ _ from hac)]
    show (if decide _ = true then _ else _) = _
    rw [if_pos (by simpa using hc)]; rfl
  · refine cr_go h ?_ (K.2 hc)
    show (if _ then _ else _) = _
    rw [if_pos (show _ ∨ _ from hac)]
    show (if decide _ = true then _ else _) = _
    rw [if_neg (by simpa using hc)]; rfl
theorem wr_acmp_ne {o : Int} (h : cm_at cp m pc = some (.if_acmp .ne o, len, x, y, z, v)) (hn : pc + 3 = n) (hac : cm_ac r s) (K : (r = s → wp_r d m (n, L, st, σ) Q) ∧ (¬ r = s → wp_r d m (x, L, st, σ) Q)) : wp_r d m (pc, L, .ref s :: .ref r :: st, σ) Q := by
  subst hn
  by_cases hc : r = s
  · refine cr_go h ?_ (K.1 hc)
    show (if _ then _ else _) = _
    rw [if_pos (show _ ∨ _ from hac)]
    show (if decide _ = true then _ else _) = _
    rw [if_neg (by simpa using hc)]; rfl
  · refine cr_go h ?_ (K.2 hc)
    show (if _ then _ else _) = _
    rw [if_pos (show _ ∨ _ from hac)]
    show (if decide _ = true then _ else _) = _
    rw [if_pos (by simpa using hc)]; rfl
theorem wr_gfI {k : Nat} (h : cm_at cp m pc = some (.getfield k, len, x, y, z, v)) (hn : pc + 3 = n) (hx : x ≠ 0) (hz : z ≠ 1 ∧ z ≠ 2) (ht : cm_tg σ r = x) (K : wp_r d m (n, L, .int (cm_I σ r y) :: st, σ) Q) : wp_r d m (pc, L, .ref r :: st, σ) Q := by
  subst hn
  refine cr_go h ?_ K
  show (if _ then _ else _) = _
  rw [if_pos ⟨ht, hx⟩]
  match z, hz with
  | 0, _ => rfl
  | 1, hz => exact absurd rfl hz.1
  | 2, hz => exact absurd rfl hz.2
  | z + 3, _ => rfl
theorem wr_pfI {k : Nat} (h : cm_at cp m pc = some (.putfield k, len, x, y, z, v)) (hn : pc + 3 = n) (hx : x ≠ 0) (hz : z ≠ 1 ∧ z ≠ 2) (ht : cm_tg σ r = x) (hk : cm_K cp ≤ r) (hf : cm_fit z a = true) (K : wp_r d m (n, L, st, cm_pI σ r y a) Q) : wp_r d m (pc, L, .int a :: .ref r :: st, σ) Q := by
  subst hn
  refine cr_go h ?_ K
  have g : cm_step cp d (cm_call cp d) m pc (.putfield k, len, x, y, z, v) L (.int a :: .ref r :: st) σ = (if cm_tg σ r = x ∧ x ≠ 0 ∧ cm_K cp ≤ r ∧ cm_fit z a = true then cm_go (pc + 3) L st (cm_pI σ r y a) else none) := by
    match z, hz with
    | 0, _ => rfl
    | 1, hz => exact absurd rfl hz.1
    | 2, hz => exact absurd rfl hz.2
    | z + 3, _ => rfl
  rw [g, if_pos ⟨ht, hx, hk, hf⟩]; rfl
theorem wr_gfL {k : Nat} (h : cm_at cp m pc = some (.getfield k, len, x, y, 1, v)) (hn : pc + 3 = n) (hx : x ≠ 0) (ht : cm_tg σ r = x) (K : wp_r d m (n, L, .long (cm_L σ r y) :: st, σ) Q) : wp_r d m (pc, L, .ref r :: st, σ) Q := by
  subst hn
  refine cr_go h ?_ K
  show (if _ then _ else _) = _
  rw [if_pos ⟨ht, hx⟩]; rfl
theorem wr_pfL {k : Nat} (h : cm_at cp m pc = some (.putfield k, len, x, y, 1, v)) (hn : pc + 3 = n) (hx : x ≠ 0) (ht : cm_tg σ r = x) (hk : cm_K cp ≤ r) (K : wp_r d m (n, L, st, cm_pL σ r y p) Q) : wp_r d m (pc, L, .long p :: .ref r :: st, σ) Q := by
  subst hn
  refine cr_go h ?_ K
  show (if _ then _ else _) = _
  rw [if_pos ⟨ht, hx, hk⟩]; rfl
theorem wr_gfR {k : Nat} (h : cm_at cp m pc = some (.getfield k, len, x, y, 2, v)) (hn : pc + 3 = n) (hx : x ≠ 0) (ht : cm_tg σ r = x) (K : wp_r d m (n, L, .ref (cm_R σ r y) :: st, σ) Q) : wp_r d m (pc, L, .ref r :: st, σ) Q := by
  subst hn
  refine cr_go h ?_ K
  show (if _ then _ else _) = _
  rw [if_pos ⟨ht, hx⟩]; rfl
theorem wr_pfR {k : Nat} (h : cm_at cp m pc = some (.putfield k, len, x, y, 2, v)) (hn : pc + 3 = n) (hx : x ≠ 0) (ht : cm_tg σ r = x) (hk : cm_K cp ≤ r) (K : wp_r d m (n, L, st, cm_pR σ r y s) Q) : wp_r d m (pc, L, .ref s :: .ref r :: st, σ) Q := by
  subst hn
  refine cr_go h ?_ K
  show (if _ then _ else _) = _
  rw [if_pos ⟨ht, hx, hk⟩]; rfl
theorem wr_new {k : Nat} (h : cm_at cp m pc = some (.new k, len, x, y, 0, v)) (hn : pc + 3 = n) (K : wp_r d m (n, L, .ref (cm_nx σ) :: st, cm_al σ x y) Q) : wp_r d m (pc, L, st, σ) Q := by subst hn; exact cr_go h rfl K
theorem wr_newX {k : Nat} (h : cm_at cp m pc = some (.new k, len, x, y, 1, v)) (hd : 6 ≤ d) (hn : pc + 7 = n) (hw : Nat.ble (cm_wd st) 8 = true) (K : wp_r d m (n, L, .ref (cm_nx σ) :: st, cm_al σ x y) Q) : wp_r d m (pc, L, st, σ) Q := by
  subst hn
  refine cr_go h ?_ K
  show (if d < 6 then none else _) = _
  rw [if_neg (by omega), if_pos (Nat.le_of_ble_eq_true hw)]; rfl
theorem wr_newarray {k : ClassFile.ArrayType} (h : cm_at cp m pc = some (.newarray k, len, x, y, z, v)) (hn : pc + 2 = n) (hc : 0 ≤ a.toInt ∧ a.toInt ≤ 60000000) (K : wp_r d m (n, L, .ref (cm_nx σ) :: st, cm_al σ x (cm_ix a)) Q) : wp_r d m (pc, L, .int a :: st, σ) Q := by
  subst hn
  refine cr_go h ?_ K
  show (if _ then _ else _) = _
  rw [if_pos hc]; rfl
theorem wr_anewarray {k : Nat} (h : cm_at cp m pc = some (.anewarray k, len, x, y, z, v)) (hn : pc + 3 = n) (hc : 0 ≤ a.toInt ∧ a.toInt ≤ 60000000) (K : wp_r d m (n, L, .ref (cm_nx σ) :: st, cm_al σ x (cm_ix a)) Q) : wp_r d m (pc, L, .int a :: st, σ) Q := by
  subst hn
  refine cr_go h ?_ K
  show (if _ then _ else _) = _
  rw [if_pos hc]; rfl
theorem wr_arraylength (h : cm_at cp m pc = some (.arraylength, len, x, y, z, v)) (hn : pc + 1 = n) (ht : 100 < cm_tg σ r) (K : wp_r d m (n, L, .int (Int32.ofNat (cm_ln σ r)) :: st, σ) Q) : wp_r d m (pc, L, .ref r :: st, σ) Q := by
  subst hn
  refine cr_go h ?_ K
  show (if _ then _ else _) = _
  rw [if_pos ht]; rfl
theorem wr_iaload (h : cm_at cp m pc = some (.iaload, len, x, y, z, v)) (hn : pc + 1 = n) (ht : cm_tg σ r = 101) (hi : cm_in a (cm_ln σ r) = true) (K : wp_r d m (n, L, .int (cm_I σ r (cm_ix a)) :: st, σ) Q) : wp_r d m (pc, L, .int a :: .ref r :: st, σ) Q := by
  subst hn
  refine cr_go h ?_ K
  show (if _ then _ else _) = _
  rw [if_pos ⟨ht, hi⟩]; rfl
theorem wr_laload (h : cm_at cp m pc = some (.laload, len, x, y, z, v)) (hn : pc + 1 = n) (ht : cm_tg σ r = 102) (hi : cm_in a (cm_ln σ r) = true) (K : wp_r d m (n, L, .long (cm_L σ r (cm_ix a)) :: st, σ) Q) : wp_r d m (pc, L, .int a :: .ref r :: st, σ) Q := by
  subst hn
  refine cr_go h ?_ K
  show (if _ then _ else _) = _
  rw [if_pos ⟨ht, hi⟩]; rfl
theorem wr_baload (h : cm_at cp m pc = some (.baload, len, x, y, z, v)) (hn : pc + 1 = n) (ht : cm_tg σ r = 103 ∨ cm_tg σ r = 104) (hi : cm_in a (cm_ln σ r) = true) (K : wp_r d m (n, L, .int (cm_I σ r (cm_ix a)) :: st, σ) Q) : wp_r d m (pc, L, .int a :: .ref r :: st, σ) Q := by
  subst hn
  refine cr_go h ?_ K
  show (if _ then _ else _) = _
  rw [if_pos ⟨ht, hi⟩]; rfl
theorem wr_aaload (h : cm_at cp m pc = some (.aaload, len, x, y, z, v)) (hn : pc + 1 = n) (ht : 104 < cm_tg σ r) (hi : cm_in a (cm_ln σ r) = true) (K : wp_r d m (n, L, .ref (cm_R σ r (cm_ix a)) :: st, σ) Q) : wp_r d m (pc, L, .int a :: .ref r :: st, σ) Q := by
  subst hn
  refine cr_go h ?_ K
  show (if _ then _ else _) = _
  rw [if_pos ⟨ht, hi⟩]; rfl
theorem wr_iastore (h : cm_at cp m pc = some (.iastore, len, x, y, z, v)) (hn : pc + 1 = n) (ht : cm_tg σ r = 101) (hi : cm_in a (cm_ln σ r) = true) (hk : cm_K cp ≤ r) (K : wp_r d m (n, L, st, cm_pI σ r (cm_ix a) b) Q) : wp_r d m (pc, L, .int b :: .int a :: .ref r :: st, σ) Q := by
  subst hn
  refine cr_go h ?_ K
  show (if _ then _ else _) = _
  rw [if_pos ⟨ht, hi, hk⟩]; rfl
theorem wr_lastore (h : cm_at cp m pc = some (.lastore, len, x, y, z, v)) (hn : pc + 1 = n) (ht : cm_tg σ r = 102) (hi : cm_in a (cm_ln σ r) = true) (hk : cm_K cp ≤ r) (K : wp_r d m (n, L, st, cm_pL σ r (cm_ix a) p) Q) : wp_r d m (pc, L, .long p :: .int a :: .ref r :: st, σ) Q := by
  subst hn
  refine cr_go h ?_ K
  show (if _ then _ else _) = _
  rw [if_pos ⟨ht, hi, hk⟩]; rfl
theorem wr_aastore (h : cm_at cp m pc = some (.aastore, len, x, y, z, v)) (hn : pc + 1 = n) (ht : 104 < cm_tg σ r) (hi : cm_in a (cm_ln σ r) = true) (hk : cm_K cp ≤ r) (ha : s = 0 ∨ cp_asg (cm_tg σ r) (cm_tg σ s) = true) (K : wp_r d m (n, L, st, cm_pR σ r (cm_ix a) s) Q) : wp_r d m (pc, L, .ref s :: .int a :: .ref r :: st, σ) Q := by
  subst hn
  refine cr_go h ?_ K
  show (if _ then _ else _) = _
  rw [if_pos ⟨ht, hi, hk, ha⟩]; rfl
theorem wr_bastore (h : cm_at cp m pc = some (.bastore, len, x, y, z, v)) (hn : pc + 1 = n) (ht : cm_tg σ r = 103 ∨ cm_tg σ r = 104 ∧ (b = 0 ∨ b = 1)) (hi : cm_in a (cm_ln σ r) = true) (hk : cm_K cp ≤ r) (K : wp_r d m (n, L, st, cm_pI σ r (cm_ix a) (if cm_tg σ r = 103 then b.toInt8.toInt32 else b)) Q) : wp_r d m (pc, L, .int b :: .int a :: .ref r :: st, σ) Q := by
  subst hn
  refine cr_go h ?_ K
  show (if _ then _ else _) = _
  rw [if_pos ⟨ht, hi, hk⟩]; rfl
theorem wr_bastoreB (h : cm_at cp m pc = some (.bastore, len, x, y, z, v)) (hn : pc + 1 = n) (ht : cm_tg σ r = 103) (hi : cm_in a (cm_ln σ r) = true) (hk : cm_K cp ≤ r) (K : wp_r d m (n, L, st, cm_pI σ r (cm_ix a) b.toInt8.toInt32) Q) : wp_r d m (pc, L, .int b :: .int a :: .ref r :: st, σ) Q := wr_bastore h hn (Or.inl ht) hi hk (by rw [if_pos ht]; exact K)
theorem wr_baloadB (h : cm_at cp m pc = some (.baload, len, x, y, z, v)) (hn : pc + 1 = n) (ht : cm_tg σ r = 103) (hi : cm_in a (cm_ln σ r) = true) (K : wp_r d m (n, L, .int (cm_I σ r (cm_ix a)) :: st, σ) Q) : wp_r d m (pc, L, .int a :: .ref r :: st, σ) Q := wr_baload h hn (Or.inl ht) hi K
theorem wr_checkcast {k : Nat} (h : cm_at cp m pc = some (.checkcast k, len, x, y, z, v)) (hn : pc + 3 = n) (hc : r = 0 ∨ cp_cast x (cm_tg σ r) = some true) (K : wp_r d m (n, L, .ref r :: st, σ) Q) : wp_r d m (pc, L, .ref r :: st, σ) Q := by
  subst hn
  have hc : r = 0 ∨ cm_cast cp x (cm_tg σ r) = some true := hc
  refine cr_go h ?_ K
  show (if _ then _ else _) = _
  rw [if_pos (hc.imp id Or.inl)]; rfl
theorem wr_checkcastB {k : Nat} (h : cm_at cp m pc = some (.checkcast k, len, 14, y, z, v)) (hn : pc + 3 = n) (hc : cm_tg σ r = 103 ∧ 322 ≤ r) (K : wp_r d m (n, L, .ref r :: st, σ) Q) : wp_r d m (pc, L, .ref r :: st, σ) Q := by
  subst hn
  refine cr_go h ?_ K
  show (if _ then _ else _) = _
  rw [if_pos (Or.inr (Or.inr ⟨⟨by rw [hc.1]; decide, by rw [hc.1]; decide⟩, hc.2, by rw [hc.1]; rfl⟩))]; rfl
theorem wr_instanceof {k : Nat} (h : cm_at cp m pc = some (.instanceof k, len, x, y, z, v)) (hn : pc + 3 = n) (K : (r = 0 → wp_r d m (n, L, .int (zi 0) :: st, σ) Q) ∧ (¬ r = 0 → ∃ t, cp_cast x (cm_tg σ r) = some t ∧ (t = true → wp_r d m (n, L, .int (zi 1) :: st, σ) Q) ∧ (¬ t = true → wp_r d m (n, L, .int (zi 0) :: st, σ) Q))) : wp_r d m (pc, L, .ref r :: st, σ) Q := by
  subst hn
  by_cases hc : r = 0
  · refine cr_go h ?_ (K.1 hc)
    show (if _ then _ else _) = _
    rw [if_pos hc]; rfl
  · obtain ⟨t, h1, K⟩ := K.2 hc
    have h1 : cm_cast cp x (cm_tg σ r) = some t := h1
    cases t with
    | true =>
      refine cr_go h ?_ (K.1 rfl)
      show (if _ then _ else _) = _
      rw [if_neg hc, h1]; rfl
    | false =>
      refine cr_go h ?_ (K.2 (by decide))
      show (if _ then _ else _) = _
      rw [if_neg hc, h1]; rfl
theorem wr_ireturn (h : cm_at cp m pc = some (.ireturn, len, x, y, z, v)) (hf : cm_fit z a = true) (K : Q (false, .int a, σ)) : wp_r d m (pc, L, [.int a], σ) Q := by
  refine cr_fin h ?_ K
  show (if _ then _ else _) = _
  rw [if_pos ⟨hf, rfl⟩]; rfl
theorem wr_lreturn (h : cm_at cp m pc = some (.lreturn, len, x, y, z, v)) (K : Q (false, .long p, σ)) : wp_r d m (pc, L, [.long p], σ) Q := by
  refine cr_fin h ?_ K
  show (if ([] : List Value) = [] then cm_end false (.long p) σ else none) = _
  rw [if_pos rfl]; rfl
theorem wr_areturn (h : cm_at cp m pc = some (.areturn, len, x, y, z, v)) (K : Q (false, .ref r, σ)) : wp_r d m (pc, L, [.ref r], σ) Q := by
  refine cr_fin h ?_ K
  show (if ([] : List Value) = [] then cm_end false (.ref r) σ else none) = _
  rw [if_pos rfl]; rfl
theorem wr_return (h : cm_at cp m pc = some (.return_, len, x, y, z, v)) (K : Q (false, .int 0, σ)) : wp_r d m (pc, L, [], σ) Q := by
  refine cr_fin h ?_ K
  show (if ([] : List Value) = [] then cm_end false (.int 0) σ else none) = _
  rw [if_pos rfl]; rfl
theorem wr_athrow (h : cm_at cp m pc = some (.athrow, len, x, y, z, v)) (hh : cm_hd cp m pc = none) (hx : x ≠ 0) (ht : cm_tg σ r = x) (hk : cm_K cp ≤ r) (K : Q (true, .ref r, σ)) : wp_r d m (pc, L, .ref r :: st, σ) Q := by
  refine cr_fin h ?_ K
  show (if _ then _ else _) = _
  rw [if_pos ⟨ht, hx, hk⟩, hh]; rfl
/-- behind a call -/
def cm_q (d m n rk : Nat) (L st : List Value) (Q : cm_O → Prop) (o : cm_O) : Prop := o.1 = false ∧ match rk, o.2.1 with
  | 0, _ => wp_r d m (n, L, st, o.2.2) Q
  | 1, .int x => wp_r d m (n, L, .int x :: st, o.2.2) Q
  | 2, .long x => wp_r d m (n, L, .long x :: st, o.2.2) Q
  | 3, .ref x => wp_r d m (n, L, .ref x :: st, o.2.2) Q
  | _, _ => False
theorem cm_q_go {e : cm_E} {rk : Nat} {mm : Nat} {as st1 : List Value} (h : cm_at cp m pc = some e) (hs : cm_step cp d (cm_call cp d) m pc e L st σ = cm_bk cp m pc len rk L st1 (cm_call cp d mm as σ)) (K : wp_c d mm as σ (cm_q d m (pc + len) rk L st1 Q)) : wp_r d m (pc, L, st, σ) Q := by
  obtain ⟨⟨b, v, τ⟩, h1, h2, h3⟩ := K
  dsimp only at h2 h3
  subst h2
  rw [h1] at hs
  match rk, v, h3, hs with
  | 0, v, h3, hs => exact cr_go h hs h3
  | 1, .int x, h3, hs => exact cr_go h hs h3
  | 2, .long x, h3, hs => exact cr_go h hs h3
  | 3, .ref x, h3, hs => exact cr_go h hs h3
/-- behind a call that may throw: nothing catches it here -/
def cm_qX (d m n rk : Nat) (L st : List Value) (Q : cm_O → Prop) (o : cm_O) : Prop := (o.1 = true ∧ Q o) ∨ cm_q d m n rk L st Q o
theorem cm_qX_go {e : cm_E} {rk : Nat} {mm : Nat} {as st1 : List Value} (h : cm_at cp m pc = some e) (hh : cm_hd cp m pc = none) (hs : cm_step cp d (cm_call cp d) m pc e L st σ = cm_bk cp m pc len rk L st1 (cm_call cp d mm as σ)) (K : wp_c d mm as σ (cm_qX d m (pc + len) rk L st1 Q)) : wp_r d m (pc, L, st, σ) Q := by
  obtain ⟨⟨b, v, τ⟩, h1, h2⟩ := K
  rcases h2 with ⟨h2, h3⟩ | h2
  · dsimp only at h2
    subst h2
    rw [h1] at hs
    refine cr_fin h ?_ h3
    rw [hs]
    show (match cm_hd cp m pc with | some (h + 1) => _ | some 0 => _ | none => _) = _
    rw [hh]; rfl
  · exact cm_q_go h hs ⟨_, h1, h2⟩
/-- ... a handler catches it -/
def cm_qH (d m n rk hp : Nat) (L st : List Value) (Q : cm_O → Prop) (o : cm_O) : Prop := (o.1 = true ∧ wp_r d m (hp, L, [o.2.1], o.2.2) Q) ∨ cm_q d m n rk L st Q o
theorem cm_qH_go {e : cm_E} {rk hp : Nat} {mm : Nat} {as st1 : List Value} (h : cm_at cp m pc = some e) (hh : cm_hd cp m pc = some (hp + 1)) (hs : cm_step cp d (cm_call cp d) m pc e L st σ = cm_bk cp m pc len rk L st1 (cm_call cp d mm as σ)) (K : wp_c d mm as σ (cm_qH d m (pc + len) rk (hp + 1) L st1 Q)) : wp_r d m (pc, L, st, σ) Q := by
  obtain ⟨⟨b, v, τ⟩, h1, h2⟩ := K
  rcases h2 with ⟨h2, h3⟩ | h2
  · dsimp only at h2 h3
    subst h2
    rw [h1] at hs
    refine cr_go h ?_ h3
    rw [hs]
    show (match cm_hd cp m pc with | some (h + 1) => _ | some 0 => _ | none => _) = _
    rw [hh]; rfl
  · exact cm_q_go h hs ⟨_, h1, h2⟩
theorem cm_q_v {n : Nat} {as : List Value} {mm : Nat} (K : wp_c d mm as σ (qv fun τ => wp_r d m (n, L, st, τ) Q)) : wp_c d mm as σ (cm_q d m n 0 L st Q) := K.mono fun _ h => ⟨h.1, h.2⟩
theorem cm_q_i {n : Nat} {as : List Value} {mm : Nat} (K : wp_c d mm as σ (qi fun a τ => wp_r d m (n, L, .int a :: st, τ) Q)) : wp_c d mm as σ (cm_q d m n 1 L st Q) := K.mono fun _ ⟨_, _, e, h⟩ => by subst e; exact ⟨rfl, h⟩
theorem cm_q_l {n : Nat} {as : List Value} {mm : Nat} (K : wp_c d mm as σ (ql fun a τ => wp_r d m (n, L, .long a :: st, τ) Q)) : wp_c d mm as σ (cm_q d m n 2 L st Q) := K.mono fun _ ⟨_, _, e, h⟩ => by subst e; exact ⟨rfl, h⟩
theorem cm_q_r {n : Nat} {as : List Value} {mm : Nat} (K : wp_c d mm as σ (qr fun a τ => wp_r d m (n, L, .ref a :: st, τ) Q)) : wp_c d mm as σ (cm_q d m n 3 L st Q) := K.mono fun _ ⟨_, _, e, h⟩ => by subst e; exact ⟨rfl, h⟩
theorem cs_inv {k : Nat} {as st1 : List Value} (hd : 1 ≤ d) (ha : ∀ kk, cm_args y st [] kk = kk as st1) (hw : Nat.ble (cm_wd st1) 8 = true) : cm_step cp d (cm_call cp d) m pc (.invokestatic k, len, x, y, 0, v) L st σ = cm_bk cp m pc 3 (cm_rk cp x) L st1 (cm_call cp d x as σ) := by
  show (if d = 0 then none else cm_args _ _ _ _) = _
  rw [if_neg (by omega), ha, if_pos (Nat.le_of_ble_eq_true hw)]
theorem ci_inv {k : Nat} {as st1 : List Value} (hd : 1 ≤ d) (ha : ∀ kk, cm_args y st [] kk = kk (.ref r :: as) st1) (hw : Nat.ble (cm_wd st1) 8 = true) (ht : cm_tg σ r ≠ 0 ∧ cm_tg σ r < 60) : cm_step cp d (cm_call cp d) m pc (.invokespecial k, len, x, y, 0, v) L st σ = cm_bk cp m pc 3 (cm_rk cp x) L st1 (cm_call cp d x (.ref r :: as) σ) := by
  show (if d = 0 then none else cm_args _ _ _ _) = _
  rw [if_neg (by omega), ha]
  show (if _ then _ else _) = _
  rw [if_pos ⟨ht.1, ht.2, Nat.le_of_ble_eq_true hw⟩]
theorem cv_inv {k mm : Nat} {as st1 : List Value} (hd : 1 ≤ d) (ha : ∀ kk, cm_args y st [] kk = kk (.ref r :: as) st1) (hw : Nat.ble (cm_wd st1) 8 = true) (ht : cp_disp x (cm_tg σ r) = some mm) : cm_step cp d (cm_call cp d) m pc (.invokevirtual k, len, x, y, 0, v) L st σ = cm_bk cp m pc 3 (cm_rk cp mm) L st1 (cm_call cp d mm (.ref r :: as) σ) := by
  show (if d = 0 then none else cm_args _ _ _ _) = _
  rw [if_neg (by omega), ha]
  have ht : cm_disp cp x (cm_tg σ r) = some mm := ht
  show (match cm_disp cp x (cm_tg σ r) with | some mm => _ | none => _) = _
  rw [ht]
  show (if _ then _ else _) = _
  rw [if_pos (Nat.le_of_ble_eq_true hw)]
theorem cf_inv {k k2 mm : Nat} {as st1 : List Value} (hd : 1 ≤ d) (ha : ∀ kk, cm_args y st [] kk = kk (.ref r :: as) st1) (hw : Nat.ble (cm_wd st1) 8 = true) (ht : cp_disp x (cm_tg σ r) = some mm) : cm_step cp d (cm_call cp d) m pc (.invokeinterface k k2, len, x, y, z, v) L st σ = cm_bk cp m pc 5 (cm_rk cp mm) L st1 (cm_call cp d mm (.ref r :: as) σ) := by
  show (if d = 0 then none else cm_args _ _ _ _) = _
  rw [if_neg (by omega), ha]
  have ht : cm_disp cp x (cm_tg σ r) = some mm := ht
  show (match cm_disp cp x (cm_tg σ r) with | some mm => _ | none => _) = _
  rw [ht]
  show (if _ then _ else _) = _
  rw [if_pos (Nat.le_of_ble_eq_true hw)]
theorem wr_invsv {k : Nat} {as st1 : List Value} (h : cm_at cp m pc = some (.invokestatic k, len, x, y, 0, v)) (hd : 1 ≤ d) (hn : pc + 3 = n) (ha : ∀ kk, cm_args y st [] kk = kk as st1) (hw : Nat.ble (cm_wd st1) 8 = true) (hr : cm_rk cp x = 0) (K : wp_c d x as σ (qv fun τ => wp_r d m (n, L, st1, τ) Q)) : wp_r d m (pc, L, st, σ) Q := by
  subst hn
  refine cm_q_go h (cs_inv hd ha hw) ?_
  rw [hr]
  exact cm_q_v K
theorem wr_invsi {k : Nat} {as st1 : List Value} (h : cm_at cp m pc = some (.invokestatic k, len, x, y, 0, v)) (hd : 1 ≤ d) (hn : pc + 3 = n) (ha : ∀ kk, cm_args y st [] kk = kk as st1) (hw : Nat.ble (cm_wd st1) 8 = true) (hr : cm_rk cp x = 1) (K : wp_c d x as σ (qi fun a τ => wp_r d m (n, L, .int a :: st1, τ) Q)) : wp_r d m (pc, L, st, σ) Q := by
  subst hn
  refine cm_q_go h (cs_inv hd ha hw) ?_
  rw [hr]
  exact cm_q_i K
theorem wr_invsl {k : Nat} {as st1 : List Value} (h : cm_at cp m pc = some (.invokestatic k, len, x, y, 0, v)) (hd : 1 ≤ d) (hn : pc + 3 = n) (ha : ∀ kk, cm_args y st [] kk = kk as st1) (hw : Nat.ble (cm_wd st1) 8 = true) (hr : cm_rk cp x = 2) (K : wp_c d x as σ (ql fun a τ => wp_r d m (n, L, .long a :: st1, τ) Q)) : wp_r d m (pc, L, st, σ) Q := by
  subst hn
  refine cm_q_go h (cs_inv hd ha hw) ?_
  rw [hr]
  exact cm_q_l K
theorem wr_invsr {k : Nat} {as st1 : List Value} (h : cm_at cp m pc = some (.invokestatic k, len, x, y, 0, v)) (hd : 1 ≤ d) (hn : pc + 3 = n) (ha : ∀ kk, cm_args y st [] kk = kk as st1) (hw : Nat.ble (cm_wd st1) 8 = true) (hr : cm_rk cp x = 3) (K : wp_c d x as σ (qr fun a τ => wp_r d m (n, L, .ref a :: st1, τ) Q)) : wp_r d m (pc, L, st, σ) Q := by
  subst hn
  refine cm_q_go h (cs_inv hd ha hw) ?_
  rw [hr]
  exact cm_q_r K
theorem wr_invsX {k : Nat} {as st1 : List Value} (h : cm_at cp m pc = some (.invokestatic k, len, x, y, 0, v)) (hd : 1 ≤ d) (hn : pc + 3 = n) (ha : ∀ kk, cm_args y st [] kk = kk as st1) (hw : Nat.ble (cm_wd st1) 8 = true) (hh : cm_hd cp m pc = none) {rk : Nat} (hr : cm_rk cp x = rk) (K : wp_c d x as σ (cm_qX d m n rk L st1 Q)) : wp_r d m (pc, L, st, σ) Q := by
  subst hn; subst hr
  exact cm_qX_go h hh (cs_inv hd ha hw) K
theorem wr_invsH {k : Nat} {as st1 : List Value} (h : cm_at cp m pc = some (.invokestatic k, len, x, y, 0, v)) (hd : 1 ≤ d) (hn : pc + 3 = n) (ha : ∀ kk, cm_args y st [] kk = kk as st1) (hw : Nat.ble (cm_wd st1) 8 = true) {hp : Nat} (hh : cm_hd cp m pc = some (hp + 1)) {rk : Nat} (hr : cm_rk cp x = rk) (K : wp_c d x as σ (cm_qH d m n rk (hp + 1) L st1 Q)) : wp_r d m (pc, L, st, σ) Q := by
  subst hn; subst hr
  exact cm_qH_go h hh (cs_inv hd ha hw) K
theorem wr_invpv {k : Nat} {as st1 : List Value} (h : cm_at cp m pc = some (.invokespecial k, len, x, y, 0, v)) (hd : 1 ≤ d) (hn : pc + 3 = n) (ha : ∀ kk, cm_args y st [] kk = kk (.ref r :: as) st1) (hw : Nat.ble (cm_wd st1) 8 = true) (ht : cm_tg σ r ≠ 0 ∧ cm_tg σ r < 60) (hr : cm_rk cp x = 0) (K : wp_c d x (.ref r :: as) σ (qv fun τ => wp_r d m (n, L, st1, τ) Q)) : wp_r d m (pc, L, st, σ) Q := by
  subst hn
  refine cm_q_go h (ci_inv hd ha hw ht) ?_
  rw [hr]
  exact cm_q_v K
theorem wr_invpi {k : Nat} {as st1 : List Value} (h : cm_at cp m pc = some (.invokespecial k, len, x, y, 0, v)) (hd : 1 ≤ d) (hn : pc + 3 = n) (ha : ∀ kk, cm_args y st [] kk = kk (.ref r :: as) st1) (hw : Nat.ble (cm_wd st1) 8 = true) (ht : cm_tg σ r ≠ 0 ∧ cm_tg σ r < 60) (hr : cm_rk cp x = 1) (K : wp_c d x (.ref r :: as) σ (qi fun a τ => wp_r d m (n, L, .int a :: st1, τ) Q)) : wp_r d m (pc, L, st, σ) Q := by
  subst hn
  refine cm_q_go h (ci_inv hd ha hw ht) ?_
  rw [hr]
  exact cm_q_i K
theorem wr_invpl {k : Nat} {as st1 : List Value} (h : cm_at cp m pc = some (.invokespecial k, len, x, y, 0, v)) (hd : 1 ≤ d) (hn : pc + 3 = n) (ha : ∀ kk, cm_args y st [] kk = kk (.ref r :: as) st1) (hw : Nat.ble (cm_wd st1) 8 = true) (ht : cm_tg σ r ≠ 0 ∧ cm_tg σ r < 60) (hr : cm_rk cp x = 2) (K : wp_c d x (.ref r :: as) σ (ql fun a τ => wp_r d m (n, L, .long a :: st1, τ) Q)) : wp_r d m (pc, L, st, σ) Q := by
  subst hn
  refine cm_q_go h (ci_inv hd ha hw ht) ?_
  rw [hr]
  exact cm_q_l K
theorem wr_invpr {k : Nat} {as st1 : List Value} (h : cm_at cp m pc = some (.invokespecial k, len, x, y, 0, v)) (hd : 1 ≤ d) (hn : pc + 3 = n) (ha : ∀ kk, cm_args y st [] kk = kk (.ref r :: as) st1) (hw : Nat.ble (cm_wd st1) 8 = true) (ht : cm_tg σ r ≠ 0 ∧ cm_tg σ r < 60) (hr : cm_rk cp x = 3) (K : wp_c d x (.ref r :: as) σ (qr fun a τ => wp_r d m (n, L, .ref a :: st1, τ) Q)) : wp_r d m (pc, L, st, σ) Q := by
  subst hn
  refine cm_q_go h (ci_inv hd ha hw ht) ?_
  rw [hr]
  exact cm_q_r K
theorem wr_invpX {k : Nat} {as st1 : List Value} (h : cm_at cp m pc = some (.invokespecial k, len, x, y, 0, v)) (hd : 1 ≤ d) (hn : pc + 3 = n) (ha : ∀ kk, cm_args y st [] kk = kk (.ref r :: as) st1) (hw : Nat.ble (cm_wd st1) 8 = true) (ht : cm_tg σ r ≠ 0 ∧ cm_tg σ r < 60) (hh : cm_hd cp m pc = none) {rk : Nat} (hr : cm_rk cp x = rk) (K : wp_c d x (.ref r :: as) σ (cm_qX d m n rk L st1 Q)) : wp_r d m (pc, L, st, σ) Q := by
  subst hn; subst hr
  exact cm_qX_go h hh (ci_inv hd ha hw ht) K
theorem wr_invpH {k : Nat} {as st1 : List Value} (h : cm_at cp m pc = some (.invokespecial k, len, x, y, 0, v)) (hd : 1 ≤ d) (hn : pc + 3 = n) (ha : ∀ kk, cm_args y st [] kk = kk (.ref r :: as) st1) (hw : Nat.ble (cm_wd st1) 8 = true) (ht : cm_tg σ r ≠ 0 ∧ cm_tg σ r < 60) {hp : Nat} (hh : cm_hd cp m pc = some (hp + 1)) {rk : Nat} (hr : cm_rk cp x = rk) (K : wp_c d x (.ref r :: as) σ (cm_qH d m n rk (hp + 1) L st1 Q)) : wp_r d m (pc, L, st, σ) Q := by
  subst hn; subst hr
  exact cm_qH_go h hh (ci_inv hd ha hw ht) K
theorem wr_invwv {k mm : Nat} {as st1 : List Value} (h : cm_at cp m pc = some (.invokevirtual k, len, x, y, 0, v)) (hd : 1 ≤ d) (hn : pc + 3 = n) (ha : ∀ kk, cm_args y st [] kk = kk (.ref r :: as) st1) (hw : Nat.ble (cm_wd st1) 8 = true) (ht : cp_disp x (cm_tg σ r) = some mm) (hr : cm_rk cp mm = 0) (K : wp_c d mm (.ref r :: as) σ (qv fun τ => wp_r d m (n, L, st1, τ) Q)) : wp_r d m (pc, L, st, σ) Q := by
  subst hn
  refine cm_q_go h (cv_inv hd ha hw ht) ?_
  rw [hr]
  exact cm_q_v K
theorem wr_invwi {k mm : Nat} {as st1 : List Value} (h : cm_at cp m pc = some (.invokevirtual k, len, x, y, 0, v)) (hd : 1 ≤ d) (hn : pc + 3 = n) (ha : ∀ kk, cm_args y st [] kk = kk (.ref r :: as) st1) (hw : Nat.ble (cm_wd st1) 8 = true) (ht : cp_disp x (cm_tg σ r) = some mm) (hr : cm_rk cp mm = 1) (K : wp_c d mm (.ref r :: as) σ (qi fun a τ => wp_r d m (n, L, .int a :: st1, τ) Q)) : wp_r d m (pc, L, st, σ) Q := by
  subst hn
  refine cm_q_go h (cv_inv hd ha hw ht) ?_
  rw [hr]
  exact cm_q_i K
theorem wr_invwl {k mm : Nat} {as st1 : List Value} (h : cm_at cp m pc = some (.invokevirtual k, len, x, y, 0, v)) (hd : 1 ≤ d) (hn : pc + 3 = n) (ha : ∀ kk, cm_args y st [] kk = kk (.ref r :: as) st1) (hw : Nat.ble (cm_wd st1) 8 = true) (ht : cp_disp x (cm_tg σ r) = some mm) (hr : cm_rk cp mm = 2) (K : wp_c d mm (.ref r :: as) σ (ql fun a τ => wp_r d m (n, L, .long a :: st1, τ) Q)) : wp_r d m (pc, L, st, σ) Q := by
  subst hn
  refine cm_q_go h (cv_inv hd ha hw ht) ?_
  rw [hr]
  exact cm_q_l K
theorem wr_invwr {k mm : Nat} {as st1 : List Value} (h : cm_at cp m pc = some (.invokevirtual k, len, x, y, 0, v)) (hd : 1 ≤ d) (hn : pc + 3 = n) (ha : ∀ kk, cm_args y st [] kk = kk (.ref r :: as) st1) (hw : Nat.ble (cm_wd st1) 8 = true) (ht : cp_disp x (cm_tg σ r) = some mm) (hr : cm_rk cp mm = 3) (K : wp_c d mm (.ref r :: as) σ (qr fun a τ => wp_r d m (n, L, .ref a :: st1, τ) Q)) : wp_r d m (pc, L, st, σ) Q := by
  subst hn
  refine cm_q_go h (cv_inv hd ha hw ht) ?_
  rw [hr]
  exact cm_q_r K
theorem wr_invwX {k mm : Nat} {as st1 : List Value} (h : cm_at cp m pc = some (.invokevirtual k, len, x, y, 0, v)) (hd : 1 ≤ d) (hn : pc + 3 = n) (ha : ∀ kk, cm_args y st [] kk = kk (.ref r :: as) st1) (hw : Nat.ble (cm_wd st1) 8 = true) (ht : cp_disp x (cm_tg σ r) = some mm) (hh : cm_hd cp m pc = none) {rk : Nat} (hr : cm_rk cp mm = rk) (K : wp_c d mm (.ref r :: as) σ (cm_qX d m n rk L st1 Q)) : wp_r d m (pc, L, st, σ) Q := by
  subst hn; subst hr
  exact cm_qX_go h hh (cv_inv hd ha hw ht) K
theorem wr_invwH {k mm : Nat} {as st1 : List Value} (h : cm_at cp m pc = some (.invokevirtual k, len, x, y, 0, v)) (hd : 1 ≤ d) (hn : pc + 3 = n) (ha : ∀ kk, cm_args y st [] kk = kk (.ref r :: as) st1) (hw : Nat.ble (cm_wd st1) 8 = true) (ht : cp_disp x (cm_tg σ r) = some mm) {hp : Nat} (hh : cm_hd cp m pc = some (hp + 1)) {rk : Nat} (hr : cm_rk cp mm = rk) (K : wp_c d mm (.ref r :: as) σ (cm_qH d m n rk (hp + 1) L st1 Q)) : wp_r d m (pc, L, st, σ) Q := by
  subst hn; subst hr
  exact cm_qH_go h hh (cv_inv hd ha hw ht) K
theorem wr_invfv {k k2 mm : Nat} {as st1 : List Value} (h : cm_at cp m pc = some (.invokeinterface k k2, len, x, y, z, v)) (hd : 1 ≤ d) (hn : pc + 5 = n) (ha : ∀ kk, cm_args y st [] kk = kk (.ref r :: as) st1) (hw : Nat.ble (cm_wd st1) 8 = true) (ht : cp_disp x (cm_tg σ r) = some mm) (hr : cm_rk cp mm = 0) (K : wp_c d mm (.ref r :: as) σ (qv fun τ => wp_r d m (n, L, st1, τ) Q)) : wp_r d m (pc, L, st, σ) Q := by
  subst hn
  refine cm_q_go h (cf_inv hd ha hw ht) ?_
  rw [hr]
  exact cm_q_v K
theorem wr_invfi {k k2 mm : Nat} {as st1 : List Value} (h : cm_at cp m pc = some (.invokeinterface k k2, len, x, y, z, v)) (hd : 1 ≤ d) (hn : pc + 5 = n) (ha : ∀ kk, cm_args y st [] kk = kk (.ref r :: as) st1) (hw : Nat.ble (cm_wd st1) 8 = true) (ht : cp_disp x (cm_tg σ r) = some mm) (hr : cm_rk cp mm = 1) (K : wp_c d mm (.ref r :: as) σ (qi fun a τ => wp_r d m (n, L, .int a :: st1, τ) Q)) : wp_r d m (pc, L, st, σ) Q := by
  subst hn
  refine cm_q_go h (cf_inv hd ha hw ht) ?_
  rw [hr]
  exact cm_q_i K
theorem wr_invfl {k k2 mm : Nat} {as st1 : List Value} (h : cm_at cp m pc = some (.invokeinterface k k2, len, x, y, z, v)) (hd : 1 ≤ d) (hn : pc + 5 = n) (ha : ∀ kk, cm_args y st [] kk = kk (.ref r :: as) st1) (hw : Nat.ble (cm_wd st1) 8 = true) (ht : cp_disp x (cm_tg σ r) = some mm) (hr : cm_rk cp mm = 2) (K : wp_c d mm (.ref r :: as) σ (ql fun a τ => wp_r d m (n, L, .long a :: st1, τ) Q)) : wp_r d m (pc, L, st, σ) Q := by
  subst hn
  refine cm_q_go h (cf_inv hd ha hw ht) ?_
  rw [hr]
  exact cm_q_l K
theorem wr_invfr {k k2 mm : Nat} {as st1 : List Value} (h : cm_at cp m pc = some (.invokeinterface k k2, len, x, y, z, v)) (hd : 1 ≤ d) (hn : pc + 5 = n) (ha : ∀ kk, cm_args y st [] kk = kk (.ref r :: as) st1) (hw : Nat.ble (cm_wd st1) 8 = true) (ht : cp_disp x (cm_tg σ r) = some mm) (hr : cm_rk cp mm = 3) (K : wp_c d mm (.ref r :: as) σ (qr fun a τ => wp_r d m (n, L, .ref a :: st1, τ) Q)) : wp_r d m (pc, L, st, σ) Q := by
  subst hn
  refine cm_q_go h (cf_inv hd ha hw ht) ?_
  rw [hr]
  exact cm_q_r K
theorem wr_invfX {k k2 mm : Nat} {as st1 : List Value} (h : cm_at cp m pc = some (.invokeinterface k k2, len, x, y, z, v)) (hd : 1 ≤ d) (hn : pc + 5 = n) (ha : ∀ kk, cm_args y st [] kk = kk (.ref r :: as) st1) (hw : Nat.ble (cm_wd st1) 8 = true) (ht : cp_disp x (cm_tg σ r) = some mm) (hh : cm_hd cp m pc = none) {rk : Nat} (hr : cm_rk cp mm = rk) (K : wp_c d mm (.ref r :: as) σ (cm_qX d m n rk L st1 Q)) : wp_r d m (pc, L, st, σ) Q := by
  subst hn; subst hr
  exact cm_qX_go h hh (cf_inv hd ha hw ht) K
theorem wr_invfH {k k2 mm : Nat} {as st1 : List Value} (h : cm_at cp m pc = some (.invokeinterface k k2, len, x, y, z, v)) (hd : 1 ≤ d) (hn : pc + 5 = n) (ha : ∀ kk, cm_args y st [] kk = kk (.ref r :: as) st1) (hw : Nat.ble (cm_wd st1) 8 = true) (ht : cp_disp x (cm_tg σ r) = some mm) {hp : Nat} (hh : cm_hd cp m pc = some (hp + 1)) {rk : Nat} (hr : cm_rk cp mm = rk) (K : wp_c d mm (.ref r :: as) σ (cm_qH d m n rk (hp + 1) L st1 Q)) : wp_r d m (pc, L, st, σ) Q := by
  subst hn; subst hr
  exact cm_qH_go h hh (cf_inv hd ha hw ht) K
theorem wr_objinit {k : Nat} (h : cm_at cp m pc = some (.invokespecial k, len, x, y, 1, v)) (hd : 1 ≤ d) (hn : pc + 3 = n) (hw : Nat.ble (cm_wd st) 8 = true) (ht : cm_tg σ r ≠ 0) (K : wp_r d m (n, L, st, σ) Q) : wp_r d m (pc, L, .ref r :: st, σ) Q := by
  subst hn
  refine cr_go h ?_ K
  show (if d = 0 then none else _) = _
  rw [if_neg (by omega)]
  show (if _ then _ else _) = _
  rw [if_pos ⟨ht, Nat.le_of_ble_eq_true hw⟩]; rfl
/-- System.arraycopy: what it asks, and what it leaves -/
def cm_cw (σ : cm_S) (r s : Nat) (a b c : Int32) (k : cm_S → Prop) : Prop :=
  (cm_tg σ r = cm_tg σ s ∧ cm_K cp ≤ s ∧ 0 ≤ a.toInt ∧ 0 ≤ b.toInt ∧ 0 ≤ c.toInt ∧ a.toInt + c.toInt ≤ (cm_ln σ r : Int) ∧ b.toInt + c.toInt ≤ (cm_ln σ s : Int)) ∧
    (if cm_tg σ s = 102 then k (cm_wL σ s (cm_cpy (cm_L σ r) (cm_L σ s) (cm_ix a) (cm_ix b) (cm_ix c)))
     else if cm_tg σ s = 101 ∨ cm_tg σ s = 103 then k (cm_wI σ s (cm_cpy (cm_I σ r) (cm_I σ s) (cm_ix a) (cm_ix b) (cm_ix c)))
     else (104 < cm_tg σ s ∧ ∀ i, i < cm_ix c → (cm_R σ r (cm_ix a + i) = 0 ∨ cp_asg (cm_tg σ s) (cm_tg σ (cm_R σ r (cm_ix a + i))) = true)) ∧ k (cm_wR σ s (cm_cpy (cm_R σ r) (cm_R σ s) (cm_ix a) (cm_ix b) (cm_ix c))))
theorem cm_cw.mono {σ : cm_S} {r s : Nat} {a b c : Int32} {k k2 : cm_S → Prop} (h : cm_cw σ r s a b c k) (f : ∀ τ, k τ → k2 τ) : cm_cw σ r s a b c k2 := by
  unfold cm_cw at *
  refine ⟨h.1, ?_⟩
  have h2 := h.2
  by_cases q1 : cm_tg σ s = 102
  · rw [if_pos q1] at h2 ⊢; exact f _ h2
  · rw [if_neg q1] at h2 ⊢
    by_cases q2 : cm_tg σ s = 101 ∨ cm_tg σ s = 103
    · rw [if_pos q2] at h2 ⊢; exact f _ h2
    · rw [if_neg q2] at h2 ⊢; exact ⟨h2.1, f _ h2.2⟩
theorem wr_arraycopy {k : Nat} {c : Int32} (h : cm_at cp m pc = some (.invokestatic k, len, x, y, 1, v)) (hd : 1 ≤ d) (hn : pc + 3 = n) (hw : Nat.ble (cm_wd st) 8 = true) (K : cm_cw σ r s a b c fun τ => wp_r d m (n, L, st, τ) Q) : wp_r d m (pc, L, .int c :: .int b :: .ref s :: .int a :: .ref r :: st, σ) Q := by
  subst hn
  have g : cm_step cp d (cm_call cp d) m pc (.invokestatic k, len, x, y, 1, v) L (.int c :: .int b :: .ref s :: .int a :: .ref r :: st) σ = cm_copy cp σ r s a b c fun σ => cm_go (pc + 3) L st σ := by
    show (if d = 0 then none else _) = _
    rw [if_neg (by omega)]
    show (if _ then _ else _) = _
    rw [if_pos (Nat.le_of_ble_eq_true hw)]
  unfold cm_copy at g
  obtain ⟨h1, h2⟩ := K
  rw [if_pos h1] at g
  by_cases q1 : cm_tg σ s = 102
  · rw [if_pos q1] at g h2
    exact cr_go h g h2
  · rw [if_neg q1] at g h2
    by_cases q2 : cm_tg σ s = 101 ∨ cm_tg σ s = 103
    · rw [if_pos q2] at g h2
      exact cr_go h g h2
    · rw [if_neg q2] at g h2
      have h3 : 104 < cm_tg σ s ∧ ∀ i, i < cm_ix c → (cm_R σ r (cm_ix a + i) = 0 ∨ cm_asg cp (cm_tg σ s) (cm_tg σ (cm_R σ r (cm_ix a + i))) = true) := h2.1
      rw [if_pos h3] at g
      exact cr_go h g h2.2
theorem wr_getClass {k : Nat} (h : cm_at cp m pc = some (.invokevirtual k, len, x, y, 2, v)) (hd : 1 ≤ d) (hn : pc + 3 = n) (hw : Nat.ble (cm_wd st) 8 = true) (hc : v = w) (ht : cm_tg σ r = 105) (K : wp_r d m (n, L, w :: st, σ) Q) : wp_r d m (pc, L, .ref r :: st, σ) Q := by
  subst hn; subst hc
  refine cr_go h ?_ K
  show (if d = 0 then none else _) = _
  rw [if_neg (by omega)]
  show (if _ then _ else _) = _
  rw [if_pos ⟨Nat.le_of_ble_eq_true hw, ht⟩]; rfl
theorem wr_clone {k : Nat} (h : cm_at cp m pc = some (.invokevirtual k, len, x, y, 1, v)) (hd : 1 ≤ d) (hn : pc + 3 = n) (hw : Nat.ble (cm_wd st) 8 = true) (ht : cm_tg σ r = x) (hx : Nat.blt 100 x = true) (hk : cm_K cp ≤ r ∨ 104 < x) (hl : cm_ln σ r ≤ 60000000) (K : wp_r d m (n, L, .ref (cm_nx σ) :: st, cm_cl σ x r) Q) : wp_r d m (pc, L, .ref r :: st, σ) Q := by
  subst hn
  refine cr_go h ?_ K
  show (if d = 0 then none else _) = _
  rw [if_neg (by omega)]
  show (if _ then _ else _) = _
  rw [if_pos ⟨Nat.le_of_ble_eq_true hw, ht, by simpa [Nat.blt_eq] using hx, hk, hl⟩]; rfl
theorem wr_tableswitch {dflt lo hi : Int} {offs : Array Int} (h : cm_at cp m pc = some (.tableswitch dflt lo hi offs, len, x, y, z, v)) (K0 : a.toInt < lo ∨ hi < a.toInt → 0 ≤ (pc : Int) + dflt ∧ wp_r d m (((pc : Int) + dflt).toNat, L, st, σ) Q) (K1 : ¬ (a.toInt < lo ∨ hi < a.toInt) → ∃ off, offs[(a.toInt - lo).toNat]? = some off ∧ 0 ≤ (pc : Int) + off ∧ wp_r d m (((pc : Int) + off).toNat, L, st, σ) Q) : wp_r d m (pc, L, .int a :: st, σ) Q := by
  by_cases hc : a.toInt < lo ∨ hi < a.toInt
  · obtain ⟨h1, h2⟩ := K0 hc
    refine cr_go h ?_ h2
    show (if _ then _ else _) = _
    rw [if_pos hc, if_pos h1]; rfl
  · obtain ⟨off, h1, h2, h3⟩ := K1 hc
    refine cr_go h ?_ h3
    show (if _ then _ else _) = _
    rw [if_neg hc, h1]
    show (if _ then _ else _) = _
    rw [if_pos h2]; rfl
theorem wr_lookupswitch {dflt : Int} {ps : Array (Int × Int)} (h : cm_at cp m pc = some (.lookupswitch dflt ps, len, x, y, z, v)) (hs : (ps.toList.zip (ps.toList.drop 1)).all (fun (u, w) => u.1 < w.1) = true) {o : Int} (ho : Op.lookupswitch.offset ps.toList dflt a.toInt = o) (h0 : 0 ≤ (pc : Int) + o) (K : wp_r d m (((pc : Int) + o).toNat, L, st, σ) Q) : wp_r d m (pc, L, .int a :: st, σ) Q := by
  subst ho
  refine cr_go h ?_ K
  show (if _ then _ else _) = _
  rw [if_pos ⟨hs, h0⟩]; rfl
def cm_lsw (pc : Int) (F : Nat → Prop) (dflt a : Int) : List (Int × Int) → Prop
  | [] => 0 ≤ pc + dflt ∧ F (pc + dflt).toNat
  | (k, o) :: r => (a = k → 0 ≤ pc + o ∧ F (pc + o).toNat) ∧ (¬ a = k → cm_lsw pc F dflt a r)
theorem cm_lsw_of {p0 : Int} {F : Nat → Prop} {dflt a0 : Int} : ∀ {l : List (Int × Int)}, cm_lsw p0 F dflt a0 l → 0 ≤ p0 + Op.lookupswitch.offset l dflt a0 ∧ F (p0 + Op.lookupswitch.offset l dflt a0).toNat := by
  intro l
  induction l with
  | nil => intro h; exact h
  | cons q l ih =>
    obtain ⟨k, o⟩ := q
    intro h
    rw [Op.lookupswitch.offset_cons]
    unfold cm_lsw at h
    by_cases hc : a0 = k
    · rw [if_pos hc.symm]; exact h.1 hc
    · rw [if_neg (Ne.symm hc)]; exact ih (h.2 hc)
theorem wr_lookup {dflt : Int} {ps : Array (Int × Int)} (h : cm_at cp m pc = some (.lookupswitch dflt ps, len, x, y, z, v)) (hs : (ps.toList.zip (ps.toList.drop 1)).all (fun (u, w) => u.1 < w.1) = true) {l : List (Int × Int)} (hl : ps.toList = l) (K : cm_lsw (pc : Int) (fun q => wp_r d m (q, L, st, σ) Q) dflt a.toInt l) : wp_r d m (pc, L, .int a :: st, σ) Q := by
  subst hl
  exact wr_lookupswitch h hs rfl (cm_lsw_of K).1 (cm_lsw_of K).2
def cm_tsw (pc : Int) (F : Nat → Prop) (a : Int) : Int → List Int → Prop
  | _, [] => False
  | lo, o :: r => (a = lo → 0 ≤ pc + o ∧ F (pc + o).toNat) ∧ (¬ a = lo → cm_tsw pc F a (lo + 1) r)
theorem cm_tsw_of {p0 : Int} {F : Nat → Prop} {a0 : Int} : ∀ {l : List Int} {lo : Int}, cm_tsw p0 F a0 lo l → lo ≤ a0 → ∃ off, l[(a0 - lo).toNat]? = some off ∧ 0 ≤ p0 + off ∧ F (p0 + off).toNat := by
  intro l
  induction l with
  | nil => intro lo h; exact h.elim
  | cons o l ih =>
    intro lo h hl
    unfold cm_tsw at h
    by_cases hc : a0 = lo
    · exact ⟨o, by rw [hc]; simp, h.1 hc⟩
    · obtain ⟨off, h1, h2⟩ := ih (h.2 hc) (by omega)
      refine ⟨off, ?_, h2⟩
      rw [show (a0 - lo).toNat = (a0 - (lo + 1)).toNat + 1 by omega]
      simpa using h1
theorem wr_table {dflt lo hi : Int} {offs : Array Int} (h : cm_at cp m pc = some (.tableswitch dflt lo hi offs, len, x, y, z, v)) {l : List Int} (hl : offs.toList = l) (K : (a.toInt < lo ∨ hi < a.toInt → 0 ≤ (pc : Int) + dflt ∧ wp_r d m (((pc : Int) + dflt).toNat, L, st, σ) Q) ∧ (¬ (a.toInt < lo ∨ hi < a.toInt) → cm_tsw (pc : Int) (fun q => wp_r d m (q, L, st, σ) Q) a.toInt lo l)) : wp_r d m (pc, L, .int a :: st, σ) Q := by
  subst hl
  refine wr_tableswitch h (fun hc => K.1 hc) (fun hc => ?_)
  obtain ⟨off, h1, h2⟩ := cm_tsw_of (K.2 hc) (by omega)
  exact ⟨off, by simpa using h1, h2⟩
end
/-! reads and tags of written states -/
theorem tg_pI (σ : cm_S) (a i : Nat) (v : Int32) : cm_tg (cm_pI σ a i v) = cm_tg σ := rfl
theorem tg_new (σ : cm_S) (t n : Nat) : cm_tg (cm_al σ t n) (cm_nx σ) = t := by simp [cm_al, cm_tg, cm_u1]
theorem cr_dt {x t mm : Nat} {q : Nat} (h : cp_disp x t = some mm) (e : q = t) : cp_disp x q = some mm := by rw [e]; exact h
theorem cr_60 {q t : Nat} (e : q = t) (h : (Nat.blt 0 t && Nat.blt t 60) = true) : q ≠ 0 ∧ q < 60 := by
  subst e
  simp only [Bool.and_eq_true, Nat.blt_eq] at h
  omega
theorem cr_ne0 {q t : Nat} (e : q = t) (h : Nat.blt 0 t = true) : q ≠ 0 := by
  subst e
  simp only [Nat.blt_eq] at h
  omega
theorem cr_cast {x q t r : Nat} (e : q = t) (h : cp_cast x t = some true) : r = 0 ∨ cp_cast x q = some true := Or.inr (by rw [e]; exact h)
theorem wx_Xv {d mm dd m n : Nat} {as L st : List Value} {σ : cm_S} {Q : cm_O → Prop} {P : cm_S → Prop} (h : wp_c d mm as σ (qX (qv P) (fun x τ => Q (true, .ref x, τ)))) (k : ∀ τ, P τ → wp_r dd m (n, L, st, τ) Q) : wp_c d mm as σ (cm_qX dd m n 0 L st Q) := h.mono fun o q => by
  rcases q with ⟨h1, x, h2, h3⟩ | ⟨h1, h2⟩
  · obtain ⟨b, v, τ⟩ := o
    dsimp only at h1 h2 h3
    subst h1; subst h2
    exact Or.inl ⟨rfl, h3⟩
  · exact Or.inr ⟨h1, k _ h2.2⟩
theorem wx_Xi {d mm dd m n : Nat} {as L st : List Value} {σ : cm_S} {Q : cm_O → Prop} {P : Int32 → cm_S → Prop} (h : wp_c d mm as σ (qX (qi P) (fun x τ => Q (true, .ref x, τ)))) (k : ∀ x τ, P x τ → wp_r dd m (n, L, .int x :: st, τ) Q) : wp_c d mm as σ (cm_qX dd m n 1 L st Q) := h.mono fun o q => by
  rcases q with ⟨h1, x, h2, h3⟩ | ⟨h1, x, τ, e, h2⟩
  · obtain ⟨b, v, τ⟩ := o
    dsimp only at h1 h2 h3
    subst h1; subst h2
    exact Or.inl ⟨rfl, h3⟩
  · subst e; exact Or.inr ⟨rfl, k _ _ h2⟩
theorem wx_Xr {d mm dd m n : Nat} {as L st : List Value} {σ : cm_S} {Q : cm_O → Prop} {P : Nat → cm_S → Prop} (h : wp_c d mm as σ (qX (qr P) (fun x τ => Q (true, .ref x, τ)))) (k : ∀ x τ, P x τ → wp_r dd m (n, L, .ref x :: st, τ) Q) : wp_c d mm as σ (cm_qX dd m n 3 L st Q) := h.mono fun o q => by
  rcases q with ⟨h1, x, h2, h3⟩ | ⟨h1, x, τ, e, h2⟩
  · obtain ⟨b, v, τ⟩ := o
    dsimp only at h1 h2 h3
    subst h1; subst h2
    exact Or.inl ⟨rfl, h3⟩
  · subst e; exact Or.inr ⟨rfl, k _ _ h2⟩
theorem wx_Hv {d mm dd m n hp : Nat} {as L st : List Value} {σ : cm_S} {Q : cm_O → Prop} {P : cm_S → Prop} {E : Nat → cm_S → Prop} (h : wp_c d mm as σ (qX (qv P) E)) (k : ∀ τ, P τ → wp_r dd m (n, L, st, τ) Q) (ke : ∀ x τ, E x τ → wp_r dd m (hp, L, [.ref x], τ) Q) : wp_c d mm as σ (cm_qH dd m n 0 hp L st Q) := h.mono fun o q => by
  rcases q with ⟨h1, x, h2, h3⟩ | ⟨h1, h2⟩
  · obtain ⟨b, v, τ⟩ := o
    dsimp only at h1 h2 h3
    subst h1; subst h2
    exact Or.inl ⟨rfl, ke _ _ h3⟩
  · exact Or.inr ⟨h1, k _ h2.2⟩
theorem wx_Hr {d mm dd m n hp : Nat} {as L st : List Value} {σ : cm_S} {Q : cm_O → Prop} {P : Nat → cm_S → Prop} {E : Nat → cm_S → Prop} (h : wp_c d mm as σ (qX (qr P) E)) (k : ∀ x τ, P x τ → wp_r dd m (n, L, .ref x :: st, τ) Q) (ke : ∀ x τ, E x τ → wp_r dd m (hp, L, [.ref x], τ) Q) : wp_c d mm as σ (cm_qH dd m n 3 hp L st Q) := h.mono fun o q => by
  rcases q with ⟨h1, x, h2, h3⟩ | ⟨h1, x, τ, e, h2⟩
  · obtain ⟨b, v, τ⟩ := o
    dsimp only at h1 h2 h3
    subst h1; subst h2
    exact Or.inl ⟨rfl, ke _ _ h3⟩
  · subst e; exact Or.inr ⟨rfl, k _ _ h2⟩

