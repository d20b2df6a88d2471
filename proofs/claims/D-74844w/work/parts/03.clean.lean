/-! THE CLEAN MACHINE: states. Tags, lengths, ints, longs, references (0: null), the next address, slots used. -/
abbrev cm_S : Type := (Nat → Nat) × (Nat → Nat) × (Nat → Nat → Int32) × (Nat → Nat → Int64) × (Nat → Nat → Nat) × Nat × Nat
def cm_tg (σ : cm_S) : Nat → Nat := σ.1
def cm_ln (σ : cm_S) : Nat → Nat := σ.2.1
def cm_I (σ : cm_S) : Nat → Nat → Int32 := σ.2.2.1
def cm_L (σ : cm_S) : Nat → Nat → Int64 := σ.2.2.2.1
def cm_R (σ : cm_S) : Nat → Nat → Nat := σ.2.2.2.2.1
def cm_nx (σ : cm_S) : Nat := σ.2.2.2.2.2.1
def cm_sz (σ : cm_S) : Nat := σ.2.2.2.2.2.2
def cm_u1 {α : Type} (f : Nat → α) (a : Nat) (v : α) : Nat → α := fun b => if b = a then v else f b
def cm_u2 {α : Type} (f : Nat → Nat → α) (a i : Nat) (v : α) : Nat → Nat → α := fun b j => if b = a ∧ j = i then v else f b j
def cm_pI (σ : cm_S) (a i : Nat) (v : Int32) : cm_S := (σ.1, σ.2.1, cm_u2 σ.2.2.1 a i v, σ.2.2.2)
def cm_pL (σ : cm_S) (a i : Nat) (v : Int64) : cm_S := (σ.1, σ.2.1, σ.2.2.1, cm_u2 σ.2.2.2.1 a i v, σ.2.2.2.2)
def cm_pR (σ : cm_S) (a i : Nat) (v : Nat) : cm_S := (σ.1, σ.2.1, σ.2.2.1, σ.2.2.2.1, cm_u2 σ.2.2.2.2.1 a i v, σ.2.2.2.2.2)
def cm_wI (σ : cm_S) (a : Nat) (f : Nat → Int32) : cm_S := (σ.1, σ.2.1, cm_u1 σ.2.2.1 a f, σ.2.2.2)
def cm_wL (σ : cm_S) (a : Nat) (f : Nat → Int64) : cm_S := (σ.1, σ.2.1, σ.2.2.1, cm_u1 σ.2.2.2.1 a f, σ.2.2.2.2)
def cm_wR (σ : cm_S) (a : Nat) (f : Nat → Nat) : cm_S := (σ.1, σ.2.1, σ.2.2.1, σ.2.2.2.1, cm_u1 σ.2.2.2.2.1 a f, σ.2.2.2.2.2)
def cm_al (σ : cm_S) (t n : Nat) : cm_S := (cm_u1 σ.1 (cm_nx σ) t, cm_u1 σ.2.1 (cm_nx σ) n, cm_u1 σ.2.2.1 (cm_nx σ) (fun _ => 0), cm_u1 σ.2.2.2.1 (cm_nx σ) (fun _ => 0), cm_u1 σ.2.2.2.2.1 (cm_nx σ) (fun _ => 0), cm_nx σ + 1, cm_sz σ + n)
/-- a copy of the array a -/
def cm_cl (σ : cm_S) (t a : Nat) : cm_S := (cm_u1 σ.1 (cm_nx σ) t, cm_u1 σ.2.1 (cm_nx σ) (cm_ln σ a), cm_u1 σ.2.2.1 (cm_nx σ) (cm_I σ a), cm_u1 σ.2.2.2.1 (cm_nx σ) (cm_L σ a), cm_u1 σ.2.2.2.2.1 (cm_nx σ) (cm_R σ a), cm_nx σ + 1, cm_sz σ + cm_ln σ a)
/-! frames, outcomes -/
abbrev cm_F : Type := Nat × List Value × List Value × cm_S
abbrev cm_O : Type := Bool × Value × cm_S
abbrev cm_X : Type := Option (cm_F ⊕ cm_O)
/-- an instruction, its length, three numbers and a value that say what it resolves to -/
abbrev cm_E : Type := Instr × Nat × Nat × Nat × Nat × Value
/-- a program: code, locals, answers' kinds, dispatch, casts, array stores, handlers; the first address that may be written -/
abbrev cm_P : Type := (Nat → List (Nat × cm_E)) × (Nat → Nat) × (Nat → Nat) × (Nat → Nat → Option Nat) × (Nat → Nat → Option Bool) × (Nat → Nat → Bool) × (Nat → Nat → Option Nat) × Nat × Nat
def cm_code (P : cm_P) : Nat → List (Nat × cm_E) := P.1
def cm_nl (P : cm_P) : Nat → Nat := P.2.1
def cm_rk (P : cm_P) : Nat → Nat := P.2.2.1
def cm_disp (P : cm_P) : Nat → Nat → Option Nat := P.2.2.2.1
def cm_cast (P : cm_P) : Nat → Nat → Option Bool := P.2.2.2.2.1
def cm_asg (P : cm_P) : Nat → Nat → Bool := P.2.2.2.2.2.1
def cm_hd (P : cm_P) : Nat → Nat → Option Nat := P.2.2.2.2.2.2.1
def cm_K (P : cm_P) : Nat := P.2.2.2.2.2.2.2.1
def cm_KD (P : cm_P) : Nat := P.2.2.2.2.2.2.2.2
def cm_go (pc : Nat) (ls st : List Value) (σ : cm_S) : cm_X := some (.inl (pc, ls, st, σ))
def cm_end (b : Bool) (v : Value) (σ : cm_S) : cm_X := some (.inr (b, v, σ))
def cm_pi (st : List Value) (k : Int32 → List Value → cm_X) : cm_X := match st with
  | .int x :: r => k x r
  | _ => none
def cm_pl (st : List Value) (k : Int64 → List Value → cm_X) : cm_X := match st with
  | .long x :: r => k x r
  | _ => none
def cm_pr (st : List Value) (k : Nat → List Value → cm_X) : cm_X := match st with
  | .ref x :: r => k x r
  | _ => none
def cm_pa (st : List Value) (k : Value → List Value → cm_X) : cm_X := match st with
  | v :: r => k v r
  | [] => none
def cm_li (ls : List Value) (i : Nat) (k : Int32 → cm_X) : cm_X := match ls[i]? with
  | some (.int x) => k x
  | _ => none
def cm_ll (ls : List Value) (i : Nat) (k : Int64 → cm_X) : cm_X := match ls[i]?, ls[i + 1]? with
  | some (.long x), some (.retAddr _) => k x
  | _, _ => none
def cm_lr (ls : List Value) (i : Nat) (k : Nat → cm_X) : cm_X := match ls[i]? with
  | some (.ref x) => k x
  | _ => none
def cm_set (ls : List Value) (i : Nat) (v : Value) : List Value := ls.set i v
def cm_set2 (ls : List Value) (i : Nat) (v : Int64) : List Value := (ls.set i (.long v)).set (i + 1) (.retAddr 0)
def cm_cmp (c : ClassFile.Cond) (x y : Int32) : Bool := match c with
  | .eq => decide (x = y)
  | .ne => decide (¬ x = y)
  | .lt => decide (x < y)
  | .ge => decide (y ≤ x)
  | .gt => decide (y < x)
  | .le => decide (x ≤ y)
/-- words of a stack -/
def cm_wd (st : List Value) : Nat := (st.map fun v => v.category).sum
/-- an index within -/
def cm_in (i : Int32) (n : Nat) : Bool := decide (0 ≤ i.toInt ∧ i.toInt < (n : Int))
def cm_ix (i : Int32) : Nat := i.toInt.toNat
/-- kinds of small numbers: 3 boolean, 4 byte, 5 char -/
def cm_fit (k : Nat) (x : Int32) : Bool := match k with
  | 3 => decide (x = 0 ∨ x = 1)
  | 4 => decide (x.toInt8.toInt32 = x)
  | 5 => decide ((x.toUInt32 % 65536).toInt32 = x)
  | _ => true
/-- the arguments taken off a stack: the last on top -/
def cm_args : Nat → List Value → List Value → (List Value → List Value → cm_X) → cm_X
  | 0, st, acc, k => k acc st
  | n + 1, v :: st, acc, k => cm_args n st (v :: acc) k
  | _ + 1, [], _, _ => none
/-- behind a call -/
def cm_bk (P : cm_P) (m pc len : Nat) (rk : Nat) (ls st : List Value) (r : Option cm_O) : cm_X := match r with
  | none => none
  | some (true, v, σ) => (match cm_hd P m pc with
      | some (h + 1) => cm_go (h + 1) ls [v] σ
      | some 0 => none
      | none => cm_end true v σ)
  | some (false, v, σ) => (match rk, v with
      | 0, _ => cm_go (pc + len) ls st σ
      | 1, .int x => cm_go (pc + len) ls (.int x :: st) σ
      | 2, .long x => cm_go (pc + len) ls (.long x :: st) σ
      | 3, .ref x => cm_go (pc + len) ls (.ref x :: st) σ
      | _, _ => none)
/-- locals at a method's entry -/
def cm_ent : List Value → List Value
  | [] => []
  | .long x :: r => .long x :: .retAddr 0 :: cm_ent r
  | v :: r => v :: cm_ent r
def cm_el (n : Nat) (args : List Value) : List Value := cm_ent args ++ List.replicate (n - (cm_ent args).length) .null
def cm_cpy {α : Type} (f g : Nat → α) (sp dp n : Nat) : Nat → α := fun k => if dp ≤ k ∧ k < dp + n then f (sp + (k - dp)) else g k
/-- System.arraycopy on arrays of one tag -/
def cm_copy (P : cm_P) (σ : cm_S) (a b : Nat) (sp dp n : Int32) (k : cm_S → cm_X) : cm_X :=
  if cm_tg σ a = cm_tg σ b ∧ cm_K P ≤ b ∧ 0 ≤ sp.toInt ∧ 0 ≤ dp.toInt ∧ 0 ≤ n.toInt ∧ sp.toInt + n.toInt ≤ (cm_ln σ a : Int) ∧ dp.toInt + n.toInt ≤ (cm_ln σ b : Int) then
    (if cm_tg σ b = 102 then k (cm_wL σ b (cm_cpy (cm_L σ a) (cm_L σ b) (cm_ix sp) (cm_ix dp) (cm_ix n)))
     else if cm_tg σ b = 101 ∨ cm_tg σ b = 103 then k (cm_wI σ b (cm_cpy (cm_I σ a) (cm_I σ b) (cm_ix sp) (cm_ix dp) (cm_ix n)))
     else if 104 < cm_tg σ b ∧ ∀ i, i < cm_ix n → (cm_R σ a (cm_ix sp + i) = 0 ∨ cm_asg P (cm_tg σ b) (cm_tg σ (cm_R σ a (cm_ix sp + i))) = true) then k (cm_wR σ b (cm_cpy (cm_R σ a) (cm_R σ b) (cm_ix sp) (cm_ix dp) (cm_ix n)))
     else none)
  else none
/-- a static that is a reference or null, handed to the call behind it, which doesn't look at it: one step -/
noncomputable def cm_sio (P : cm_P) (d : Nat) (calls : Nat → List Value → cm_S → Option cm_O) (m pc x y : Nat) (i n : Int32) (st : List Value) (σ : cm_S) (k : cm_X) : cm_X :=
  haveI := Classical.propDecidable (d ≠ 0 ∧ cm_wd st ≤ 8 ∧ cm_rk P x = 1 ∧ cm_hd P m (pc + 3) = none ∧ calls x [.int i, .int n, .ref 0] σ = some (false, .int i, σ) ∧ calls x [.int i, .int n, .ref y] σ = some (false, .int i, σ))
  if d ≠ 0 ∧ cm_wd st ≤ 8 ∧ cm_rk P x = 1 ∧ cm_hd P m (pc + 3) = none ∧ calls x [.int i, .int n, .ref 0] σ = some (false, .int i, σ) ∧ calls x [.int i, .int n, .ref y] σ = some (false, .int i, σ) then k else none
theorem cm_sio_some {P : cm_P} {d : Nat} {calls : Nat → List Value → cm_S → Option cm_O} {m pc x y : Nat} {i n : Int32} {st : List Value} {σ : cm_S} {k : cm_X} {r : cm_F ⊕ cm_O} (h : cm_sio P d calls m pc x y i n st σ k = some r) : (d ≠ 0 ∧ cm_wd st ≤ 8 ∧ cm_rk P x = 1 ∧ cm_hd P m (pc + 3) = none ∧ calls x [.int i, .int n, .ref 0] σ = some (false, .int i, σ) ∧ calls x [.int i, .int n, .ref y] σ = some (false, .int i, σ)) ∧ k = some r := by
  unfold cm_sio at h
  split at h
  · rename_i hc
    exact ⟨hc, h⟩
  · cases h
theorem cm_sio_of {P : cm_P} {d : Nat} {calls : Nat → List Value → cm_S → Option cm_O} {m pc x y : Nat} {i n : Int32} {st : List Value} {σ : cm_S} {k : cm_X} (h : d ≠ 0 ∧ cm_wd st ≤ 8 ∧ cm_rk P x = 1 ∧ cm_hd P m (pc + 3) = none ∧ calls x [.int i, .int n, .ref 0] σ = some (false, .int i, σ) ∧ calls x [.int i, .int n, .ref y] σ = some (false, .int i, σ)) : cm_sio P d calls m pc x y i n st σ k = k := by
  unfold cm_sio
  rw [if_pos h]
/-- one instruction -/
noncomputable def cm_step (P : cm_P) (d : Nat) (calls : Nat → List Value → cm_S → Option cm_O) (m pc : Nat) (e : cm_E) (ls st : List Value) (σ : cm_S) : cm_X :=
  match e with
  | (i, len, x, y, z, v) =>
    match i with
    | .iconst n => cm_go (pc + 1) ls (.int (Int32.ofInt n) :: st) σ
    | .bipush n => cm_go (pc + 2) ls (.int ((Int8.ofInt n).toInt32) :: st) σ
    | .sipush n => cm_go (pc + 3) ls (.int ((Int16.ofInt n).toInt32) :: st) σ
    | .lconst n => cm_go (pc + 1) ls (.long (Int64.ofNat n.val) :: st) σ
    | .aconst_null => cm_go (pc + 1) ls (.ref 0 :: st) σ
    | .ldc _ => cm_go (pc + 2) ls (v :: st) σ
    | .ldc_w _ => cm_go (pc + 3) ls (v :: st) σ
    | .ldc2_w _ => cm_go (pc + 3) ls (v :: st) σ
    | .getstatic _ => (match z with
        | 0 => cm_go (pc + 3) ls (v :: st) σ
        | _ => cm_pi st fun n st => cm_pi st fun i st => cm_sio P d calls m pc x y i n st σ (cm_go (pc + 6) ls (.int i :: st) σ))
    | .iload_n k => cm_li ls k.val fun a => cm_go (pc + 1) ls (.int a :: st) σ
    | .iload k => cm_li ls k fun a => cm_go (pc + 2) ls (.int a :: st) σ
    | .lload_n k => cm_ll ls k.val fun a => cm_go (pc + 1) ls (.long a :: st) σ
    | .lload k => cm_ll ls k fun a => cm_go (pc + 2) ls (.long a :: st) σ
    | .aload_n k => cm_lr ls k.val fun a => cm_go (pc + 1) ls (.ref a :: st) σ
    | .aload k => cm_lr ls k fun a => cm_go (pc + 2) ls (.ref a :: st) σ
    | .istore_n k => cm_pi st fun a st => if k.val < ls.length then cm_go (pc + 1) (cm_set ls k.val (.int a)) st σ else none
    | .istore k => cm_pi st fun a st => if k < ls.length then cm_go (pc + 2) (cm_set ls k (.int a)) st σ else none
    | .astore_n k => cm_pr st fun a st => if k.val < ls.length then cm_go (pc + 1) (cm_set ls k.val (.ref a)) st σ else none
    | .astore k => cm_pr st fun a st => if k < ls.length then cm_go (pc + 2) (cm_set ls k (.ref a)) st σ else none
    | .lstore_n k => cm_pl st fun a st => if k.val + 1 < ls.length then cm_go (pc + 1) (cm_set2 ls k.val a) st σ else none
    | .lstore k => cm_pl st fun a st => if k + 1 < ls.length then cm_go (pc + 2) (cm_set2 ls k a) st σ else none
    | .iinc k n => cm_li ls k fun a => cm_go (pc + len) (cm_set ls k (.int (a + Int32.ofInt n))) st σ
    | .iadd => cm_pi st fun b st => cm_pi st fun a st => cm_go (pc + 1) ls (.int (a + b) :: st) σ
    | .isub => cm_pi st fun b st => cm_pi st fun a st => cm_go (pc + 1) ls (.int (a - b) :: st) σ
    | .imul => cm_pi st fun b st => cm_pi st fun a st => cm_go (pc + 1) ls (.int (a * b) :: st) σ
    | .idiv => cm_pi st fun b st => cm_pi st fun a st => if b = 0 then none else cm_go (pc + 1) ls (.int (a / b) :: st) σ
    | .irem => cm_pi st fun b st => cm_pi st fun a st => if b = 0 then none else cm_go (pc + 1) ls (.int (a - a / b * b) :: st) σ
    | .iand => cm_pi st fun b st => cm_pi st fun a st => cm_go (pc + 1) ls (.int (a &&& b) :: st) σ
    | .ior => cm_pi st fun b st => cm_pi st fun a st => cm_go (pc + 1) ls (.int (a ||| b) :: st) σ
    | .ixor => cm_pi st fun b st => cm_pi st fun a st => cm_go (pc + 1) ls (.int (a ^^^ b) :: st) σ
    | .ishl => cm_pi st fun b st => cm_pi st fun a st => cm_go (pc + 1) ls (.int (a <<< (b &&& 31)) :: st) σ
    | .ishr => cm_pi st fun b st => cm_pi st fun a st => cm_go (pc + 1) ls (.int (a >>> (b &&& 31)) :: st) σ
    | .iushr => cm_pi st fun b st => cm_pi st fun a st => cm_go (pc + 1) ls (.int ((a.toUInt32 >>> (b.toUInt32 &&& Int32.toUInt32 31)).toInt32) :: st) σ
    | .ineg => cm_pi st fun a st => cm_go (pc + 1) ls (.int (-a) :: st) σ
    | .i2l => cm_pi st fun a st => cm_go (pc + 1) ls (.long a.toInt64 :: st) σ
    | .i2b => cm_pi st fun a st => cm_go (pc + 1) ls (.int a.toInt8.toInt32 :: st) σ
    | .i2c => cm_pi st fun a st => cm_go (pc + 1) ls (.int (a.toUInt32 % 65536).toInt32 :: st) σ
    | .ladd => cm_pl st fun b st => cm_pl st fun a st => cm_go (pc + 1) ls (.long (a + b) :: st) σ
    | .lsub => cm_pl st fun b st => cm_pl st fun a st => cm_go (pc + 1) ls (.long (a - b) :: st) σ
    | .lmul => cm_pl st fun b st => cm_pl st fun a st => cm_go (pc + 1) ls (.long (a * b) :: st) σ
    | .ldiv => cm_pl st fun b st => cm_pl st fun a st => if b = 0 then none else cm_go (pc + 1) ls (.long (a / b) :: st) σ
    | .lrem => cm_pl st fun b st => cm_pl st fun a st => if b = 0 then none else cm_go (pc + 1) ls (.long (a - a / b * b) :: st) σ
    | .land => cm_pl st fun b st => cm_pl st fun a st => cm_go (pc + 1) ls (.long (a &&& b) :: st) σ
    | .lor => cm_pl st fun b st => cm_pl st fun a st => cm_go (pc + 1) ls (.long (a ||| b) :: st) σ
    | .lxor => cm_pl st fun b st => cm_pl st fun a st => cm_go (pc + 1) ls (.long (a ^^^ b) :: st) σ
    | .lneg => cm_pl st fun a st => cm_go (pc + 1) ls (.long (-a) :: st) σ
    | .lshl => cm_pi st fun b st => cm_pl st fun a st => cm_go (pc + 1) ls (.long (a <<< (b.toInt64 &&& 63)) :: st) σ
    | .lshr => cm_pi st fun b st => cm_pl st fun a st => cm_go (pc + 1) ls (.long (a >>> (b.toInt64 &&& 63)) :: st) σ
    | .lushr => cm_pi st fun b st => cm_pl st fun a st => cm_go (pc + 1) ls (.long ((a.toUInt64 >>> (b.toInt64.toUInt64 &&& Int64.toUInt64 63)).toInt64) :: st) σ
    | .lcmp => cm_pl st fun b st => cm_pl st fun a st => cm_go (pc + 1) ls (.int (lg_cmp a b) :: st) σ
    | .l2i => cm_pl st fun a st => cm_go (pc + 1) ls (.int a.toInt32 :: st) σ
    | .pop => cm_pa st fun a st => if a.category = 1 then cm_go (pc + 1) ls st σ else none
    | .dup => cm_pa st fun a st => if a.category = 1 then cm_go (pc + 1) ls (a :: a :: st) σ else none
    | .dup_x1 => cm_pa st fun a st => cm_pa st fun b st => if a.category = 1 ∧ b.category = 1 then cm_go (pc + 1) ls (a :: b :: a :: st) σ else none
    | .dup2 => cm_pa st fun a st => if a.category = 2 then cm_go (pc + 1) ls (a :: a :: st) σ else cm_pa st fun b st => if a.category = 1 ∧ b.category = 1 then cm_go (pc + 1) ls (a :: b :: a :: b :: st) σ else none
    | .goto _ => cm_go x ls st σ
    | .ifCond c _ => cm_pi st fun a st => if cm_cmp c a 0 = true then cm_go x ls st σ else cm_go (pc + 3) ls st σ
    | .if_icmp c _ => cm_pi st fun b st => cm_pi st fun a st => if cm_cmp c a b = true then cm_go x ls st σ else cm_go (pc + 3) ls st σ
    | .ifnull _ => cm_pr st fun a st => if a = 0 then cm_go x ls st σ else cm_go (pc + 3) ls st σ
    | .ifnonnull _ => cm_pr st fun a st => if a = 0 then cm_go (pc + 3) ls st σ else cm_go x ls st σ
    | .if_acmp c _ => cm_pr st fun b st => cm_pr st fun a st => if a = b ∨ a = 0 ∨ b = 0 ∨ cm_K P ≤ a ∨ cm_K P ≤ b ∨ (a < cm_KD P ∧ b < cm_KD P) then (if (match c with | .eq => decide (a = b) | .ne => decide (¬ a = b)) = true then cm_go x ls st σ else cm_go (pc + 3) ls st σ) else none
    | .tableswitch dflt lo hi offs => cm_pi st fun a st => if a.toInt < lo ∨ hi < a.toInt then (if 0 ≤ (pc : Int) + dflt then cm_go ((pc : Int) + dflt).toNat ls st σ else none) else (match offs[(a.toInt - lo).toNat]? with
        | some off => if 0 ≤ (pc : Int) + off then cm_go ((pc : Int) + off).toNat ls st σ else none
        | none => none)
    | .lookupswitch dflt ps => cm_pi st fun a st => if (ps.toList.zip (ps.toList.drop 1)).all (fun (u, w) => u.1 < w.1) = true ∧ 0 ≤ (pc : Int) + Op.lookupswitch.offset ps.toList dflt a.toInt then cm_go ((pc : Int) + Op.lookupswitch.offset ps.toList dflt a.toInt).toNat ls st σ else none
    | .getfield _ => cm_pr st fun a st => if cm_tg σ a = x ∧ x ≠ 0 then (match z with
        | 1 => cm_go (pc + 3) ls (.long (cm_L σ a y) :: st) σ
        | 2 => cm_go (pc + 3) ls (.ref (cm_R σ a y) :: st) σ
        | _ => cm_go (pc + 3) ls (.int (cm_I σ a y) :: st) σ) else none
    | .putfield _ => (match z with
        | 1 => cm_pl st fun w st => cm_pr st fun a st => if cm_tg σ a = x ∧ x ≠ 0 ∧ cm_K P ≤ a then cm_go (pc + 3) ls st (cm_pL σ a y w) else none
        | 2 => cm_pr st fun w st => cm_pr st fun a st => if cm_tg σ a = x ∧ x ≠ 0 ∧ cm_K P ≤ a then cm_go (pc + 3) ls st (cm_pR σ a y w) else none
        | _ => cm_pi st fun w st => cm_pr st fun a st => if cm_tg σ a = x ∧ x ≠ 0 ∧ cm_K P ≤ a ∧ cm_fit z w = true then cm_go (pc + 3) ls st (cm_pI σ a y w) else none)
    | .new _ => (match z with
        | 0 => cm_go (pc + 3) ls (.ref (cm_nx σ) :: st) (cm_al σ x y)
        | _ => if d < 6 then none else if cm_wd st ≤ 8 then cm_go (pc + 7) ls (.ref (cm_nx σ) :: st) (cm_al σ x y) else none)
    | .newarray _ => cm_pi st fun n st => if 0 ≤ n.toInt ∧ n.toInt ≤ 60000000 then cm_go (pc + 2) ls (.ref (cm_nx σ) :: st) (cm_al σ x (cm_ix n)) else none
    | .anewarray _ => cm_pi st fun n st => if 0 ≤ n.toInt ∧ n.toInt ≤ 60000000 then cm_go (pc + 3) ls (.ref (cm_nx σ) :: st) (cm_al σ x (cm_ix n)) else none
    | .arraylength => cm_pr st fun a st => if 100 < cm_tg σ a then cm_go (pc + 1) ls (.int (Int32.ofNat (cm_ln σ a)) :: st) σ else none
    | .iaload => cm_pi st fun j st => cm_pr st fun a st => if cm_tg σ a = 101 ∧ cm_in j (cm_ln σ a) = true then cm_go (pc + 1) ls (.int (cm_I σ a (cm_ix j)) :: st) σ else none
    | .laload => cm_pi st fun j st => cm_pr st fun a st => if cm_tg σ a = 102 ∧ cm_in j (cm_ln σ a) = true then cm_go (pc + 1) ls (.long (cm_L σ a (cm_ix j)) :: st) σ else none
    | .baload => cm_pi st fun j st => cm_pr st fun a st => if (cm_tg σ a = 103 ∨ cm_tg σ a = 104) ∧ cm_in j (cm_ln σ a) = true then cm_go (pc + 1) ls (.int (cm_I σ a (cm_ix j)) :: st) σ else none
    | .aaload => cm_pi st fun j st => cm_pr st fun a st => if 104 < cm_tg σ a ∧ cm_in j (cm_ln σ a) = true then cm_go (pc + 1) ls (.ref (cm_R σ a (cm_ix j)) :: st) σ else none
    | .iastore => cm_pi st fun w st => cm_pi st fun j st => cm_pr st fun a st => if cm_tg σ a = 101 ∧ cm_in j (cm_ln σ a) = true ∧ cm_K P ≤ a then cm_go (pc + 1) ls st (cm_pI σ a (cm_ix j) w) else none
    | .lastore => cm_pl st fun w st => cm_pi st fun j st => cm_pr st fun a st => if cm_tg σ a = 102 ∧ cm_in j (cm_ln σ a) = true ∧ cm_K P ≤ a then cm_go (pc + 1) ls st (cm_pL σ a (cm_ix j) w) else none
    | .bastore => cm_pi st fun w st => cm_pi st fun j st => cm_pr st fun a st => if (cm_tg σ a = 103 ∨ cm_tg σ a = 104 ∧ (w = 0 ∨ w = 1)) ∧ cm_in j (cm_ln σ a) = true ∧ cm_K P ≤ a then cm_go (pc + 1) ls st (cm_pI σ a (cm_ix j) (if cm_tg σ a = 103 then w.toInt8.toInt32 else w)) else none
    | .aastore => cm_pr st fun w st => cm_pi st fun j st => cm_pr st fun a st => if 104 < cm_tg σ a ∧ cm_in j (cm_ln σ a) = true ∧ cm_K P ≤ a ∧ (w = 0 ∨ cm_asg P (cm_tg σ a) (cm_tg σ w) = true) then cm_go (pc + 1) ls st (cm_pR σ a (cm_ix j) w) else none
    | .checkcast _ => cm_pr st fun a st => if a = 0 ∨ cm_cast P x (cm_tg σ a) = some true ∨ ((100 < cm_tg σ a ∧ cm_tg σ a < 105) ∧ cm_K P ≤ a ∧ cm_cast P x (cm_tg σ a + 100) = some true) then cm_go (pc + 3) ls (.ref a :: st) σ else none
    | .instanceof _ => cm_pr st fun a st => if a = 0 then cm_go (pc + 3) ls (.int 0 :: st) σ else (match cm_cast P x (cm_tg σ a) with
        | some true => cm_go (pc + 3) ls (.int 1 :: st) σ
        | some false => cm_go (pc + 3) ls (.int 0 :: st) σ
        | none => none)
    | .invokestatic _ => if d = 0 then none else (match z with
        | 0 => cm_args y st [] fun as st => if cm_wd st ≤ 8 then cm_bk P m pc 3 (cm_rk P x) ls st (calls x as σ) else none
        | _ => cm_pi st fun n st => cm_pi st fun dp st => cm_pr st fun b st => cm_pi st fun sp st => cm_pr st fun a st => if cm_wd st ≤ 8 then cm_copy P σ a b sp dp n fun σ => cm_go (pc + 3) ls st σ else none)
    | .invokespecial _ => if d = 0 then none else (match z with
        | 0 => cm_args y st [] fun as st => (match as with
            | .ref a :: _ => if cm_tg σ a ≠ 0 ∧ cm_tg σ a < 60 ∧ cm_wd st ≤ 8 then cm_bk P m pc 3 (cm_rk P x) ls st (calls x as σ) else none
            | _ => none)
        | _ => cm_pr st fun a st => if cm_tg σ a ≠ 0 ∧ cm_wd st ≤ 8 then cm_go (pc + 3) ls st σ else none)
    | .invokevirtual _ => if d = 0 then none else (match z with
        | 0 => cm_args y st [] fun as st => (match as with
            | .ref a :: _ => (match cm_disp P x (cm_tg σ a) with
                | some mm => if cm_wd st ≤ 8 then cm_bk P m pc 3 (cm_rk P mm) ls st (calls mm as σ) else none
                | none => none)
            | _ => none)
        | 2 => cm_pr st fun a st => if cm_wd st ≤ 8 ∧ cm_tg σ a = 105 then cm_go (pc + 3) ls (v :: st) σ else none
        | _ => cm_pr st fun a st => if cm_wd st ≤ 8 ∧ cm_tg σ a = x ∧ 100 < x ∧ (cm_K P ≤ a ∨ 104 < x) ∧ cm_ln σ a ≤ 60000000 then cm_go (pc + 3) ls (.ref (cm_nx σ) :: st) (cm_cl σ x a) else none)
    | .invokeinterface _ _ => if d = 0 then none else cm_args y st [] fun as st => (match as with
            | .ref a :: _ => (match cm_disp P x (cm_tg σ a) with
                | some mm => if cm_wd st ≤ 8 then cm_bk P m pc 5 (cm_rk P mm) ls st (calls mm as σ) else none
                | none => none)
            | _ => none)
    | .athrow => cm_pr st fun a _ => if cm_tg σ a = x ∧ x ≠ 0 ∧ cm_K P ≤ a then (match cm_hd P m pc with
        | some (h + 1) => cm_go (h + 1) ls [.ref a] σ
        | some 0 => none
        | none => cm_end true (.ref a) σ) else none
    | .ireturn => cm_pi st fun a st => if cm_fit z a = true ∧ st = [] then cm_end false (.int a) σ else none
    | .lreturn => cm_pl st fun a st => if st = [] then cm_end false (.long a) σ else none
    | .areturn => cm_pr st fun a st => if st = [] then cm_end false (.ref a) σ else none
    | .return_ => if st = [] then cm_end false (.int 0) σ else none
    | _ => none
/-- the instruction at pc -/
def cm_at (P : cm_P) (m pc : Nat) : Option cm_E := ((cm_code P m).find? (fun q => q.1 == pc)).map (fun q => q.2)
noncomputable def cm_one (P : cm_P) (d : Nat) (calls : Nat → List Value → cm_S → Option cm_O) (m : Nat) (f : cm_F) : cm_X := match cm_at P m f.1 with
  | some e => cm_step P d calls m f.1 e f.2.1 f.2.2.1 f.2.2.2
  | none => none
noncomputable def cm_it (P : cm_P) (d : Nat) (calls : Nat → List Value → cm_S → Option cm_O) (m : Nat) : Nat → cm_F → Option cm_O
  | 0, _ => none
  | n + 1, f => match cm_one P d calls m f with
    | none => none
    | some (.inl g) => cm_it P d calls m n g
    | some (.inr r) => some r
noncomputable def cm_run (P : cm_P) (d : Nat) (calls : Nat → List Value → cm_S → Option cm_O) (m : Nat) (f : cm_F) : Option cm_O :=
  haveI := Classical.propDecidable (∃ n r, cm_it P d calls m n f = some r)
  if h : ∃ n r, cm_it P d calls m n f = some r then some h.choose_spec.choose else none
def cm_okv (v : Value) : Bool := match v with
  | .int _ => true
  | .long _ => true
  | .ref _ => true
  | _ => false
/-- a call of method m: d frames are left for it -/
noncomputable def cm_call (P : cm_P) : Nat → Nat → List Value → cm_S → Option cm_O
  | 0, _, _, _ => none
  | d + 1, m, args, σ => if args.all cm_okv = true ∧ (cm_ent args).length ≤ cm_nl P m then cm_run P d (cm_call P d) m (0, cm_el (cm_nl P m) args, [], σ) else none
theorem cm_it_mono {P : cm_P} {d : Nat} {calls : Nat → List Value → cm_S → Option cm_O} {m : Nat} : ∀ (n : Nat) (f : cm_F) (r : cm_O), cm_it P d calls m n f = some r → ∀ k, n ≤ k → cm_it P d calls m k f = some r := by
  intro n
  induction n with
  | zero => intro f r h; cases h
  | succ n ih =>
    intro f r h k hk
    obtain ⟨k, rfl⟩ : ∃ j, k = j + 1 := ⟨k - 1, by omega⟩
    unfold cm_it at h ⊢
    split at h
    · cases h
    · rename_i g hg
      exact ih g r h k (by omega)
    · exact h
theorem cm_run_of {P : cm_P} {d : Nat} {calls : Nat → List Value → cm_S → Option cm_O} {m : Nat} {f : cm_F} {n : Nat} {r : cm_O} (h : cm_it P d calls m n f = some r) : cm_run P d calls m f = some r := by
  have hex : ∃ n r, cm_it P d calls m n f = some r := ⟨n, r, h⟩
  unfold cm_run
  rw [dif_pos hex]
  have h1 := cm_it_mono _ _ _ h (max n hex.choose) (Nat.le_max_left _ _)
  have h2 := cm_it_mono _ _ _ hex.choose_spec.choose_spec (max n hex.choose) (Nat.le_max_right _ _)
  exact congrArg some (Option.some.inj (h2.symm.trans h1))
theorem cm_run_spec {P : cm_P} {d : Nat} {calls : Nat → List Value → cm_S → Option cm_O} {m : Nat} {f : cm_F} {r : cm_O} (h : cm_run P d calls m f = some r) : ∃ n, cm_it P d calls m n f = some r := by
  unfold cm_run at h
  split at h
  · rename_i hex
    refine ⟨hex.choose, ?_⟩
    rw [← h]
    exact hex.choose_spec.choose_spec
  · cases h
theorem cm_run_eq (P : cm_P) (d : Nat) (calls : Nat → List Value → cm_S → Option cm_O) (m : Nat) (f : cm_F) : cm_run P d calls m f = (match cm_one P d calls m f with
    | none => none
    | some (.inl g) => cm_run P d calls m g
    | some (.inr r) => some r) := by
  cases ho : cm_one P d calls m f with
  | none =>
    show _ = none
    cases hr : cm_run P d calls m f with
    | none => rfl
    | some r =>
      obtain ⟨n, hn⟩ := cm_run_spec hr
      cases n with
      | zero => cases hn
      | succ n => simp [cm_it, ho] at hn
  | some s =>
    cases s with
    | inl g =>
      show _ = cm_run P d calls m g
      cases hr : cm_run P d calls m g with
      | some r =>
        obtain ⟨n, hn⟩ := cm_run_spec hr
        exact cm_run_of (n := n + 1) (by simp [cm_it, ho, hn])
      | none =>
        cases hr2 : cm_run P d calls m f with
        | none => rfl
        | some r =>
          obtain ⟨n, hn⟩ := cm_run_spec hr2
          cases n with
          | zero => cases hn
          | succ n =>
            simp [cm_it, ho] at hn
            rw [cm_run_of hn] at hr
            cases hr
    | inr r =>
      show _ = some r
      exact cm_run_of (n := 1) (by simp [cm_it, ho])
