/-! SOUNDNESS: an exception object with a field of its own, its constructor a nest mate's (after vx_ctorMade0, vx_make0 of part 02) -/
/-- what the making asks of the tables, but for the link and the class's size -/
def sx_at (X : String) (names : List String) : List Cond :=
  Bundle.throwableAtoms ++ Bundle.chain0Atoms X names ++
  [.castable X X, .selects X Bundle.tFill0 Bundle.tFill0, .selects X Bundle.tFill Bundle.tFill,
   .lays X Bundle.tN "cause" "Ljava/lang/Throwable;", .lays X Bundle.tN "stackTrace" Bundle.steD, .lays X Bundle.tN "suppressedExceptions" Bundle.listD, .lays X Bundle.tN "detailMessage" "Ljava/lang/String;",
   .isRef (.static Bundle.tN "UNASSIGNED_STACK" Bundle.steD), .isRef (.static Bundle.tN "SUPPRESSED_SENTINEL" Bundle.listD),
   .fieldLink Bundle.tN 198 Bundle.tN "backtrace" "Ljava/lang/Object;", .lays Bundle.tN Bundle.tN "backtrace" "Ljava/lang/Object;", .lays X Bundle.tN "backtrace" "Ljava/lang/Object;", .lays X X "position" "I"]
section
variable {p : Program} {l : Launch} {e : Env} {R : Room} {s : State} {m₀ : MethodId} {args : Array Value} {below : List Frame} {meth : Method} {c : Code} {W : State} {locs : List Loc} {cells slots : Nat}
set_option maxHeartbeats 1000000 in
theorem sx_ctor (X : Stand p l e R s m₀ args below meth c W locs cells slots) (hexec : p.tables.exec = Jvm.exec) (htr : e.platform.stackTraces = false) {own cls : String} {names : List String} {ic nS : Nat} {host : String} {cq iq : Nat} {kq : Class} {fq : Field}
    (hown : s.vm.findClass own = some m₀.cls) (hcls : Bundle.fit cls = true) (hnames : ∀ n ∈ names, Bundle.fit n = true)
    (h : ∀ a ∈ sx_at cls names, a.before args s = true) (hins : (Cond.instantiable cls nS).before args s = true) (hnest : (Cond.methodLinkNest own ic (Bundle.init0 cls) host).before args s = true) (hpos : s.fieldFound? cls "position" "I" = some (cq, kq, iq, fq))
    (hlocs : ∀ x ∈ locs, ∀ cell, s.heap[x.base]? = some cell → cell.vm.isStatics = false)
    {a : Addr} {cX : ClassId} {kX : Class} (hfoundX : s.vm.findClass cls = some cX) (hkX : s.vm.classes[cX]? = some kX) (hcell : W.heap[a]? = some (freshCell cX kX)) (hnew : s.heap.size ≤ a)
    {g : JFrame} (hg : g.method = m₀) (hsize : g.locals.size = c.maxLocals) {rest : List Value} (hstack : g.stack = .ref a :: .ref a :: rest)
    (hd6 : decode c.code g.pc = .ok (.invokespecial ic, 3))
    (hRframes : names.length + 3 < R.frames) (hRlocals : 2 * g.monitorRoom + ((Value.ref a :: rest).map fun v => v.category).sum + (13 * (names.length + 1) + 41) ≤ R.locals) :
    ∃ (V : State) (ce : Cell) (L : List Loc), Stand p l e R s m₀ args below meth c (V.setCell a ce) (locs ++ L) cells slots ∧ (∀ y ∈ L, y.base = a) ∧ a < V.heap.size ∧ ce.cls = cX ∧ ce.vm = .none ∧ ce.slots[fq.slot]? = some (.int 0) ∧ V.heap.size = W.heap.size ∧
      ∀ target, Steps p.tables e below ((V.setCell a ce).setTop { g with stack := .ref a :: rest, pc := g.pc + 3 }) target → Steps p.tables e below (W.setTop g) target := by
  have howns : e.platform.frameOwnsMonitors = true := by rw [X.admits.platform]
  have hfin : e.platform.finalization = false := by rw [X.admits.platform]
  have hpl : e.platform.magicAccessors = ({} : Platform).magicAccessors := by rw [X.admits.platform]
  have a' : ∀ x, x ∈ sx_at cls names → x.holds args s none s [] = true := fun x hx => h x hx
  obtain ⟨T, Z, L, LZ, Y⟩ := ThrowableC.of_atoms (args := args) howns hfin hpl (fun x hx => h x (by simp [sx_at, hx]))
  obtain ⟨P1, Ps, hlen, L1, hL, hP1m, hlink1, hlink⟩ := Bundle.chain0 (args := args) hpl Y.init0 names cls hcls hnames (fun x hx => h x (by simp [sx_at, hx]))
  have hfound : s.vm.findClass cls = some P1.m.cls := findClass_of_methodNamed hP1m
  cases Option.some.inj (hfoundX.symm.trans hfound)
  obtain ⟨c1, kX', hc1, hk, hord, -, -, hn6⟩ := Cond.instantiable_spec hins
  cases Option.some.inj (hc1.symm.trans hfound)
  cases Option.some.inj (hkX.symm.trans hk)
  have hsel0 : selectMethod e.platform s.vm P1.m.cls T.fill0 = .method T.fill0 := by
    obtain ⟨c2, r2, m2, q1, q2, q3, q4, -⟩ := Cond.selects_spec (a' (.selects cls Bundle.tFill0 Bundle.tFill0) (by simp [sx_at]))
    cases Option.some.inj (q1.symm.trans hfound)
    cases Option.some.inj (q2.symm.trans (State.methodFound?_of_named Y.fill0 (by decide)))
    cases Option.some.inj (q3.symm.trans Y.fill0)
    rw [Launch.admits_selectMethod X.admits]; exact q4
  have hselF : selectMethod e.platform s.vm P1.m.cls T.fill = .method T.fill := by
    obtain ⟨c2, r2, m2, q1, q2, q3, q4, -⟩ := Cond.selects_spec (a' (.selects cls Bundle.tFill Bundle.tFill) (by simp [sx_at]))
    cases Option.some.inj (q1.symm.trans hfound)
    cases Option.some.inj (q2.symm.trans (State.methodFound?_of_named Y.fill (by decide)))
    cases Option.some.inj (q3.symm.trans Y.fill)
    rw [Launch.admits_selectMethod X.admits]; exact q4
  obtain ⟨cellS0, hcS0, hiss⟩ := Y.statics
  obtain ⟨u0, hu0⟩ := Cond.staticRefV Y.unassigned L.unassignedStatic L.statics hcS0 hiss (a' (.isRef (.static Bundle.tN "UNASSIGNED_STACK" Bundle.steD)) (by simp [sx_at]))
  obtain ⟨sen, hsen⟩ := Cond.staticRefV Y.sentinel L.sentinelStatic L.statics hcS0 hiss (a' (.isRef (.static Bundle.tN "SUPPRESSED_SENTINEL" Bundle.listD)) (by simp [sx_at]))
  obtain ⟨ci198, i198, fB, hk198, hg198, ha198, hsB, -, hnB, htB, hffB⟩ := Cond.ownField (t := .object "java/lang/Object") Y.found L.cls (by decide +kernel) (a' (.fieldLink Bundle.tN 198 Bundle.tN "backtrace" "Ljava/lang/Object;") (by simp [sx_at])) (a' (.lays Bundle.tN Bundle.tN "backtrace" "Ljava/lang/Object;") (by simp [sx_at])) e.platform hpl
  obtain ⟨cellS, hcS', heS, -, hkeep⟩ := X.same.2.2.2.2.2 T.aS cellS0 hcS0
  have hcellS : W.heap[T.aS]? = some cellS := hcS'
  have hout' : ∀ i, (⟨T.aS, i⟩ : Loc) ∉ locs := fun i hmem => by
    have := hlocs _ hmem cellS0 hcS0
    rw [hiss] at this; cases this
  have hknownS : cellS.vm ≠ .unknown := by
    rw [heS]; intro hu
    rw [show cellS0.vm = .unknown from hu] at hiss
    cases hiss
  have hneS : T.aS ≠ a := Nat.ne_of_lt (Nat.lt_of_lt_of_le (Array.getElem?_eq_some_iff.mp hcS0).1 hnew)
  obtain ⟨iM, hffM⟩ := Y.msg
  obtain ⟨tyC, dC, hdC, hdnC⟩ := Cond.laysAt hfound hk Y.cause (a' (.lays cls Bundle.tN "cause" "Ljava/lang/Throwable;") (by simp [sx_at]))
  obtain ⟨tyS, dS, hdS, hdnS⟩ := Cond.laysAt hfound hk Y.stack (a' (.lays cls Bundle.tN "stackTrace" Bundle.steD) (by simp [sx_at]))
  obtain ⟨tyP, dP, hdP, hdnP⟩ := Cond.laysAt hfound hk Y.supp (a' (.lays cls Bundle.tN "suppressedExceptions" Bundle.listD) (by simp [sx_at]))
  obtain ⟨tyM, dM, hdM, hdnM⟩ := Cond.laysAt hfound hk hffM (a' (.lays cls Bundle.tN "detailMessage" "Ljava/lang/String;") (by simp [sx_at]))
  obtain ⟨tyB, dB, hdB, hdnB⟩ := Cond.laysAt hfound hk hffB (a' (.lays cls Bundle.tN "backtrace" "Ljava/lang/Object;") (by simp [sx_at]))
  have bC := Cond.laysApart hdB hdC hdnB hdnC (by rw [hnB, Y.causeName]; decide)
  have bS := Cond.laysApart hdB hdS hdnB hdnS (by rw [hnB, Y.stackName]; decide)
  have bP := Cond.laysApart hdB hdP hdnB hdnP (by rw [hnB, Y.suppName]; decide)
  have hskip : SkipFacts T e.platform s (fun u => u) u0 ((preparedCellV T.toThrowableT (freshCell P1.m.cls kX) a u0 sen).withEntry W.cur) :=
    ⟨{ ci198 := ci198, i198 := i198, fBack := fB }, ⟨hk198, hg198, ha198, hsB⟩, by
      have := fresh_default (c := P1.m.cls) tyB
      rw [htB] at this
      simpa [preparedCellV, Cell.setSlot, Cell.withEntry, Array.getElem?_setIfInBounds, bC, bS, bP, bC.symm, bS.symm, bP.symm, defaultValue] using this, fun _ _ => rfl⟩
  obtain ⟨tm, methC, cdC, kC, vm₁, hnC, -, -, -, -, -, -, -, hW₁, st1⟩ := Steps.initColdArgsNest (tb := p.tables) (e := e) (below := below) (s := s) (U := W) X.here hexec X.warmed hpl hown (t := Bundle.init0 cls) rfl (Bundle.fit_spec hcls).2
    hnest (h (.instanceMethod (Bundle.init0 cls)) (by cases names <;> simp [sx_at, Bundle.chain0Atoms, Bundle.passAtoms])) (bytes := Bundle.five) (maxL := 1) (h (.code (Bundle.init0 cls) Bundle.five 1 none) (by cases names <;> simp [sx_at, Bundle.chain0Atoms, Bundle.passAtoms]))
    (f := g) hg (a := a) (argsL := []) (rest := .ref a :: rest) (fun sig hs => by
      have h9 : parseMethodDescriptor "()V" = some { parameters := [], returnType := none } := by decide +kernel
      rw [show (Bundle.init0 cls).desc = "()V" from rfl, h9] at hs
      rw [← Option.some.inj hs]; rfl) hstack hd6
  cases Option.some.inj (hnC.symm.trans hP1m)
  have X₁ := X.noted hW₁
  obtain ⟨vm₂, X₂, st2⟩ := X₁.ctorPlainOffV hexec (g := { g with stack := .ref a :: rest }) hg hsize T L Z LZ (P1 :: Ps)
    (fun P hP => by rcases List.mem_cons.mp hP with rfl | hP; exact L1; exact hL P hP) ⟨hlink1, hlink⟩ (u0 := u0) (sen := sen) (self := a) (cell := freshCell P1.m.cls kX) (cellS := cellS)
    hcell (fun _ => by simp) (by simp) rfl rfl hsel0 hselF hcellS hneS hknownS (by rw [hkeep _ (hout' _)]; exact hu0) (by rw [hkeep _ (hout' _)]; exact hsen)
    (Takes.of_laid hk hord tyC (by rw [Y.causeType]; rfl)) (Takes.of_laid hk hord tyS (by rw [Y.stackType]; exact fits_refV_array _ u0)) (Takes.of_laid hk hord tyP (by rw [Y.suppType]; exact fits_refV_object _ sen)) Y.objLocals hskip htr [] hd6
    (by simp only [List.length_cons, hlen]; omega) (by simp only [List.length_cons, hlen]; exact hRlocals)
  have hlt : a < ((W.setVm vm₁).setVm vm₂).heap.size := (Array.getElem?_eq_some_iff.mp hcell).1
  obtain ⟨tyQ, dQ, hdQ, hdnQ⟩ := Cond.laysAt hfound hk hpos (a' (.lays cls cls "position" "I") (by simp [sx_at]))
  obtain ⟨hnQ, htQ⟩ := State.fieldFound?_type (t := .int) hpos (by decide +kernel)
  have qC := Cond.laysApart hdQ hdC hdnQ hdnC (by rw [hnQ, Y.causeName]; decide)
  have qS := Cond.laysApart hdQ hdS hdnQ hdnS (by rw [hnQ, Y.stackName]; decide)
  have qP := Cond.laysApart hdQ hdP hdnQ hdnP (by rw [hnQ, Y.suppName]; decide)
  refine ⟨(W.setVm vm₁).setVm vm₂, _, _, X₂, fun y hy => ?_, hlt, rfl, rfl, ?_, rfl, fun target hwalk => st1 _ (fun acts => ?_)⟩
  · simp only [List.mem_cons, List.not_mem_nil, or_false] at hy
    rcases hy with rfl | rfl | rfl | rfl <;> rfl
  · have := fresh_default (c := P1.m.cls) tyQ
    rw [htQ] at this
    simpa [preparedCellV, Cell.setSlot, Array.getElem?_setIfInBounds, qC, qS, qP, qC.symm, qS.symm, qP.symm, defaultValue] using this
  · rw [doInvoke_state]
    exact st2 _ hwalk
end
section
variable {p : Program} {l : Launch} {e : Env} {R : Room} {s : State} {m : MethodId} {args : Array Value} {below : List Frame} {meth : Method} {c : Code} {H : Heap} {locs : List Loc} {cells slots : Nat} {Q : State → Prop} {ls : Array Slot} {rest : List Value}
theorem sx_make {cc : ByteArray} {pc : Nat} (hexec : p.tables.exec = Jvm.exec) (hb : c.code = cc) (hl : l.stackTraces = false) {own cls : String} {names : List String} {ik ic nS ps : Nat} {host : String} {A : Nat → Prop}
    (hown : s.vm.findClass own = some m.cls) (hcls : Bundle.fit cls = true) (hnames : ∀ n ∈ names, Bundle.fit n = true)
    (hat0 : ∀ s' : State, s'.vm = s.vm → ∀ w ∈ Cond.classLink own ik cls :: Cond.initialized cls :: Cond.instantiable cls nS :: Cond.methodLinkNest own ic (Bundle.init0 cls) host :: (sx_at cls names).filter vx_no, w.before args s' = true)
    (hU : vx_Zq Bundle.tN "UNASSIGNED_STACK" Bundle.steD A s s.heap) (hN : vx_Zq Bundle.tN "SUPPRESSED_SENTINEL" Bundle.listD A s s.heap) (hS : va_S A s.heap H locs) (hsize : ls.size = c.maxLocals)
    (d0 : decode cc pc = .ok (.new ik, 3)) (d3 : decode cc (pc + 3) = .ok (.dup, 1)) (d4 : decode cc (pc + 4) = .ok (.invokespecial ic, 3)) (hps : cm_SI s cls "position" "I" ps)
    (hRframes : names.length + 3 < R.frames) (hRlocals : (rest.map fun v => v.category).sum + (13 * (names.length + 1) + 42) ≤ R.locals) (hRcells : cells + 1 ≤ R.cells) (hRslots : slots + nS ≤ R.slots)
    (kk : ∀ (H1 : Heap) (ce : Cell), H1.size = H.size + 1 → (∀ q, q < H.size → H1[q]? = H[q]?) → H1[H.size]? = some ce → s.vm.findClass cls = some ce.cls → ce.vm = .none → ce.slots[ps]? = some (.int 0) → W p l e R s m args below meth c H1 locs (cells + 1) (slots + nS) Q (F0 m (pc + 7) ls (.ref H.size :: rest))) :
    W p l e R s m args below meth c H locs cells slots Q (F0 m pc ls rest) := by
  intro T hT X
  subst hT
  have htr : e.platform.stackTraces = false := (show e.platform.stackTraces = l.stackTraces by rw [X.admits.platform]).trans hl
  have Y := vx_rebase X (R' := { frames := R.frames, locals := R.locals, cells := 1, slots := nS }) (Nat.le_refl _) (Nat.le_refl _) hRcells hRslots
  obtain ⟨s', hA'⟩ : ∃ z, z = (T.setVm s.vm).setFrames (.invoking m args :: below) := ⟨_, rfl⟩
  rw [← hA'] at Y
  have hvm : s'.vm = s.vm := by rw [hA']; rfl
  have hhp : s'.heap = T.heap := by rw [hA']; rfl
  have hW0 : s.WarmedH s'.vm := by rw [hvm]; exact State.WarmedH.refl s
  have hat1 := hat0 s' hvm
  have hk' : (Cond.classLink own ik cls).before args s' = true := hat1 _ List.mem_cons_self
  have hini' : (Cond.initialized cls).before args s' = true := hat1 _ (List.mem_cons_of_mem _ List.mem_cons_self)
  have hins : (Cond.instantiable cls nS).before args s' = true := hat1 _ (List.mem_cons_of_mem _ (List.mem_cons_of_mem _ List.mem_cons_self))
  have hnest : (Cond.methodLinkNest own ic (Bundle.init0 cls) host).before args s' = true := hat1 _ (List.mem_cons_of_mem _ (List.mem_cons_of_mem _ (List.mem_cons_of_mem _ List.mem_cons_self)))
  have hat' : ∀ w ∈ (sx_at cls names).filter vx_no, w.before args s' = true := fun w hw => hat1 w (List.mem_cons_of_mem _ (List.mem_cons_of_mem _ (List.mem_cons_of_mem _ (List.mem_cons_of_mem _ hw))))
  have hU' : vx_Zq Bundle.tN "UNASSIGNED_STACK" Bundle.steD A s' s'.heap := by rw [hhp]; exact vx_Zq.moved hW0.alike (hU.kept hS.2.1)
  have hN' : vx_Zq Bundle.tN "SUPPRESSED_SENTINEL" Bundle.listD A s' s'.heap := by rw [hhp]; exact vx_Zq.moved hW0.alike (hN.kept hS.2.1)
  have h : ∀ w ∈ sx_at cls names, w.before args s' = true := vx_own hat' (vx_isRefq hU'.1) (vx_isRefq hN'.1) hU'.2.word hN'.2.word
  have hown' : s'.vm.findClass own = some m.cls := by rw [hvm]; exact hown
  obtain ⟨cq, kq, iq, fq, hfq, hfs, -⟩ : cm_SI s' cls "position" "I" ps := hps.moved hW0.alike
  obtain ⟨vm₁, cX, kX, hfX, hkX, -, -, X₁, st1⟩ := Y.newCold hexec (own := own) (C := cls) (index := ik) (n := nS) hown' hk' hins hini'
    (g := F0 m pc ls rest) rfl (by rw [hb]; exact d0) (Nat.le_refl _) (by show 0 + nS ≤ nS; omega)
  generalize hT1 : (T.setVm vm₁).pushCell { cls := cX, slots := kX.instanceTypes.map defaultValue, vm := .none } = T1 at X₁ st1
  have hcat : (Value.ref T.heap.size).category = 1 := rfl
  have hcellA : T1.heap[T.heap.size]? = some (freshCell cX kX) := by rw [← hT1]; exact State.heap_pushCell_size _ _
  have hsz1 : T1.heap.size = T.heap.size + 1 := by rw [← hT1]; simp [State.pushCell, State.setVm]
  have d3' : decode c.code (pc + 3) = .ok (.dup, 1) := by rw [hb]; exact d3
  obtain ⟨V, ce, L, Z, hL, hlt, hcl9, hvm9, hq9, hsz9, st⟩ := sx_ctor X₁ hexec htr (own := own) (cls := cls) (names := names) (ic := ic) hown' hcls hnames h hins hnest hfq (fun x hx => nomatch hx) hfX hkX hcellA (by rw [hhp]; exact Nat.le_refl _)
    (g := { method := m, pc := pc + 4, locals := ls, stack := .ref T.heap.size :: .ref T.heap.size :: rest, locked := none }) rfl hsize (rest := rest) rfl
    (by rw [hb]; exact d4) hRframes (by simp only [List.map_cons, List.sum_cons, hcat]; omega)
  have Z0 := Stand.forget (locs := []) Z (fun y hy => by rw [hL y hy, hhp]; exact Nat.le_refl _)
  obtain ⟨f1, f2⟩ := vx_frame Z0.same
  rw [hhp] at f1 f2
  have hh : (V.setCell T.heap.size ce).heap[T.heap.size]? = some ce := heapAt_setCell_self (s := V) ce hlt
  have hszV : (V.setCell T.heap.size ce).heap.size = T.heap.size + 1 := by
    rw [show (V.setCell T.heap.size ce).heap.size = V.heap.size by simp [State.setCell], hsz9, hsz1]
  have hfc : s.vm.findClass cls = some ce.cls := by rw [hcl9, ← hvm]; exact hfX
  rw [hfs] at hq9
  subst hA'
  have X5 := vx_back9 X Y Z0
  have X6 : Stand p l e R s m args below meth c (V.setCell T.heap.size ce) locs (cells + 1) (slots + nS) := { X5 with same := X5.same.mono (by omega) (by omega) }
  obtain ⟨t, a1, b1⟩ := kk (V.setCell T.heap.size ce).heap ce hszV (fun q hq => f2 q hq (fun z hz => nomatch hz)) hh hfc hvm9 hq9 _ rfl X6
  refine ⟨t, st1 _ ?_, b1⟩
  show Steps p.tables e below (T1.setTop { method := m, pc := pc + 3, locals := ls, stack := .ref T.heap.size :: rest, locked := none }) _
  jvm_step X₁.here [X₁.here.top, hexec, d3', Value.category]
  exact st _ a1
end
theorem cm_mv_ot {w : Cond} (h : cm_mv w = true) : w.onTables = true := by
  cases w <;> simp [cm_mv] at h <;> rfl
/-- the exception's class, and what the tables say of its making -/
def cm_xok (G : cm_G) (own : String) (n x y : Nat) : Prop := (∃ r : vw_C, (cg_cl G)[x]? = some r ∧ r.1 = "SpreadsheetEngine$SyntaxError" ∧ r.2.2 = 1 ∧ (r.2.1 0).1 = "SpreadsheetEngine$SyntaxError" ∧ (r.2.1 0).2.1 = "position" ∧ (r.2.1 0).2.2.1 = "I") ∧ x ≠ 0 ∧ x < 60 ∧ cg_ty G x 0 = .int ∧ Cond.classLink own n "SpreadsheetEngine$SyntaxError" ∈ lw_all ∧ Cond.initialized "SpreadsheetEngine$SyntaxError" ∈ lw_all ∧ Cond.instantiable "SpreadsheetEngine$SyntaxError" y ∈ lw_all ∧ (∃ host, Cond.methodLinkNest own 15 (Bundle.init0 "SpreadsheetEngine$SyntaxError") host ∈ lw_tbl) ∧
  ∀ w ∈ (sx_at "SpreadsheetEngine$SyntaxError" ["java/lang/Exception"]).filter vx_no, w ∈ lw_all ∨ (w ∈ lw_tbl ∧ cm_mv w = true)
section
variable {p : Program} {l : Launch} {e : Env} {R : Room} {s : State} {m : MethodId} {args : Array Value} {below : List Frame} {meth : Method} {c : Code} {H : Heap} {locs : List Loc} {cells slots : Nat} {Q : State → Prop} {cc : ByteArray} {P : cm_P} {G : cm_G} {d : Nat} {calls : Nat → List Value → cm_S → Option cm_O} {mi pc pc2 nL x y z len : Nat} {v : Value} {ls : Array Slot} {L L2 st st2 : List Value} {σ σ2 : cm_S} {own : String}
theorem cm_macro (hz : z ≠ 0) {n : Nat} (h : cm_step P d calls mi pc (.new n, len, x, y, z, v) L st σ = some (.inl (pc2, L2, st2, σ2))) : 6 ≤ d ∧ cm_wd st ≤ 8 ∧ pc2 = pc + 7 ∧ L2 = L ∧ st2 = .ref (cm_nx σ) :: st ∧ σ2 = cm_al σ x y := by
  have g : (if d < 6 then none else if cm_wd st ≤ 8 then cm_go (pc + 7) L (.ref (cm_nx σ) :: st) (cm_al σ x y) else none) = some (.inl (pc2, L2, st2, σ2)) := by
    revert h
    cases z with
    | zero => exact absurd rfl hz
    | succ z => intro h; exact h
  obtain ⟨hd0, g⟩ := cm_ifn_some g
  obtain ⟨hw, g⟩ := cm_if_some g
  obtain ⟨rfl, rfl, rfl, rfl⟩ := cm_go_inj g
  exact ⟨Nat.not_lt.mp hd0, hw, rfl, rfl, rfl, rfl⟩
theorem cs_newX (hx : p.tables.exec = Jvm.exec) (hb : c.code = cc) {n : Nat} (hd : decode cc pc = .ok (.new n, 3)) (hd3 : decode cc (pc + 3) = .ok (.dup, 1)) (hd4 : decode cc (pc + 4) = .ok (.invokespecial 15, 3)) (hL : cm_LR (cg_f G) nL L ls) (hA : cm_ad P G) (hJ : cm_J P G s σ H locs) (hown : s.vm.findClass own = some m.cls) (hts : ∀ w ∈ lw_all, w.before args s = true) (hml : c.maxLocals = nL) (hR : cm_rm R d) (hC : ce_cls G s) (hT : ce_tbl s) (hTh : ce_thr G s s.heap) (hl : l.stackTraces = false) (hz : z ≠ 0) (hd6 : 6 ≤ d) (ho : cm_xok G own n x y) (hcells : cells + 1 ≤ R.cells) (hslots : slots + (cm_sz σ2 - cm_sz σ) ≤ R.slots) (h : cm_step P d calls mi pc (.new n, len, x, y, z, v) L st σ = some (.inl (pc2, L2, st2, σ2))) (k : ∀ H2 ls2, cm_J P G s σ2 H2 locs → cm_LR (cg_f G) nL L2 ls2 → W p l e R s m args below meth c H2 locs (cells + 1) (slots + (cm_sz σ2 - cm_sz σ)) Q (F0 m pc2 ls2 (st2.map (cm_tv (cg_f G))))) : W p l e R s m args below meth c H locs cells slots Q (F0 m pc ls (st.map (cm_tv (cg_f G)))) := by
  obtain ⟨-, hw, rfl, rfl, rfl, rfl⟩ := cm_macro hz h
  obtain ⟨⟨r, hc, r1, r2, r3, r4, r5⟩, hx0, h60, hty, w1, w2, w3, ⟨host, w4⟩, w5⟩ := ho
  have e9 : cm_sz (cm_al σ x y) - cm_sz σ = y := by simp [cm_al, cm_sz]
  rw [e9] at hslots k
  obtain ⟨c1, c2, -⟩ := hC x r hc
  have hps := c1 0 (by rw [r2]; exact Nat.zero_lt_one)
  rw [r3, r4, r5] at hps
  rw [r1] at c2
  have n0 : cm_nx σ ≠ 0 := by have := hA.2.2.2.1; have := hJ.1; omega
  have hnw := hJ.new hA
  refine sx_make (own := own) (cls := "SpreadsheetEngine$SyntaxError") (names := ["java/lang/Exception"]) (ic := 15) (nS := y) (host := host) (A := fun q => cg_b G ≤ q) hx hb hl hown (by decide +kernel) (by decide +kernel) ?_ hTh.1 hTh.2 hJ.2.2.2 (by rw [hml]; exact hL.2.1) hd hd3 hd4 hps (by have := hR.1; show 1 + 3 < _; omega) (by rw [cm_wd_map]; have := hR.2; show _ + (13 * (1 + 1) + 42) ≤ _; omega) hcells hslots fun H1 ce z1 o1 e1 f1 v1 q1 => ?_
  · intro s2 hvm w hw
    have hW2 : s.WarmedH s2.vm := by rw [hvm]; exact State.WarmedH.refl s
    have good : ∀ w ∈ lw_all, w.before args s2 = true := fun w hw => vx_ot_at hW2 hvm.symm (by unfold vx_ot; rw [(List.mem_filter.mp hw).2]; simp) (hts w hw)
    have tbl : ∀ w ∈ lw_tbl, cm_mv w = true → w.before args s2 = true := fun w hw hm => va_Nw.use (A := args) (cm_mv_ot hm) (cm_Nw_warm hm hW2 (hT.1 w hw hm))
    simp only [List.mem_cons] at hw
    rcases hw with rfl | rfl | rfl | rfl | hw
    · exact good _ w1
    · exact good _ w2
    · exact good _ w3
    · exact tbl _ w4 rfl
    · rcases w5 w hw with h9 | ⟨h9, h10⟩
      · exact good _ h9
      · exact tbl _ h9 h10
  · have k2 := k H1 ls (cm_J.al hA hJ hx0 z1 o1 ?_) hL
    · rw [List.map_cons, cm_tv_ref n0, hnw] at k2
      exact k2
    · have ht : cm_tg (cm_al σ x y) (cm_nx σ) = x := by simp [cm_al, cm_tg, cm_u1]
      refine ⟨ce, by rw [hnw]; exact e1, by rw [v1]; rfl, (by rw [v1]; exact fun h => by cases h), fun _ => v1, fun _ => ?_, fun q => ?_⟩
      · rw [ht]
        refine ⟨Option.some.inj (f1.symm.trans c2), r, hc, fun j hj => ?_⟩
        rw [r2] at hj
        obtain rfl : j = 0 := by omega
        rw [q1, hty]
        simp [cm_vl, cm_kd, cm_al, cm_I, cm_u1]
      · exfalso; rw [ht] at q; omega
end
