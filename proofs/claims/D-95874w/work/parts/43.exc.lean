/-! exceptions: the machine makes one; the search for a handler; calls of callees that throw -/
set_option maxRecDepth 100000
/-- the size of a text, as bytes of a String -/
theorem x_size (text : String) : (stringBytes (stringToUtf16 text)).size ≤ 4 * text.toList.length := by
  have b1 := stringBytes_size_le (stringToUtf16 text)
  have b2 := utf16_size_le text
  omega
section XM
variable {p : Program} {l : Launch} {e : Env} {R : Room} {s : State} {m : MethodId} {args : Array Value} {below : List Frame} {meth : Method} {c : Code} {T : State} {locs : List Loc} {cells slots : Nat}
/-- the state with the exception's note over the frame -/
theorem x_note (X : Stand p l e R s m args below meth c T locs cells slots) (g : JFrame) (a : Addr) : (T.setTop g).pushFrame (.throwing a) = T.setFrames (.throwing a :: .java g :: below) := by
  obtain ⟨g1, h⟩ := X.frames_eq
  rw [State.pushFrame, State.frames_setTop _ h, State.setTop_of_frames _ h, State.setFrames_setFrames]
/-- what the machine has made: an object of the class C at a -/
def x_Made (p : Program) (l : Launch) (e : Env) (R : Room) (s : State) (m : MethodId) (args : Array Value) (below : List Frame) (meth : Method) (c : Code) (T : State) (locs : List Loc) (cells slots : Nat) (g : JFrame) (C : String) (k : Nat) (note : Frame) : Prop :=
  ∃ T' : State, Stand p l e R s m args below meth c T' locs (cells + (k + 1)) (slots + 800) ∧ T'.heap.size = T.heap.size + (k + 1) ∧ (∀ q, q < T.heap.size → T'.heap[q]? = T.heap[q]?) ∧
    (∃ cell : Cell, T'.heap[T.heap.size + k]? = some cell ∧ T.vm.findClass C = some cell.cls ∧ cell.vm = .none) ∧ ∀ target, Steps p.tables e below ((T'.setTop g).pushFrame (.throwing (T.heap.size + k))) target → Steps p.tables e below ((T.setTop g).pushFrame note) target
set_option maxHeartbeats 1000000 in
/-- an exception with a text -/
theorem x_msg (X : Stand p l e R s m args below meth c T locs cells slots) (hexec : p.tables.exec = Jvm.exec) (htr : e.platform.stackTraces = false) {C : String} {names : List String} {text : String}
    (hcls : Bundle.fit C = true) (hnames : ∀ n ∈ names, Bundle.fit n = true) (hsoe : (C == "java/lang/StackOverflowError") = false) (hoom : (C == "java/lang/OutOfMemoryError") = false)
    (h : ∀ w ∈ Bundle.messageArmAtoms C names, w.before args T = true) (htext : (text == notModelled) = false) (hsz : text.toList.length ≤ 190)
    {g : JFrame} (hg : g.method = m) (hsize : g.locals.size = c.maxLocals) (hRf : names.length + 4 < R.frames) (hRl : 2 * g.monitorRoom + (g.stack.map fun v => v.category).sum + 10240 ≤ R.locals) (hsh : names.length ≤ 10) (hRc : cells + 3 ≤ R.cells) (hRs : slots + 800 ≤ R.slots) :
    x_Made p l e R s m args below meth c T locs cells slots g C 2 (.throwNew C (some text) none) := by
  have b0 := x_size text
  have howns : e.platform.frameOwnsMonitors = true := by rw [X.admits.platform]
  have hfin : e.platform.finalization = false := by rw [X.admits.platform]
  have hpl : e.platform.magicAccessors = ({} : Platform).magicAccessors := by rw [X.admits.platform]
  have w : ∀ x, x ∈ Bundle.messageArmAtoms C names → x.holds args T none T [] = true := fun x hx => h x hx
  obtain ⟨Tc, Z0, Lt, -, Y⟩ := ThrowableC.of_atoms (args := args) (s := T) howns hfin hpl (fun x hx => h x (by simp [Bundle.messageArmAtoms, hx]))
  obtain ⟨Z, M, LZ, LM, hnZ⟩ := Init0T.ofS_atoms (args := args) hpl Lt Y (fun x hx => h x (by simp [Bundle.messageArmAtoms, hx]))
  obtain ⟨P1, Ps, hlen, L1, hL, hP1, hl1, hl2⟩ := Bundle.chainS (args := args) hpl hnZ names C hcls hnames (fun x hx => h x (by simp [Bundle.messageArmAtoms, hx]))
  obtain ⟨Zs, LZs, hn4, hfv, hfc⟩ := StringT.of_atoms (args := args) (fun x hx => h x (by simp [Bundle.messageArmAtoms, hx]))
  have hfound : T.vm.findClass C = some P1.m.cls := findClass_of_methodNamed hP1
  obtain ⟨c1, kX, hc1, hk, hord, -, -, hn6⟩ := Cond.instantiable_spec (w (.instantiable C 6) (by simp [Bundle.messageArmAtoms]))
  cases hc1.symm.trans hfound
  have hinit := Cond.initialized_spec hfound hk (w (.initialized C) (by simp [Bundle.messageArmAtoms]))
  have hctor : kX.findMethod "<init>" "(Ljava/lang/String;)V" = some P1.m.idx := findMethod_of_methodNamed hP1 hk
  have sel : ∀ (x : MethodName) (r : MethodId), (x.cls ≠ "java/lang/invoke/MethodHandle" ∧ x.cls ≠ "java/lang/invoke/VarHandle") → T.methodNamed? x = some r → (Cond.selects C x x).holds args T none T [] = true → selectMethod e.platform T.vm P1.m.cls r = .method r := by
    intro x r hx hr hs
    obtain ⟨c2, r2, m2, q1, q2, q3, q4, -⟩ := Cond.selects_spec hs
    cases q1.symm.trans hfound
    cases q2.symm.trans (State.methodFound?_of_named hr hx)
    cases q3.symm.trans hr
    rw [Launch.admits_selectMethod X.admits]; exact q4
  have hsel0 := sel _ _ (by decide) Y.fill0 (w (.selects C Bundle.tFill0 Bundle.tFill0) (by simp [Bundle.messageArmAtoms]))
  have hselF := sel _ _ (by decide) Y.fill (w (.selects C Bundle.tFill Bundle.tFill) (by simp [Bundle.messageArmAtoms]))
  obtain ⟨cS, hcS, hiss⟩ := Y.statics
  obtain ⟨u0, hu0⟩ := Cond.staticRefV Y.unassigned Lt.unassignedStatic Lt.statics hcS hiss (w (.isRef (.static Bundle.tN "UNASSIGNED_STACK" Bundle.steD)) (by simp [Bundle.messageArmAtoms]))
  obtain ⟨sen, hsen⟩ := Cond.staticRefV Y.sentinel Lt.sentinelStatic Lt.statics hcS hiss (w (.isRef (.static Bundle.tN "SUPPRESSED_SENTINEL" Bundle.listD)) (by simp [Bundle.messageArmAtoms]))
  obtain ⟨ci, i1, fB, k1, k2, k3, k4, -, hnB, htB, hffB⟩ := Cond.ownField (t := .object "java/lang/Object") Y.found Lt.cls (by decide +kernel) (w (.fieldLink Bundle.tN 198 Bundle.tN "backtrace" "Ljava/lang/Object;") (by simp [Bundle.messageArmAtoms])) (w (.lays Bundle.tN Bundle.tN "backtrace" "Ljava/lang/Object;") (by simp [Bundle.messageArmAtoms])) e.platform hpl
  have hkn : cS.vm ≠ .unknown := by
    intro hu
    rw [hu] at hiss
    cases hiss
  obtain ⟨iM, hffM⟩ := Y.msg
  obtain ⟨tC, dC, eC, nC⟩ := Cond.laysAt hfound hk Y.cause (w (.lays C Bundle.tN "cause" "Ljava/lang/Throwable;") (by simp [Bundle.messageArmAtoms]))
  obtain ⟨tS, dS, eS, nS⟩ := Cond.laysAt hfound hk Y.stack (w (.lays C Bundle.tN "stackTrace" Bundle.steD) (by simp [Bundle.messageArmAtoms]))
  obtain ⟨tP, dP, eP, nP⟩ := Cond.laysAt hfound hk Y.supp (w (.lays C Bundle.tN "suppressedExceptions" Bundle.listD) (by simp [Bundle.messageArmAtoms]))
  obtain ⟨tM, dM, eM, nM⟩ := Cond.laysAt hfound hk hffM (w (.lays C Bundle.tN "detailMessage" "Ljava/lang/String;") (by simp [Bundle.messageArmAtoms]))
  obtain ⟨tB, dB, eB, nB⟩ := Cond.laysAt hfound hk hffB (w (.lays C Bundle.tN "backtrace" "Ljava/lang/Object;") (by simp [Bundle.messageArmAtoms]))
  have aC := Cond.laysApart eB eC nB nC (by rw [hnB, Y.causeName]; decide)
  have aS := Cond.laysApart eB eS nB nS (by rw [hnB, Y.stackName]; decide)
  have aP := Cond.laysApart eB eP nB nP (by rw [hnB, Y.suppName]; decide)
  have hskip : SkipFacts Tc e.platform T (fun u => u) u0 ((preparedCellV Tc.toThrowableT (freshCell P1.m.cls kX) (T.heap.size + 2) u0 sen).withEntry T.cur) :=
    ⟨{ ci198 := ci, i198 := i1, fBack := fB }, ⟨k1, k2, k3, k4⟩, by
      have := fresh_default (c := P1.m.cls) tB
      rw [htB] at this
      simpa [preparedCellV, Cell.setSlot, Cell.withEntry, Array.getElem?_setIfInBounds, aC, aS, aP, aC.symm, aS.symm, aP.symm, defaultValue] using this, fun _ _ => rfl⟩
  have hAt : At T g.method c below := by rw [hg]; exact X.here
  obtain ⟨hbey, hfree⟩ := X.vmMayThrow hsize (.throwNew C (some text) none) (fun f hf => by cases hf) rfl hRl
  have hfr' : T.frames.length + Ps.length + 4 < (e.platform.stackLimits T.me).1 := by have := X.framesAbove hRf; omega
  have hwd' : (stackUse (.java g :: T.frames.tail)).2 + 13 * Ps.length + 55 ≤ (e.platform.stackLimits T.me).2 := by have := X.stackAbove hsize (K := 13 * Ps.length + 55) (by omega); omega
  have hsl : T.slotsUsed + (stringBytes (stringToUtf16 text)).size + Zs.kS.instanceTypes.size + kX.instanceTypes.size ≤ e.platform.maxSlots := by have := X.slotsAbove hRs; omega
  obtain ⟨vm', hW', st⟩ := Steps.vmThrowsMessageColdByV p (s₀ := T) (S := T) (g := g) hAt hexec Tc Lt Z LZ M LM (State.WarmedH.refl _) (t := T.cur) rfl Zs LZs P1 L1 Ps hL hl1 hl2 (cls := C) (m := text) hsoe hoom hfound hk hinit hord hctor
    (Launch.admits_hotImplicitExceptions X.admits) hbey hfree htext (by rw [Launch.admits_arrayLengthLimit X.admits]; omega) (by rw [Launch.admits_maxHeapBytes X.admits]; simp only [componentBytes]; omega) (X.cellsAbove hRc) hsl (hfv _) (hfc _)
    (Nn := fun u => u) heapOnly_id (fun _ _ => rfl) (fun _ => rfl) (fun u x y => setCell_twice _ _ _ _) (fun _ => Nat.le_refl _) (u0 := u0) (sen := sen) (cellS := cS) (cN := ((preparedCellV Tc.toThrowableT (freshCell P1.m.cls kX) (T.heap.size + 2) u0 sen).withEntry T.cur))
    hsel0 hcS hkn hu0 (Takes.of_laid hk hord tS (by rw [Y.stackType]; exact fits_refV_array _ u0)) (fun _ hu => hu) (fun _ hu => hu) rfl rfl rfl (by simp [preparedCellV, Cell.setSlot, Cell.withEntry]) hskip (fun _ _ hA hW _ hroom _ hrest => Lt.nativeOff p htr hA hW hroom hrest) hselF hsen
    (Takes.of_laid hk hord tC (by rw [Y.causeType]; rfl)) (Takes.of_laid hk hord tP (by rw [Y.suppType]; exact fits_refV_object _ sen)) (Takes.of_laid hk hord tM (by rw [Y.msgType]; rfl)) Y.objLocals rfl hfr' hwd'
  rw [plainBareV_eq Tc.toThrowableT (T.heap.size + 2) u0 sen (.ref (T.heap.size + 1)) T.cur rfl rfl] at st
  obtain ⟨-, -, w3, w4, w5, -, -⟩ := withThrown_facts e.platform T Zs text P1.m.cls kX
  have X3 := ((X.pushed (bytesOf Zs.cB (stringToUtf16 text))).pushed (stringAt Zs.cS Zs.kS Zs.fv Zs.fc (stringToUtf16 text) T.heap.size)).pushed (freshCell P1.m.cls kX)
  rw [← withString_eq] at X3
  have X4 := X3.noted (State.WarmedH.trans X.warmed hW')
  have ha : (T.heap.size + 2) < ((withThrown T Zs text P1.m.cls kX).setVm vm').heap.size := by show _ < (withThrown T Zs text P1.m.cls kX).heap.size; rw [w3]; omega
  have hcell : ((withThrown T Zs text P1.m.cls kX).setVm vm').heap[(T.heap.size + 2)]? = some (freshCell P1.m.cls kX) := w4
  have X5 := ((((X4.stored hcell Tc.fCause.slot (.ref (T.heap.size + 2))).storedAgain ha Tc.fStack.slot u0.v).storedAgain ha Tc.fSupp.slot sen.v).storedAgain ha Tc.fStack.slot u0.v).storedAgain ha Tc.fMsg.slot (.ref (T.heap.size + 1))
  have b1 : (bytesOf Zs.cB (stringToUtf16 text)).slots.size = (stringBytes (stringToUtf16 text)).size := by
    rw [(Cell.writeAll_facts _ _).2.2]; simp [bytes0]
  have b2 : (stringAt Zs.cS Zs.kS Zs.fv Zs.fc (stringToUtf16 text) T.heap.size).slots.size = 4 := by simp [string0, Cell.setSlot, hn4]
  have b3 : (freshCell P1.m.cls kX).slots.size = 6 := by simp [hn6]
  rw [b1, b2, b3] at X5
  have hge : s.heap.size ≤ T.heap.size := X.same.2.1
  have X6 : Stand p l e R s m args below meth c (((withThrown T Zs text P1.m.cls kX).setVm vm').setCell (T.heap.size + 2) (plainBareV Tc.toThrowableT (freshCell P1.m.cls kX) (T.heap.size + 2) u0 sen (.ref (T.heap.size + 1)))) locs (cells + 3) (slots + 800) :=
    { X5 with same := X5.same.weaken (fun y hy hlt => by
        simp only [List.append_assoc, List.cons_append, List.nil_append] at hy
        rcases List.mem_append.mp hy with h1 | h1
        · exact h1
        · exfalso
          have hb : y.base = T.heap.size + 2 := by
            simp only [List.mem_cons, List.not_mem_nil, or_false] at h1
            rcases h1 with rfl | rfl | rfl | rfl | rfl <;> rfl
          exact absurd hlt (by rw [hb]; exact Nat.not_lt.mpr (by first | exact hge | exact Nat.le_trans hge (Nat.le_add_right _ 2)))) (by omega) (by omega) }
  have hsz' : (((withThrown T Zs text P1.m.cls kX).setVm vm').setCell (T.heap.size + 2) (plainBareV Tc.toThrowableT (freshCell P1.m.cls kX) (T.heap.size + 2) u0 sen (.ref (T.heap.size + 1)))).heap.size = T.heap.size + 3 := by
    simpa [State.setCell] using w3
  refine ⟨_, X6, hsz', fun q hq => ?_, ⟨_, heapAt_setCell_self (s := (withThrown T Zs text P1.m.cls kX).setVm vm') _ ha, ?_, rfl⟩, fun target hgo => ?_⟩
  · rw [heapAt_setCell_ne _ (Nat.ne_of_gt (Nat.lt_of_lt_of_le hq (Nat.le_add_right _ 2)))]
    exact w5 q hq
  · exact hfound
  · rw [x_note X6] at hgo
    refine st target ?_
    rw [X.tail]
    exact hgo
set_option maxHeartbeats 1000000 in
/-- a NullPointerException -/
theorem x_npe (X : Stand p l e R s m args below meth c T locs cells slots) (hexec : p.tables.exec = Jvm.exec) (htr : e.platform.stackTraces = false)
    (h : ∀ w ∈ Bundle.npeArmAtoms 8, w.before args T = true)
    {g : JFrame} (hg : g.method = m) (hsize : g.locals.size = c.maxLocals) (hRf : 7 < R.frames) (hRl : 2 * g.monitorRoom + (g.stack.map fun v => v.category).sum + 10240 ≤ R.locals) (hRc : cells + 1 ≤ R.cells) (hRs : slots + 800 ≤ R.slots) :
    x_Made p l e R s m args below meth c T locs cells slots g "java/lang/NullPointerException" 0 (.throwNew "java/lang/NullPointerException" none none) := by
  have howns : e.platform.frameOwnsMonitors = true := by rw [X.admits.platform]
  have hfin : e.platform.finalization = false := by rw [X.admits.platform]
  have hpl : e.platform.magicAccessors = ({} : Platform).magicAccessors := by rw [X.admits.platform]
  have hpl2 : e.platform.arrayCloneIsPublic = true := by rw [X.admits.platform]
  have w : ∀ x, x ∈ Bundle.npeArmAtoms 8 → x.holds args T none T [] = true := fun x hx => h x hx
  obtain ⟨Tc, Z, Lt, LZ, Y⟩ := ThrowableC.of_atoms (args := args) (s := T) howns hfin hpl (fun x hx => h x (by simp [Bundle.npeArmAtoms, hx]))
  obtain ⟨N, LN, hcN, hnNF, hord, hffS⟩ := NpeC.of_atoms (args := args) hpl hpl2 Lt Y (fun x hx => h x (by simp [Bundle.npeArmAtoms, hx]))
  obtain ⟨P1, L1, hP1, hS1⟩ := PassC.of_atoms (args := args) (s := T) hpl (X := Bundle.nN) (Y := Bundle.rN) (by decide) (by decide) LibCode.NullPointerException.Init0.at_0 LibCode.NullPointerException.Init0.at_1 LibCode.NullPointerException.Init0.at_4 (fun x hx => h x (by simp [Bundle.npeArmAtoms, hx]))
  obtain ⟨PR, LR, hPR, hSR⟩ := PassC.of_atoms (args := args) (s := T) hpl (X := Bundle.rN) (Y := Bundle.eN) (by decide) (by decide) LibCode.RuntimeException.Init0.at_0 LibCode.RuntimeException.Init0.at_1 LibCode.RuntimeException.Init0.at_4 (fun x hx => h x (by simp [Bundle.npeArmAtoms, hx]))
  obtain ⟨PE, LE, hPE, hSE⟩ := PassC.of_atoms (args := args) (s := T) hpl (X := Bundle.eN) (Y := Bundle.tN) (by decide) (by decide) LibCode.Exception.Init0.at_0 LibCode.Exception.Init0.at_1 LibCode.Exception.Init0.at_4 (fun x hx => h x (by simp [Bundle.npeArmAtoms, hx]))
  have hfound : T.vm.findClass "java/lang/NullPointerException" = some P1.m.cls := findClass_of_methodNamed hP1
  have ecls : N.cN = P1.m.cls := Option.some.inj (hcN.symm.trans hfound)
  have hk : T.vm.classes[P1.m.cls]? = some N.kN := by rw [← ecls]; exact LN.cls
  have hinit := Cond.initialized_spec hfound hk (w (.initialized Bundle.nN) (by simp [Bundle.npeArmAtoms]))
  have hctor : N.kN.findMethod "<init>" "()V" = some P1.m.idx := findMethod_of_methodNamed hP1 hk
  obtain ⟨c1, k1', hc1, hk1, -, -, -, hn8⟩ := Cond.instantiable_spec (w (.instantiable Bundle.nN 8) (by simp [Bundle.npeArmAtoms]))
  cases hc1.symm.trans hfound
  cases hk1.symm.trans hk
  have sel : ∀ (x y : MethodName) (r r' : MethodId), (x.cls ≠ "java/lang/invoke/MethodHandle" ∧ x.cls ≠ "java/lang/invoke/VarHandle") → T.methodNamed? x = some r → T.methodNamed? y = some r' → (Cond.selects Bundle.nN x y).holds args T none T [] = true → selectMethod e.platform T.vm P1.m.cls r = .method r' := by
    intro x y r r' hx hr hr' hs
    obtain ⟨c2, r2, m2, q1, q2, q3, q4, -⟩ := Cond.selects_spec hs
    cases q1.symm.trans hfound
    cases q2.symm.trans (State.methodFound?_of_named hr hx)
    cases q3.symm.trans hr'
    rw [Launch.admits_selectMethod X.admits]; exact q4
  have hsel0 := sel _ _ _ _ (by decide) Y.fill0 Y.fill0 (w (.selects Bundle.nN Bundle.tFill0 Bundle.tFill0) (by simp [Bundle.npeArmAtoms]))
  have hselF := sel _ _ _ _ (by decide) Y.fill hnNF (w (.selects Bundle.nN Bundle.tFill Bundle.nFill) (by simp [Bundle.npeArmAtoms]))
  obtain ⟨cS, hcS, hiss⟩ := Y.statics
  obtain ⟨u0, hu0⟩ := Cond.staticRefV Y.unassigned Lt.unassignedStatic Lt.statics hcS hiss (w (.isRef (.static Bundle.tN "UNASSIGNED_STACK" Bundle.steD)) (by simp [Bundle.npeArmAtoms]))
  obtain ⟨sen, hsen⟩ := Cond.staticRefV Y.sentinel Lt.sentinelStatic Lt.statics hcS hiss (w (.isRef (.static Bundle.tN "SUPPRESSED_SENTINEL" Bundle.listD)) (by simp [Bundle.npeArmAtoms]))
  obtain ⟨ci, i1, fB, k1, k2, k3, k4, -, hnB, htB, hffB⟩ := Cond.ownField (t := .object "java/lang/Object") Y.found Lt.cls (by decide +kernel) (w (.fieldLink Bundle.tN 198 Bundle.tN "backtrace" Bundle.objD) (by simp [Bundle.npeArmAtoms])) (w (.lays Bundle.tN Bundle.tN "backtrace" Bundle.objD) (by simp [Bundle.npeArmAtoms])) e.platform hpl
  have hkn : cS.vm ≠ .unknown := by
    intro hu
    rw [hu] at hiss
    cases hiss
  obtain ⟨tC, dC, eC, nC⟩ := Cond.laysAt hfound hk Y.cause (w (.lays Bundle.nN Bundle.tN "cause" "Ljava/lang/Throwable;") (by simp [Bundle.npeArmAtoms]))
  obtain ⟨tS, dS, eS, nS⟩ := Cond.laysAt hfound hk Y.stack (w (.lays Bundle.nN Bundle.tN "stackTrace" Bundle.steD) (by simp [Bundle.npeArmAtoms]))
  obtain ⟨tP, dP, eP, nP⟩ := Cond.laysAt hfound hk Y.supp (w (.lays Bundle.nN Bundle.tN "suppressedExceptions" Bundle.listD) (by simp [Bundle.npeArmAtoms]))
  obtain ⟨tX, dX, eX, nX⟩ := Cond.laysAt hfound hk hffS (w (.lays Bundle.nN Bundle.nN "extendedMessageState" "I") (by simp [Bundle.npeArmAtoms, Bundle.npeAtoms]))
  obtain ⟨tB, dB, eB, nB⟩ := Cond.laysAt hfound hk hffB (w (.lays Bundle.nN Bundle.tN "backtrace" Bundle.objD) (by simp [Bundle.npeArmAtoms]))
  have hnX : N.fState.name = "extendedMessageState" := (State.fieldFound?_type hffS (t := .int) (by decide +kernel)).1
  have aC := Cond.laysApart eB eC nB nC (by rw [hnB, Y.causeName]; decide)
  have aS := Cond.laysApart eB eS nB nS (by rw [hnB, Y.stackName]; decide)
  have aP := Cond.laysApart eB eP nB nP (by rw [hnB, Y.suppName]; decide)
  have aX := Cond.laysApart eB eX nB nX (by rw [hnB, hnX]; decide)
  have hskip : SkipFacts Tc e.platform T (fun u => u) u0 ((npeCell N.toNpeT (preparedCellV Tc.toThrowableT (freshCell P1.m.cls N.kN) T.heap.size u0 sen) T.cur).withEntry T.cur) :=
    ⟨{ ci198 := ci, i198 := i1, fBack := fB }, ⟨k1, k2, k3, k4⟩, by
      have := fresh_default (c := P1.m.cls) tB
      rw [htB] at this
      simpa [npeCell, preparedCellV, Cell.setSlot, Cell.withEntry, Array.getElem?_setIfInBounds, aC, aS, aP, aX, aC.symm, aS.symm, aP.symm, aX.symm, defaultValue] using this, fun _ _ => rfl⟩
  have hAt : At T g.method c below := by rw [hg]; exact X.here
  obtain ⟨hbey, hfree⟩ := X.vmMayThrow hsize (.throwNew "java/lang/NullPointerException" none none) (fun f hf => by cases hf) rfl hRl
  have hfr' : T.frames.length + [PR, PE].length + 5 < (e.platform.stackLimits T.me).1 := by have := X.framesAbove hRf; simp only [List.length_cons, List.length_nil]; omega
  have hwd' : (stackUse (.java g :: T.frames.tail)).2 + 13 * [PR, PE].length + 68 ≤ (e.platform.stackLimits T.me).2 := by have := X.stackAbove hsize (K := 13 * 2 + 68) (by omega); simp only [List.length_cons, List.length_nil]; omega
  have hl1 : P1.sup = PR.m := Option.some.inj (hS1.symm.trans hPR)
  have hl2 : PR.sup = PE.m := Option.some.inj (hSR.symm.trans hPE)
  have hl3 : PE.sup = Z.m Tc.toThrowableT := Option.some.inj (hSE.symm.trans Y.init0)
  obtain ⟨vm', hW', st⟩ := Steps.vmThrowsNpeColdByV p (s₀ := T) (S := T) (g := g) hAt hexec Tc Lt Z LZ N LN (State.WarmedH.refl _) (t := T.cur) rfl P1 L1 [PR, PE] (fun P hP => by
      simp only [List.mem_cons, List.not_mem_nil, or_false] at hP
      rcases hP with rfl | rfl
      · exact LR
      · exact LE) hl1 ⟨hl2, hl3, trivial⟩ hfound hk hinit hord hctor
    (Launch.admits_hotImplicitExceptions X.admits) hbey hfree (X.cellsAbove hRc) (by have := X.slotsAbove hRs; omega)
    (Nn := fun u => u) heapOnly_id (fun _ _ => rfl) (fun _ => rfl) (fun u x y => setCell_twice _ _ _ _) (fun _ => Nat.le_refl _) (u0 := u0) (sen := sen) (cellS := cS) (cN := ((npeCell N.toNpeT (preparedCellV Tc.toThrowableT (freshCell P1.m.cls N.kN) T.heap.size u0 sen) T.cur).withEntry T.cur))
    hsel0 hcS hkn hu0 (by rw [fresh_default tX, LN.stateInt]; rfl)
    (Cond.laysApart eC eX nC nX (by rw [Y.causeName, hnX]; decide)) (Cond.laysApart eS eX nS nX (by rw [Y.stackName, hnX]; decide)) (Cond.laysApart eP eX nP nX (by rw [Y.suppName, hnX]; decide))
    (Takes.of_laid hk hord tS (by rw [Y.stackType]; exact fits_refV_array _ u0)) (Takes.of_laid hk hord tX (by rw [LN.stateInt]; rfl)) (fun _ hu => hu) (fun _ hu => hu) rfl rfl rfl (by simp [npeCell, preparedCellV, Cell.setSlot, Cell.withEntry]) hskip (fun _ _ hA hW _ hroom _ hrest => Lt.nativeOff p htr hA hW hroom hrest) hselF hsen
    (Takes.of_laid hk hord tC (by rw [Y.causeType]; rfl)) (Takes.of_laid hk hord tP (by rw [Y.suppType]; exact fits_refV_object _ sen)) Y.objLocals rfl hfr' hwd'
  rw [npeBareV_eq Tc.toThrowableT N.toNpeT T.heap.size u0 sen T.cur rfl rfl] at st
  have X2 := (X.pushed (freshCell P1.m.cls N.kN)).noted (State.WarmedH.trans X.warmed hW')
  have hsz : ((T.pushCell (freshCell P1.m.cls N.kN)).setVm vm').heap.size = T.heap.size + 1 := State.heap_size_pushCell _ _
  have ha : T.heap.size < ((T.pushCell (freshCell P1.m.cls N.kN)).setVm vm').heap.size := by rw [hsz]; omega
  have hcell : ((T.pushCell (freshCell P1.m.cls N.kN)).setVm vm').heap[T.heap.size]? = some (freshCell P1.m.cls N.kN) := State.heap_pushCell_size T (freshCell P1.m.cls N.kN)
  have X5 := ((((X2.stored hcell Tc.fCause.slot (.ref T.heap.size)).storedAgain ha Tc.fStack.slot u0.v).storedAgain ha Tc.fSupp.slot sen.v).storedAgain ha N.fState.slot (.int 1)).storedAgain ha Tc.fStack.slot u0.v
  have b3 : (freshCell P1.m.cls N.kN).slots.size = 8 := by simp [hn8]
  rw [b3] at X5
  have hge : s.heap.size ≤ T.heap.size := X.same.2.1
  have X6 : Stand p l e R s m args below meth c (((T.pushCell (freshCell P1.m.cls N.kN)).setVm vm').setCell T.heap.size (npeBareV Tc.toThrowableT N.toNpeT (freshCell P1.m.cls N.kN) T.heap.size u0 sen)) locs (cells + 1) (slots + 800) :=
    { X5 with same := X5.same.weaken (fun y hy hlt => by
        simp only [List.append_assoc, List.cons_append, List.nil_append] at hy
        rcases List.mem_append.mp hy with h1 | h1
        · exact h1
        · exfalso
          have hb : y.base = T.heap.size := by
            simp only [List.mem_cons, List.not_mem_nil, or_false] at h1
            rcases h1 with rfl | rfl | rfl | rfl | rfl <;> rfl
          exact absurd hlt (by rw [hb]; exact Nat.not_lt.mpr (by first | exact hge | exact Nat.le_trans hge (Nat.le_add_right _ 2)))) (by omega) (by omega) }
  have hsz' : (((T.pushCell (freshCell P1.m.cls N.kN)).setVm vm').setCell T.heap.size (npeBareV Tc.toThrowableT N.toNpeT (freshCell P1.m.cls N.kN) T.heap.size u0 sen)).heap.size = T.heap.size + 1 := by
    simpa [State.setCell] using hsz
  refine ⟨_, X6, hsz', fun q hq => ?_, ⟨_, heapAt_setCell_self (s := (T.pushCell (freshCell P1.m.cls N.kN)).setVm vm') _ ha, ?_, rfl⟩, fun target hgo => ?_⟩
  · rw [heapAt_setCell_ne _ (Nat.ne_of_gt hq)]
    show (T.heap.push _)[q]? = _
    rw [Array.getElem?_push_lt hq, Array.getElem?_eq_getElem hq]
  · exact hfound
  · rw [x_note X6] at hgo
    refine st target ?_
    rw [X.tail]
    exact hgo
end XM
/-- the road of the search through the table: the row hp takes an exception of the class ct -/
def x_path (s : State) (pl : Platform) (d : ClassId) (pc : Nat) (ct : ClassId) (hp : Nat) : List ExceptionTableEntry → Prop
  | [] => False
  | x :: r => (covers x pc = false ∧ x_path s pl d pc ct hp r) ∨ (covers x pc = true ∧ x.catchType ≠ 0 ∧ ∃ c : ClassId, s.vm.ClassLinks pl d x.catchType c ∧ ((s.vm.assignable ct c = false ∧ x_path s pl d pc ct hp r) ∨ (s.vm.assignable ct c = true ∧ x.handlerPc = hp)))
theorem x_one {e : Env} {s S : State} {f : JFrame} {a : Addr} {cell : Cell} {x : ExceptionTableEntry} {t : List ExceptionTableEntry} {c : ClassId} (hW : s.WarmedH S.vm) (hc : S.heap[a]? = some cell) (ho : ∀ k, cell.vm ≠ .statics k) (hk : ∃ k, s.vm.classes[cell.cls]? = some k)
    (hx : covers x f.pc = true) (h0 : x.catchType ≠ 0) (hl : s.vm.ClassLinks e.platform f.method.cls x.catchType c) :
    ∃ vm', s.WarmedH vm' ∧ ∀ (Q : Handler → Pre) (E : CtlPost) (d : Bool) (acts : List Action), wp (findHandler.go f a (x :: t)) Q E e d acts S ↔ if s.vm.assignable cell.cls c = true then Q (.found x.handlerPc) d acts (S.setVm vm') else wp (findHandler.go f a t) Q E e d acts (S.setVm vm') := by
  obtain ⟨dk, _, _, kt, hd, _, _, _, _, hkt, _, hopen⟩ := hl.here
  have hl2 := hW.classLinks hl
  refine ⟨S.vm.noted f.method.cls x.catchType (.cls c), hW.noted hd hopen (State.rightAt_cls hl), fun Q E d acts => ?_⟩
  have al := (hW.noted hd hopen (State.rightAt_cls hl)).alike
  simp only [covers] at hx
  obtain ⟨g1, g2⟩ := (resolveClass_links e.toSetting hl2).op (op := VmOp.resolveClass f.method.cls x.catchType) rfl
  obtain ⟨k1, hk1⟩ := hk
  obtain ⟨k1', hk1', -⟩ := al.2.2 _ _ hk1
  obtain ⟨k2', hk2', -⟩ := al.2.2 _ _ hkt
  have hf : (S.vm.noted f.method.cls x.catchType (.cls c)).assignable cell.cls c = s.vm.assignable cell.cls c := al.assignable _ _
  cases hq : s.vm.assignable cell.cls c <;> rw [hq] at hf <;>
    simp [findHandler.go, hx, h0, g1, g2, hc, ho, hk1', hk2', hf, VmOp.dirties, VmOp.acts]
theorem x_go {e : Env} {s : State} {f : JFrame} {a : Addr} {cell : Cell} {hp : Nat} (ho : ∀ k, cell.vm ≠ .statics k) (hk : ∃ k, s.vm.classes[cell.cls]? = some k) : ∀ {L : List ExceptionTableEntry}, x_path s e.platform f.method.cls f.pc cell.cls hp L →
    ∀ S : State, s.WarmedH S.vm → S.heap[a]? = some cell → ∃ vm', s.WarmedH vm' ∧ ∀ (Q : Handler → Pre) (E : CtlPost) (d : Bool) (acts : List Action), wp (findHandler.go f a L) Q E e d acts S ↔ Q (.found hp) d acts (S.setVm vm') := by
  intro L
  induction L with
  | nil => intro h; exact absurd h (fun h => h)
  | cons x r ih =>
    intro h S hW hc
    rcases h with ⟨h1, h2⟩ | ⟨h1, h2, c, h3, h4⟩
    · obtain ⟨vm', g1, g2⟩ := ih h2 S hW hc
      exact ⟨vm', g1, fun Q E d acts => by rw [W.findHandler_go_skip h1]; exact g2 Q E d acts⟩
    · obtain ⟨vm1, q1, q2⟩ := x_one (t := r) hW hc ho hk h1 h2 h3
      rcases h4 with ⟨h4, h5⟩ | ⟨h4, h5⟩
      · obtain ⟨vm', g1, g2⟩ := ih h5 (S.setVm vm1) q1 hc
        exact ⟨vm', g1, fun Q E d acts => by rw [q2, if_neg (by rw [h4]; decide)]; exact g2 Q E d acts⟩
      · exact ⟨vm1, q1, fun Q E d acts => by rw [q2, if_pos h4, h5]⟩
theorem x_step {e : Env} {s : State} {a : Addr} {f : JFrame} {r : List Frame} {pc : Nat} {vm' : Vm} (hf : ∀ (Q : Handler → Pre) (E : CtlPost) (d : Bool) (acts : List Action), wp (findHandler f a) Q E e d acts s ↔ Q (.found pc) d acts (s.setVm vm')) :
    (stepThrowing e s a (.java f :: r)).Is ((s.setVm vm').setFrames (.java { f with pc := pc, stack := [.ref a] } :: r)) [] := by
  simp only [stepThrowing, searchFrame, vmDo]
  generalize hr : Sem.go _ e false [] s = res
  obtain ⟨as, rfl, ha⟩ := Sem.eq_ok_of hr (a := Handler.found pc) (s' := s.setVm vm') (acts' := []) (by simp [hf _ _ _ _])
  exact ⟨rfl, ha⟩
section XF
variable {p : Program} {l : Launch} {e : Env} {R : Room} {s : State} {m : MethodId} {args : Array Value} {below : List Frame} {meth : Method} {c : Code} {T : State} {locs : List Loc} {cells slots : Nat}
/-- the exception is caught in the method -/
theorem x_caught (X : Stand p l e R s m args below meth c T locs cells slots) {a : Addr} {g : JFrame} (hg : g.method = m) {cell : Cell} (hc : T.heap[a]? = some cell) (ho : ∀ k, cell.vm ≠ .statics k) (hk : ∃ k, s.vm.classes[cell.cls]? = some k) {hp : Nat} (h : x_path s e.platform m.cls g.pc cell.cls hp c.exceptionTable.toList) :
    ∃ vm', Stand p l e R s m args below meth c (T.setVm vm') locs cells slots ∧ ∀ target, Steps p.tables e below ((T.setVm vm').setTop { g with pc := hp, stack := [.ref a] }) target → Steps p.tables e below ((T.setTop g).pushFrame (.throwing a)) target := by
  subst hg
  obtain ⟨vm', g1, g2⟩ := x_go (a := a) ho hk h ((T.setTop g).pushFrame (.throwing a)) X.warmed hc
  refine ⟨vm', X.noted g1, fun target hrest => ?_⟩
  have hA : At T g.method c below := X.here
  obtain ⟨hgo, hw⟩ := hA.throwing a
  refine Steps.head hgo hw ?_
  have hm : ((T.setTop g).pushFrame (.throwing a)).vm.method? g.method = some meth := X.method'
  rw [stepThread_throwing (frames_entered hA.top _), (x_step (s := (T.setTop g).pushFrame (.throwing a)) (fun Q E d acts => by rw [W.findHandler_eq hm X.code]; exact g2 Q E d acts)).1]
  obtain ⟨g0, hg0⟩ := X.frames_eq
  have hr : (T.setVm vm').frames = .java g0 :: below := hg0
  rw [State.setTop_of_frames _ hr] at hrest
  rw [X.tail, x_note X]
  have e1 : (T.setFrames (.throwing a :: .java g :: below)).setVm vm' = (T.setVm vm').setFrames (.throwing a :: .java g :: below) := rfl
  rw [e1, State.setFrames_setFrames]
  exact hrest
end XF
section XI
variable {p : Program} {l : Launch} {e : Env} {R : Room} {s : State} {m : MethodId} {args : Array Value} {below : List Frame} {meth : Method} {c : Code} {T : State} {locs : List Loc} {cells slots : Nat} {g : JFrame} {rest : List Value} {target : State}
abbrev xNpe : Frame := .throwNew "java/lang/NullPointerException" none none
abbrev xIdx (i : Int32) (n : Nat) : Frame := .throwNew "java/lang/ArrayIndexOutOfBoundsException" (some (toString "Index " ++ toString i ++ toString " out of bounds for length " ++ toString n)) none
theorem xs_idiv (h : At T m c below) (hg : g.method = m) (hexec : p.tables.exec = Jvm.exec) {x : Int32} (hst : g.stack = .int 0 :: .int x :: rest) (hd : decode c.code g.pc = .ok (.idiv, 1))
    (hrest : Steps p.tables e below ((T.setTop { g with stack := rest }).pushFrame (.throwNew "java/lang/ArithmeticException" (some "/ by zero") none)) target) : Steps p.tables e below (T.setTop g) target := by
  subst hg
  jvm_step h [hexec, hd, idiv.wp_sem, hst]
  exact hrest
theorem xs_newarray (h : At T m c below) (hg : g.method = m) (hexec : p.tables.exec = Jvm.exec) {x : Int32} {at_ : ArrayType} (hx : x < 0) (hst : g.stack = .int x :: rest) (hd : decode c.code g.pc = .ok (.newarray at_, 2))
    (hrest : Steps p.tables e below ((T.setTop { g with stack := rest }).pushFrame (.throwNew "java/lang/NegativeArraySizeException" (some (toString x)) none)) target) : Steps p.tables e below (T.setTop g) target := by
  subst hg
  jvm_step h [hexec, hd, newarray.sem, hst, hx]
  exact hrest
theorem xs_len (h : At T m c below) (hg : g.method = m) (hexec : p.tables.exec = Jvm.exec) (hst : g.stack = .null :: rest) (hd : decode c.code g.pc = .ok (.arraylength, 1))
    (hrest : Steps p.tables e below ((T.setTop { g with stack := rest }).pushFrame xNpe) target) : Steps p.tables e below (T.setTop g) target := by
  subst hg
  jvm_step h [hexec, hd, arraylength.wp_sem, nullPointer, hst]
  exact hrest
theorem xs_bastore (h : At T m c below) (hg : g.method = m) (hexec : p.tables.exec = Jvm.exec) {i : Int32} {v : Int32} (hst : g.stack = .int v :: .int i :: .null :: rest) (hd : decode c.code g.pc = .ok (.bastore, 1))
    (hrest : Steps p.tables e below ((T.setTop { g with stack := rest }).pushFrame xNpe) target) : Steps p.tables e below (T.setTop g) target := by
  subst hg
  jvm_step h [hexec, hd, bastore.wp_sem, hst]
  exact ⟨_, _, _, _, ⟨rfl, rfl, rfl, rfl⟩, fun acts => by simp only [nullPointer, afterInstr_throwNew]; exact hrest⟩
theorem xt_bastore (h : At T m c below) (hg : g.method = m) (hexec : p.tables.exec = Jvm.exec) {i : Int32} {v : Int32} {a : Addr} {cell : Cell} (hc : T.heap[a]? = some cell) (ha : T.isArray cell) (hi : i < 0 ∨ cell.slots.size ≤ i.toNatClampNeg) (hst : g.stack = .int v :: .int i :: .ref a :: rest) (hd : decode c.code g.pc = .ok (.bastore, 1))
    (hrest : Steps p.tables e below ((T.setTop { g with stack := rest }).pushFrame (xIdx i cell.slots.size)) target) : Steps p.tables e below (T.setTop g) target := by
  subst hg
  jvm_step h [hexec, hd, bastore.wp_sem, hst]
  exact ⟨_, _, _, _, ⟨rfl, rfl, rfl, rfl⟩, cell, hc, ha, by rw [if_pos hi]; exact fun acts => by simp only [outOfBounds, afterInstr_throwNew]; exact hrest⟩
theorem xs_sastore (h : At T m c below) (hg : g.method = m) (hexec : p.tables.exec = Jvm.exec) {i : Int32} {v : Int32} (hst : g.stack = .int v :: .int i :: .null :: rest) (hd : decode c.code g.pc = .ok (.sastore, 1))
    (hrest : Steps p.tables e below ((T.setTop { g with stack := rest }).pushFrame xNpe) target) : Steps p.tables e below (T.setTop g) target := by
  subst hg
  jvm_step h [hexec, hd, sastore.wp_sem, hst]
  exact ⟨_, _, _, _, ⟨rfl, rfl, rfl, rfl⟩, fun acts => by simp only [nullPointer, afterInstr_throwNew]; exact hrest⟩
theorem xt_sastore (h : At T m c below) (hg : g.method = m) (hexec : p.tables.exec = Jvm.exec) {i : Int32} {v : Int32} {a : Addr} {cell : Cell} (hc : T.heap[a]? = some cell) (ha : T.isArray cell) (hi : i < 0 ∨ cell.slots.size ≤ i.toNatClampNeg) (hst : g.stack = .int v :: .int i :: .ref a :: rest) (hd : decode c.code g.pc = .ok (.sastore, 1))
    (hrest : Steps p.tables e below ((T.setTop { g with stack := rest }).pushFrame (xIdx i cell.slots.size)) target) : Steps p.tables e below (T.setTop g) target := by
  subst hg
  jvm_step h [hexec, hd, sastore.wp_sem, hst]
  exact ⟨_, _, _, _, ⟨rfl, rfl, rfl, rfl⟩, cell, hc, ha, by rw [if_pos hi]; exact fun acts => by simp only [outOfBounds, afterInstr_throwNew]; exact hrest⟩
theorem xs_iastore (h : At T m c below) (hg : g.method = m) (hexec : p.tables.exec = Jvm.exec) {i : Int32} {v : Int32} (hst : g.stack = .int v :: .int i :: .null :: rest) (hd : decode c.code g.pc = .ok (.iastore, 1))
    (hrest : Steps p.tables e below ((T.setTop { g with stack := rest }).pushFrame xNpe) target) : Steps p.tables e below (T.setTop g) target := by
  subst hg
  jvm_step h [hexec, hd, iastore.wp_sem, hst]
  exact ⟨_, _, _, _, ⟨rfl, rfl, rfl, rfl⟩, fun acts => by simp only [nullPointer, afterInstr_throwNew]; exact hrest⟩
theorem xt_iastore (h : At T m c below) (hg : g.method = m) (hexec : p.tables.exec = Jvm.exec) {i : Int32} {v : Int32} {a : Addr} {cell : Cell} (hc : T.heap[a]? = some cell) (ha : T.isArray cell) (hi : i < 0 ∨ cell.slots.size ≤ i.toNatClampNeg) (hst : g.stack = .int v :: .int i :: .ref a :: rest) (hd : decode c.code g.pc = .ok (.iastore, 1))
    (hrest : Steps p.tables e below ((T.setTop { g with stack := rest }).pushFrame (xIdx i cell.slots.size)) target) : Steps p.tables e below (T.setTop g) target := by
  subst hg
  jvm_step h [hexec, hd, iastore.wp_sem, hst]
  exact ⟨_, _, _, _, ⟨rfl, rfl, rfl, rfl⟩, cell, hc, ha, by rw [if_pos hi]; exact fun acts => by simp only [outOfBounds, afterInstr_throwNew]; exact hrest⟩
theorem xs_lastore (h : At T m c below) (hg : g.method = m) (hexec : p.tables.exec = Jvm.exec) {i : Int32} {v : Int64} (hst : g.stack = .long v :: .int i :: .null :: rest) (hd : decode c.code g.pc = .ok (.lastore, 1))
    (hrest : Steps p.tables e below ((T.setTop { g with stack := rest }).pushFrame xNpe) target) : Steps p.tables e below (T.setTop g) target := by
  subst hg
  jvm_step h [hexec, hd, lastore.wp_sem, hst]
  exact ⟨_, _, _, _, ⟨rfl, rfl, rfl, rfl⟩, fun acts => by simp only [nullPointer, afterInstr_throwNew]; exact hrest⟩
theorem xt_lastore (h : At T m c below) (hg : g.method = m) (hexec : p.tables.exec = Jvm.exec) {i : Int32} {v : Int64} {a : Addr} {cell : Cell} (hc : T.heap[a]? = some cell) (ha : T.isArray cell) (hi : i < 0 ∨ cell.slots.size ≤ i.toNatClampNeg) (hst : g.stack = .long v :: .int i :: .ref a :: rest) (hd : decode c.code g.pc = .ok (.lastore, 1))
    (hrest : Steps p.tables e below ((T.setTop { g with stack := rest }).pushFrame (xIdx i cell.slots.size)) target) : Steps p.tables e below (T.setTop g) target := by
  subst hg
  jvm_step h [hexec, hd, lastore.wp_sem, hst]
  exact ⟨_, _, _, _, ⟨rfl, rfl, rfl, rfl⟩, cell, hc, ha, by rw [if_pos hi]; exact fun acts => by simp only [outOfBounds, afterInstr_throwNew]; exact hrest⟩
theorem x_home {vm : Vm} {k : Class} (hl : k.loader = none) (hp : packageOf k.name = "") (hm : ∀ x ∈ vm.modules, x.loader = none → x.packages.contains "" = true → x.name = "java.base") : (vm.home k).toList.length ≤ 38 := by
  have h1 : ∀ x, vm.moduleOf k = some x → x.name = "java.base" := by
    intro x hk
    unfold Vm.moduleOf at hk
    split at hk
    · have := List.find?_some hk
      simpa using this
    · have h2 := List.find?_some hk
      have h3 := List.mem_of_find?_eq_some hk
      simp only [Bool.and_eq_true, beq_iff_eq] at h2
      exact hm x h3 (h2.1.trans hl) (by rw [← hp]; exact h2.2)
  unfold Vm.home
  rw [hl]
  cases hk : vm.moduleOf k with
  | none => show ("unnamed module" ++ " of loader " ++ "'bootstrap'").toList.length ≤ 38; decide
  | some x =>
    show ("module " ++ x.name ++ " of loader " ++ "'bootstrap'").toList.length ≤ 38
    rw [h1 x hk]; decide
def x_prims : List String := ["[B", "[S", "[I", "[J"]
theorem x_shown {k : Class} (hh : k.hidden = none) (hn : k.name ∈ x_prims) : k.shown.toList.length = 2 ∧ packageOf k.name = "" := by
  have h0 : k.shown = dotted k.name := by unfold Class.shown; rw [hh]
  rw [h0]
  simp only [x_prims, List.mem_cons, List.not_mem_nil, or_false] at hn
  rcases hn with h | h | h | h <;> rw [h] <;> decide +kernel
/-- the text of a failed cast between arrays of numbers: short, and modelled -/
theorem x_castText {vm : Vm} {a b : Class} (ha : a.hidden = none ∧ a.loader = none ∧ a.name ∈ x_prims) (hb : b.hidden = none ∧ b.loader = none ∧ b.name ∈ x_prims) (hm : ∀ x ∈ vm.modules, x.loader = none → x.packages.contains "" = true → x.name = "java.base") :
    (checkcast.message vm a b).toList.length ≤ 190 ∧ (checkcast.message vm a b == notModelled) = false := by
  obtain ⟨sa, pa⟩ := x_shown ha.1 ha.2.2
  obtain ⟨sb, pb⟩ := x_shown hb.1 hb.2.2
  have h1 := x_home ha.2.1 pa hm
  have h2 := x_home hb.2.1 pb hm
  have e0 : checkcast.message vm a b = "class " ++ a.shown ++ " cannot be cast to class " ++ b.shown ++ " (" ++ vm.homes a b ++ ")" := rfl
  have h3 : (vm.homes a b).toList.length ≤ 100 := by
    unfold Vm.homes
    split
    · show (toString a.shown ++ toString " and " ++ toString b.shown ++ toString " are in " ++ toString (vm.home a)).toList.length ≤ 100
      simp only [String.toList_append, List.length_append]
      have a1 : (toString " and ").toList.length = 5 := by decide
      have a2 : (toString " are in ").toList.length = 8 := by decide
      have a3 : (toString a.shown).toList.length = 2 := sa
      have a4 : (toString b.shown).toList.length = 2 := sb
      have a5 : (toString (vm.home a)).toList.length ≤ 38 := h1
      omega
    · show (toString a.shown ++ toString " is in " ++ toString (vm.home a) ++ toString "; " ++ toString b.shown ++ toString " is in " ++ toString (vm.home b)).toList.length ≤ 100
      simp only [String.toList_append, List.length_append]
      have a1 : (toString " is in ").toList.length = 7 := by decide
      have a2 : (toString "; ").toList.length = 2 := by decide
      have a3 : (toString a.shown).toList.length = 2 := sa
      have a4 : (toString b.shown).toList.length = 2 := sb
      have a5 : (toString (vm.home a)).toList.length ≤ 38 := h1
      have a6 : (toString (vm.home b)).toList.length ≤ 38 := h2
      omega
  rw [e0]
  refine ⟨?_, ?_⟩
  · simp only [String.toList_append, List.length_append]
    have a1 : "class ".toList.length = 6 := by decide
    have a2 : " cannot be cast to class ".toList.length = 25 := by decide
    have a3 : " (".toList.length = 2 := by decide
    have a4 : ")".toList.length = 1 := by decide
    omega
  · rw [beq_eq_false_iff_ne]
    intro h
    have h5 := congrArg (fun x => x.toList.head?) h
    simp only [String.toList_append, List.append_assoc] at h5
    have a1 : "class ".toList = 'c' :: "lass ".toList := by decide
    have a2 : notModelled.toList.head? = some (Char.ofNat 0) := by decide
    rw [a1, a2] at h5
    simp at h5
/-- a cast that fails: the class cold or warm -/
theorem xs_cast (X : Stand p l e R s m args below meth c T locs cells slots) (hg : g.method = m) (hexec : p.tables.exec = Jvm.exec) {own C : String} {index : Nat} (hown : s.vm.findClass own = some m.cls) (hlink : (Cond.classLink own index C).before args s = true) {a : Addr} {cell : Cell} {ks : Class} (hc : T.heap[a]? = some cell) (ho : ∀ k, cell.vm ≠ .statics k) (hk : s.vm.classes[cell.cls]? = some ks)
    {cT : ClassId} {kt : Class} (hcT : s.vm.findClass C = some cT) (hkt : s.vm.classes[cT]? = some kt) (hno : s.vm.assignable cell.cls cT = false) (hst : g.stack = .ref a :: rest) (hd : decode c.code g.pc = .ok (.checkcast index, 3)) :
    ∃ (vm' : Vm) (ks' kt' : Class), Stand p l e R s m args below meth c (T.setVm vm') locs cells slots ∧ vm'.classes[cell.cls]? = some ks' ∧ vm'.classes[cT]? = some kt' ∧ (ks'.name = ks.name ∧ ks'.hidden = ks.hidden ∧ ks'.loader = ks.loader) ∧ (kt'.name = kt.name ∧ kt'.hidden = kt.hidden ∧ kt'.loader = kt.loader) ∧
      ∀ target, Steps p.tables e below (((T.setVm vm').setTop g).pushFrame (.throwNew "java/lang/ClassCastException" (some (checkcast.message vm' ks' kt')) none)) target → Steps p.tables e below (T.setTop g) target := by
  subst hg
  have hpl : e.platform.magicAccessors = ({} : Platform).magicAccessors := by rw [X.admits.platform]
  obtain ⟨c9, hc9, hl⟩ := Cond.classLink_spec hown hlink e.platform hpl
  cases hcT.symm.trans hc9
  obtain ⟨dk, _, _, _, hd9, _, _, _, _, _, _, hopen⟩ := hl.here
  have hl2 := X.warmed.classLinks hl
  have hW := X.warmed.noted hd9 hopen (State.rightAt_cls hl)
  have al := hW.alike
  obtain ⟨ks', g1, e1⟩ := al.2.2 _ _ hk
  obtain ⟨kt', g2, e2⟩ := al.2.2 _ _ hkt
  refine ⟨T.vm.noted g.method.cls index (.cls cT), ks', kt', X.noted hW, g1, g2, ⟨by rw [e1], by rw [e1], by rw [e1]⟩, ⟨by rw [e2], by rw [e2], by rw [e2]⟩, fun target hrest => ?_⟩
  have hf : (T.vm.noted g.method.cls index (.cls cT)).assignable cell.cls cT = false := by rw [al.assignable]; exact hno
  jvm_step X.here [hexec, hd, checkcast.wp_cold (e := e) (s := T) (f := g) X.here.top hst (resolveClass_links e.toSetting hl2) hl2.ready, checkcast.wp_ready (e := e) (s := T.setVm (T.vm.noted g.method.cls index (.cls cT))) (f := g) X.here.top hl2.ready hst]
  exact ⟨cell, hc, ho, ks', g1, kt', g2, by rw [if_neg (by rw [hf]; decide)]; exact hrest⟩
end XI
