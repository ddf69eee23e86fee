/-! a native that throws: the exception is made over the native's frame (printed by gen/nat.py) -/
set_option maxRecDepth 100000
/-- a state that runs, and frames over `below` that may be laid on it -/
def n_on (U : State) (base below : List Frame) : Prop := U.status = .running ∧ U.curStatus? = some .runnable ∧ U.alone = true ∧ U.cur < U.threads.size ∧ ∃ mid, base = mid ++ below
section NV
variable {e : Env} {below base : List Frame} {U : State}
theorem n_on.fr (h : n_on U base below) (fs : List Frame) : (U.setFrames fs).frames = fs := State.frames_setFrames _ h.2.2.2.1
theorem n_on.goes (h : n_on U base below) (fs : List Frame) : (U.setFrames fs).goesOn := ⟨h.1, by simpa using h.2.1, by simpa using h.2.2.1⟩
theorem n_on.vm (h : n_on U base below) (vm' : Vm) : n_on (U.setVm vm') base below := h
theorem n_on.hp (h : n_on U base below) {V : State} (h1 : V.status = U.status) (h2 : V.curStatus? = U.curStatus?) (h3 : V.alone = U.alone) (h4 : V.cur = U.cur) (h5 : V.threads = U.threads) : n_on V base below := ⟨h1.trans h.1, h2.trans h.2.1, h3.trans h.2.2.1, by rw [h4, h5]; exact h.2.2.2.1, h.2.2.2.2⟩
theorem n_on.cell (h : n_on U base below) (a : Addr) (x : Cell) : n_on (U.setCell a x) base below := ⟨h.1, h.2.1, h.2.2.1, h.2.2.2.1, h.2.2.2.2⟩
/-- one step from a note over the base -/
theorem n_step (h : n_on U base below) {tb : Tables} {f : Frame} {target : State} (hw : Within (U.setFrames (f :: base)) below) (k : Steps tb e below (stepThread tb e (U.setFrames (f :: base))).1 target) : Steps tb e below (U.setFrames (f :: base)) target := Steps.head (h.goes _) hw k
/-- the exception passes the native's frame -/
theorem n_pass {tb : Tables} {nf : NFrame} {g : JFrame} {r : List Frame} {a : Addr} {target : State} (h : n_on U (.native nf :: .java g :: below) below) (h1 : nf.awaiting = false) (h2 : nf.locked = none)
    (k : Steps tb e below (U.setFrames (.throwing a :: .java g :: below)) target) : Steps tb e below (U.setFrames (.throwing a :: .native nf :: .java g :: below)) target := by
  refine n_step h ⟨[.throwing a, .native nf, .java g], by rw [h.fr]; rfl, by simp, by simp⟩ ?_
  rw [stepThread_throwing (h.fr _)]
  have e1 : stepThrowing e (U.setFrames (.throwing a :: .native nf :: .java g :: below)) a (.native nf :: .java g :: below) = ((U.setFrames (.throwing a :: .native nf :: .java g :: below)).setFrames (.throwing a :: .java g :: below), (stepThrowing e (U.setFrames (.throwing a :: .native nf :: .java g :: below)) a (.native nf :: .java g :: below)).2) := by
    unfold stepThrowing
    simp only [h1, h2, Bool.false_eq_true, if_false]
    rfl
  rw [e1, State.setFrames_setFrames]
  exact k

/-- the constructor's frame over the note -/
theorem n_inS {W : State} (h : n_on W base below) (a str : Addr) {m : MethodId} {meth : Method} {code : Code} (hm : W.vm.method? m = some meth) (hc : meth.code = some code) (hpl : W.plainMethod m) :
    At ((W.setFrames (.thenThrow a :: base)).pushFrame (.java (passJ m a (.ref str) 0 []))) m code below ∧ ((W.setFrames (.thenThrow a :: base)).pushFrame (.java (passJ m a (.ref str) 0 []))).frames = .java (passJ m a (.ref str) 0 []) :: .thenThrow a :: base := by
  obtain ⟨mid, hmid⟩ := h.2.2.2.2
  have hf := h.fr (.thenThrow a :: base)
  have hcur : (W.setFrames (.thenThrow a :: base)).cur < (W.setFrames (.thenThrow a :: base)).threads.size := State.cur_lt_of_frames hf
  refine ⟨At.pushOn _ (h.goes _) hcur ⟨.thenThrow a :: mid, by rw [hf, hmid]; rfl⟩ hm hc hpl, ?_⟩
  have e1 : ((W.setFrames (.thenThrow a :: base)).pushFrame (.java (passJ m a (.ref str) 0 []))).frames = .java (passJ m a (.ref str) 0 []) :: (W.setFrames (.thenThrow a :: base)).frames := State.frames_setFrames _ hcur
  rw [e1, hf]
/-- the constructor has returned: the object is thrown over the base -/
theorem n_retS {tb : Tables} [Ours tb] {W target : State} (h : n_on W base below) (hexec : tb.exec = Jvm.exec) {H : State → State} (hH : HeapOnly H) (a str : Addr) {m : MethodId} {meth : Method} {code : Code} (hm : W.vm.method? m = some meth) (hc : meth.code = some code) (hpl : W.plainMethod m) (hl : meth.locks = false) (hr : decode code.code 5 = .ok (.return_, 1))
    (k : Steps tb e below ((H W).setFrames (.throwing a :: base)) target) : Steps tb e below ((H ((W.setFrames (.thenThrow a :: base)).pushFrame (.java (passJ m a (.ref str) 0 [])))).setTop (passJ m a (.ref str) 5 [])) target := by
  obtain ⟨hI, hfI⟩ := n_inS h a str hm hc hpl
  obtain ⟨mid, hmid⟩ := h.2.2.2.2
  have hB : At (H ((W.setFrames (.thenThrow a :: base)).pushFrame (.java (passJ m a (.ref str) 0 [])))) m code below := hH.at_ hI
  jvm_step hB [hexec, hr, return_.wp_sem]
  intro acts2
  have hfH : (H ((W.setFrames (.thenThrow a :: base)).pushFrame (.java (passJ m a (.ref str) 0 [])))).frames = .java (passJ m a (.ref str) 0 []) :: .thenThrow a :: base := by rw [hH.frames]; exact hfI
  rw [ret_to (t := H ((W.setFrames (.thenThrow a :: base)).pushFrame (.java (passJ m a (.ref str) 0 [])))) (f := passJ m a (.ref str) 5 []) (f₀ := passJ m a (.ref str) 0 []) (below := .thenThrow a :: base) (fs := .thenThrow a :: base) (meth := meth) hfH (by rw [hH.vm]; exact hm) hl rfl rfl rfl acts2]
  have e1 : ∀ F, (H ((W.setFrames (.thenThrow a :: base)).pushFrame (.java (passJ m a (.ref str) 0 [])))).setFrames F = (H W).setFrames F := by
    intro F
    rw [State.pushFrame, hH.setFrames, hH.setFrames, State.setFrames_setFrames, State.setFrames_setFrames]
  have hf1 : ((H ((W.setFrames (.thenThrow a :: base)).pushFrame (.java (passJ m a (.ref str) 0 [])))).setFrames (.thenThrow a :: base)).frames = .thenThrow a :: base := State.frames_setFrames _ (State.cur_lt_of_frames hfH)
  refine Steps.head ⟨hB.running, by simpa using hB.runnable, by simpa using hB.alone⟩ ⟨.thenThrow a :: mid, by rw [hf1, hmid]; rfl, by simp, by simp⟩ ?_
  rw [stepThread_thenThrow hf1]
  show Steps tb e below (((H ((W.setFrames (.thenThrow a :: base)).pushFrame (.java (passJ m a (.ref str) 0 [])))).setFrames (.thenThrow a :: base)).setFrames (.throwing a :: base)) target
  rw [State.setFrames_setFrames, e1]
  exact k
/-- the constructor, from its call to the throw -/
theorem n_ctorS {tb : Tables} [Ours tb] {s₀ W : State} (h : n_on W base below) (hexec : tb.exec = Jvm.exec) {H : State → State} (hH : HeapOnly H) (P1 : PassC) (L1 : P1.LinksS e.platform s₀) (hW : s₀.WarmedH W.vm) (a str : Addr)
    (hroom : e.platform.stackFull (((W.setFrames (.thenThrow a :: base)).threads[(W.setFrames (.thenThrow a :: base)).cur]?).getD { frames := [] }) (W.setFrames (.thenThrow a :: base)).frames 2 = false)
    (hsup : ∀ vm1, s₀.WarmedH vm1 → At (((W.setVm vm1).setFrames (.thenThrow a :: base)).pushFrame (.java (passJ P1.m a (.ref str) 0 []))) P1.m P1.code below → ∃ vm2, s₀.WarmedH vm2 ∧ ∀ t' : State,
      Steps tb e below ((H (((W.setVm vm2).setFrames (.thenThrow a :: base)).pushFrame (.java (passJ P1.m a (.ref str) 0 [])))).setTop (passJ P1.m a (.ref str) 5 [])) t' →
      Steps tb e below (doInvoke e ((((W.setVm vm1).setFrames (.thenThrow a :: base)).pushFrame (.java (passJ P1.m a (.ref str) 0 []))).setTop (passJ P1.m a (.ref str) 2 [])) [] P1.sup #[.ref a, .ref str]).1 t') :
    ∃ vm', s₀.WarmedH vm' ∧ ∀ target, Steps tb e below ((H (W.setVm vm')).setFrames (.throwing a :: base)) target → Steps tb e below (doInvoke e (W.setFrames (.thenThrow a :: base)) [] P1.m #[.ref a, .ref str]).1 target := by
  obtain ⟨hI, hfI⟩ := n_inS h a str (hW.methodAt L1.method) L1.code (hW.plainAt L1.plain)
  obtain ⟨vm1, hW1, st1⟩ := Steps.invokeInitCold (tb := tb) (s₀ := s₀) (U := (W.setFrames (.thenThrow a :: base)).pushFrame (.java (passJ P1.m a (.ref str) 0 []))) (f := passJ P1.m a (.ref str) 2 [.ref str, .ref a]) (args := [.ref str]) (rest := []) (a := a) hI hexec L1.at2 hW L1.links L1.right L1.notHandle L1.cls L1.file L1.pool
    L1.supClass L1.supMethod L1.supName L1.supStatic L1.supAbstract L1.supFound L1.supParams.symm rfl
  obtain ⟨vm2, hW2, st2⟩ := hsup vm1 hW1 (hI.setVm (hW.alike.symm.trans hW1.alike))
  refine ⟨vm2, hW2, fun target k => ?_⟩
  rw [(doInvoke_java (s := W.setFrames (.thenThrow a :: base)) (e := e) (acts := []) (args := #[.ref a, .ref str]) (meth := P1.meth) (code := P1.code) (hW.methodAt L1.method) L1.code L1.locks (by rw [L1.locals]; exact hroom)).1, L1.locals]
  show Steps tb e below ((W.setFrames (.thenThrow a :: base)).pushFrame (.java (passJ P1.m a (.ref str) 0 []))) target
  rw [← State.setTop_self (s := (W.setFrames (.thenThrow a :: base)).pushFrame (.java (passJ P1.m a (.ref str) 0 []))) (State.topJava?_of_frames hfI)]
  jvm_step hI [hexec, L1.at0, Value.isRef]
  jvm_step hI [hexec, L1.at1, Value.isRef]
  refine st1 target (st2 target ?_)
  exact n_retS (W := W.setVm vm2) (h.vm vm2) hexec hH a str (hW2.methodAt L1.method) L1.code (hW2.plainAt (U := W.setVm vm2) L1.plain) L1.locks L1.at5 k

/-- the constructor's frame over the note -/
theorem n_in0 {W : State} (h : n_on W base below) (a : Addr) {m : MethodId} {meth : Method} {code : Code} (hm : W.vm.method? m = some meth) (hc : meth.code = some code) (hpl : W.plainMethod m) :
    At ((W.setFrames (.thenThrow a :: base)).pushFrame (.java (pass0J m a 0 []))) m code below ∧ ((W.setFrames (.thenThrow a :: base)).pushFrame (.java (pass0J m a 0 []))).frames = .java (pass0J m a 0 []) :: .thenThrow a :: base := by
  obtain ⟨mid, hmid⟩ := h.2.2.2.2
  have hf := h.fr (.thenThrow a :: base)
  have hcur : (W.setFrames (.thenThrow a :: base)).cur < (W.setFrames (.thenThrow a :: base)).threads.size := State.cur_lt_of_frames hf
  refine ⟨At.pushOn _ (h.goes _) hcur ⟨.thenThrow a :: mid, by rw [hf, hmid]; rfl⟩ hm hc hpl, ?_⟩
  have e1 : ((W.setFrames (.thenThrow a :: base)).pushFrame (.java (pass0J m a 0 []))).frames = .java (pass0J m a 0 []) :: (W.setFrames (.thenThrow a :: base)).frames := State.frames_setFrames _ hcur
  rw [e1, hf]
/-- the constructor has returned: the object is thrown over the base -/
theorem n_ret0 {tb : Tables} [Ours tb] {W target : State} (h : n_on W base below) (hexec : tb.exec = Jvm.exec) {H : State → State} (hH : HeapOnly H) (a : Addr) {m : MethodId} {meth : Method} {code : Code} (hm : W.vm.method? m = some meth) (hc : meth.code = some code) (hpl : W.plainMethod m) (hl : meth.locks = false) (hr : decode code.code 4 = .ok (.return_, 1))
    (k : Steps tb e below ((H W).setFrames (.throwing a :: base)) target) : Steps tb e below ((H ((W.setFrames (.thenThrow a :: base)).pushFrame (.java (pass0J m a 0 [])))).setTop (pass0J m a 4 [])) target := by
  obtain ⟨hI, hfI⟩ := n_in0 h a hm hc hpl
  obtain ⟨mid, hmid⟩ := h.2.2.2.2
  have hB : At (H ((W.setFrames (.thenThrow a :: base)).pushFrame (.java (pass0J m a 0 [])))) m code below := hH.at_ hI
  jvm_step hB [hexec, hr, return_.wp_sem]
  intro acts2
  have hfH : (H ((W.setFrames (.thenThrow a :: base)).pushFrame (.java (pass0J m a 0 [])))).frames = .java (pass0J m a 0 []) :: .thenThrow a :: base := by rw [hH.frames]; exact hfI
  rw [ret_to (t := H ((W.setFrames (.thenThrow a :: base)).pushFrame (.java (pass0J m a 0 [])))) (f := pass0J m a 4 []) (f₀ := pass0J m a 0 []) (below := .thenThrow a :: base) (fs := .thenThrow a :: base) (meth := meth) hfH (by rw [hH.vm]; exact hm) hl rfl rfl rfl acts2]
  have e1 : ∀ F, (H ((W.setFrames (.thenThrow a :: base)).pushFrame (.java (pass0J m a 0 [])))).setFrames F = (H W).setFrames F := by
    intro F
    rw [State.pushFrame, hH.setFrames, hH.setFrames, State.setFrames_setFrames, State.setFrames_setFrames]
  have hf1 : ((H ((W.setFrames (.thenThrow a :: base)).pushFrame (.java (pass0J m a 0 [])))).setFrames (.thenThrow a :: base)).frames = .thenThrow a :: base := State.frames_setFrames _ (State.cur_lt_of_frames hfH)
  refine Steps.head ⟨hB.running, by simpa using hB.runnable, by simpa using hB.alone⟩ ⟨.thenThrow a :: mid, by rw [hf1, hmid]; rfl, by simp, by simp⟩ ?_
  rw [stepThread_thenThrow hf1]
  show Steps tb e below (((H ((W.setFrames (.thenThrow a :: base)).pushFrame (.java (pass0J m a 0 [])))).setFrames (.thenThrow a :: base)).setFrames (.throwing a :: base)) target
  rw [State.setFrames_setFrames, e1]
  exact k
/-- the constructor, from its call to the throw -/
theorem n_ctor0 {tb : Tables} [Ours tb] {s₀ W : State} (h : n_on W base below) (hexec : tb.exec = Jvm.exec) {H : State → State} (hH : HeapOnly H) (P1 : PassC) (L1 : P1.Links0 e.platform s₀) (hW : s₀.WarmedH W.vm) (a : Addr)
    (hroom : e.platform.stackFull (((W.setFrames (.thenThrow a :: base)).threads[(W.setFrames (.thenThrow a :: base)).cur]?).getD { frames := [] }) (W.setFrames (.thenThrow a :: base)).frames 1 = false)
    (hsup : ∀ vm1, s₀.WarmedH vm1 → At (((W.setVm vm1).setFrames (.thenThrow a :: base)).pushFrame (.java (pass0J P1.m a 0 []))) P1.m P1.code below → ∃ vm2, s₀.WarmedH vm2 ∧ ∀ t' : State,
      Steps tb e below ((H (((W.setVm vm2).setFrames (.thenThrow a :: base)).pushFrame (.java (pass0J P1.m a 0 [])))).setTop (pass0J P1.m a 4 [])) t' →
      Steps tb e below (doInvoke e ((((W.setVm vm1).setFrames (.thenThrow a :: base)).pushFrame (.java (pass0J P1.m a 0 []))).setTop (pass0J P1.m a 1 [])) [] P1.sup #[.ref a]).1 t') :
    ∃ vm', s₀.WarmedH vm' ∧ ∀ target, Steps tb e below ((H (W.setVm vm')).setFrames (.throwing a :: base)) target → Steps tb e below (doInvoke e (W.setFrames (.thenThrow a :: base)) [] P1.m #[.ref a]).1 target := by
  obtain ⟨hI, hfI⟩ := n_in0 h a (hW.methodAt L1.method) L1.code (hW.plainAt L1.plain)
  obtain ⟨vm1, hW1, st1⟩ := Steps.invokeInitCold (tb := tb) (s₀ := s₀) (U := (W.setFrames (.thenThrow a :: base)).pushFrame (.java (pass0J P1.m a 0 []))) (f := pass0J P1.m a 1 [.ref a]) (args := []) (rest := []) (a := a) hI hexec L1.at1 hW L1.links L1.right L1.notHandle L1.cls L1.file L1.pool
    L1.supClass L1.supMethod L1.supName L1.supStatic L1.supAbstract L1.supFound L1.supParams.symm rfl
  obtain ⟨vm2, hW2, st2⟩ := hsup vm1 hW1 (hI.setVm (hW.alike.symm.trans hW1.alike))
  refine ⟨vm2, hW2, fun target k => ?_⟩
  rw [(doInvoke_java (s := W.setFrames (.thenThrow a :: base)) (e := e) (acts := []) (args := #[.ref a]) (meth := P1.meth) (code := P1.code) (hW.methodAt L1.method) L1.code L1.locks (by rw [L1.locals]; exact hroom)).1, L1.locals]
  show Steps tb e below ((W.setFrames (.thenThrow a :: base)).pushFrame (.java (pass0J P1.m a 0 []))) target
  rw [← State.setTop_self (s := (W.setFrames (.thenThrow a :: base)).pushFrame (.java (pass0J P1.m a 0 []))) (State.topJava?_of_frames hfI)]
  jvm_step hI [hexec, L1.at0, Value.isRef]
  refine st1 target (st2 target ?_)
  exact n_ret0 (W := W.setVm vm2) (h.vm vm2) hexec hH a (hW2.methodAt L1.method) L1.code (hW2.plainAt (U := W.setVm vm2) L1.plain) L1.locks L1.at4 k

end NV
section NX
variable {p : Program} {l : Launch} {e : Env} {R : Room} {s : State} {m : MethodId} {args : Array Value} {below : List Frame} {meth : Method} {c : Code} {T : State} {locs : List Loc} {cells slots : Nat}
theorem n_stand (X : Stand p l e R s m args below meth c T locs cells slots) (g : JFrame) (nf : NFrame) : n_on T (.native nf :: .java g :: below) below := by
  obtain ⟨g1, h⟩ := X.frames_eq
  exact ⟨X.here.running, X.here.runnable, X.here.alone, State.cur_lt_of_frames h, [.native nf, .java g], rfl⟩
/-- the stack under a native that calls nothing -/
theorem n_room (X : Stand p l e R s m args below meth c T locs cells slots) {g : JFrame} (hsize : g.locals.size = c.maxLocals) {nf : NFrame} (hnf : nf.words = 0) {K : Nat} (hK : 2 * g.monitorRoom + (g.stack.map fun v => v.category).sum + K ≤ R.locals) : (stackUse (.native nf :: .java g :: below)).2 + K ≤ (e.platform.stackLimits T.me).2 := by
  have h := X.stackAbove hsize hK
  rw [X.tail] at h
  rw [stackUse_light (.native nf) _ (fun f hf => by cases hf) hnf]
  exact h
theorem n_deep (X : Stand p l e R s m args below meth c T locs cells slots) (g : JFrame) (nf : NFrame) {n : Nat} (hn : n + 1 < R.frames) : (Frame.native nf :: .java g :: below).length + n < (e.platform.stackLimits T.me).1 := by
  have h := X.framesAbove hn
  obtain ⟨g1, hf⟩ := X.frames_eq
  rw [hf] at h
  simp only [List.length_cons] at h ⊢
  omega
/-- the machine's two questions, with a native's frame under the note -/
theorem n_may (X : Stand p l e R s m args below meth c T locs cells slots) {g : JFrame} (hsize : g.locals.size = c.maxLocals) {nf : NFrame} (hnf : nf.words = 0) (note : Frame) (hnote : ∀ f, note ≠ .java f) (hw : note.words = 0) (hK : 2 * g.monitorRoom + (g.stack.map fun v => v.category).sum + 10240 ≤ R.locals) :
    e.platform.stackBeyond ((((T.setFrames (note :: .native nf :: .java g :: below)).threads[T.cur]?).map (·.stackBytes)).getD 0) (T.setFrames (note :: .native nf :: .java g :: below)).frames = false ∧
      e.platform.vmThrowRoom ≤ e.platform.stackFree ((((T.setFrames (note :: .native nf :: .java g :: below)).threads[T.cur]?).map (·.stackBytes)).getD 0) (T.setFrames (note :: .native nf :: .java g :: below)).frames := by
  have hb : ((((T.setFrames (note :: .native nf :: .java g :: below)).threads[T.cur]?).map (·.stackBytes)).getD 0) = T.me.stackBytes := by
    rw [← State.stackBytes_setFrames T (note :: .native nf :: .java g :: below)]
    exact State.stackBytes_me (T.setFrames (note :: .native nf :: .java g :: below))
  have hA := n_room X hsize hnf hK
  have hlimit : (e.platform.stackLimits T.me).2 = (e.platform.limitsFor T.me.stackBytes).2 := rfl
  rw [hb, (n_stand X g nf).fr, Launch.admits_vmThrowRoom X.admits]
  unfold Platform.stackBeyond Platform.stackFree
  rw [stackUse_light _ _ hnote hw]
  refine ⟨decide_eq_false (by omega), by omega⟩
/-- what the machine has made over a native's frame -/
def x_MadeN (p : Program) (l : Launch) (e : Env) (R : Room) (s : State) (m : MethodId) (args : Array Value) (below : List Frame) (meth : Method) (c : Code) (T : State) (locs : List Loc) (cells slots : Nat) (g : JFrame) (C : String) (k : Nat) (from_ : State → Prop) : Prop :=
  ∃ T' : State, Stand p l e R s m args below meth c T' locs (cells + (k + 1)) (slots + 800) ∧ T'.heap.size = T.heap.size + (k + 1) ∧ (∀ q, q < T.heap.size → T'.heap[q]? = T.heap[q]?) ∧
    (∃ cell : Cell, T'.heap[T.heap.size + k]? = some cell ∧ T.vm.findClass C = some cell.cls ∧ cell.vm = .none) ∧ ∀ target, Steps p.tables e below ((T'.setTop g).pushFrame (.throwing (T.heap.size + k))) target → from_ target
set_option maxHeartbeats 4000000 in
theorem n_msg (X : Stand p l e R s m args below meth c T locs cells slots) (hexec : p.tables.exec = Jvm.exec) (htr : e.platform.stackTraces = false) {C : String} {names : List String} {text : String}
    (hcls : Bundle.fit C = true) (hnames : ∀ n ∈ names, Bundle.fit n = true) (hsoe : (C == "java/lang/StackOverflowError") = false) (hoom : (C == "java/lang/OutOfMemoryError") = false)
    (h : ∀ w ∈ Bundle.messageArmAtoms C names, w.before args T = true) (htext : (text == notModelled) = false) (hsz : text.toList.length ≤ 190)
    {g : JFrame} (hg : g.method = m) (hsize : g.locals.size = c.maxLocals) {nf : NFrame} (hn1 : nf.words = 0) (hn2 : nf.awaiting = false) (hn3 : nf.locked = none) (hRf : names.length + 5 < R.frames) (hRl : 2 * g.monitorRoom + (g.stack.map fun v => v.category).sum + 10240 ≤ R.locals) (hsh : names.length ≤ 10) (hRc : cells + 3 ≤ R.cells) (hRs : slots + 800 ≤ R.slots) :
    x_MadeN p l e R s m args below meth c T locs cells slots g C 2 (fun target => Steps p.tables e below (T.setFrames (.throwNew C (some text) none :: .native nf :: .java g :: below)) target) := by
  have b0 := x_size text
  have howns : e.platform.frameOwnsMonitors = true := by rw [X.admits.platform]
  have hfin : e.platform.finalization = false := by rw [X.admits.platform]
  have hpl : e.platform.magicAccessors = ({} : Platform).magicAccessors := by rw [X.admits.platform]
  have w : ∀ x, x ∈ Bundle.messageArmAtoms C names → x.holds args T none T [] = true := fun x hx => h x hx
  obtain ⟨Tc, Z0, Lt, -, Y⟩ := ThrowableC.of_atoms (args := args) (s := T) howns hfin hpl (fun x hx => h x (by simp [Bundle.messageArmAtoms, hx]))
  obtain ⟨Z, M, LZ, LM, hnZ⟩ := Init0T.ofS_atoms (args := args) hpl Lt Y (fun x hx => h x (by simp [Bundle.messageArmAtoms, hx]))
  obtain ⟨P1, Ps, hlen, L1, hL, hP1, hl1, hl2⟩ := Bundle.chainS (args := args) hpl hnZ names C hcls hnames (fun x hx => h x (by simp [Bundle.messageArmAtoms, hx]))
  obtain ⟨Zs, LZs, hn4, hfv, hfc⟩ := StringT.of_atoms (args := args) (fun x hx => h x (by simp [Bundle.messageArmAtoms, hx]))
  have hfound : T.vm.findClass C = some P1.m.cls := findClass_of_methodNamed hP1
  obtain ⟨c1, kX, hc1, hk, hord, -, -, hn6⟩ := Cond.instantiable_spec (w (.instantiable C 6) (by simp [Bundle.messageArmAtoms]))
  cases hc1.symm.trans hfound
  have hinit := Cond.initialized_spec hfound hk (w (.initialized C) (by simp [Bundle.messageArmAtoms]))
  have hctor : kX.findMethod "<init>" "(Ljava/lang/String;)V" = some P1.m.idx := findMethod_of_methodNamed hP1 hk
  have sel : ∀ (x : MethodName) (r : MethodId), (x.cls ≠ "java/lang/invoke/MethodHandle" ∧ x.cls ≠ "java/lang/invoke/VarHandle") → T.methodNamed? x = some r → (Cond.selects C x x).holds args T none T [] = true → selectMethod e.platform T.vm P1.m.cls r = .method r := by
    intro x r hx hr hs
    obtain ⟨c2, r2, m2, q1, q2, q3, q4, -⟩ := Cond.selects_spec hs
    cases q1.symm.trans hfound
    cases q2.symm.trans (State.methodFound?_of_named hr hx)
    cases q3.symm.trans hr
    rw [Launch.admits_selectMethod X.admits]; exact q4
  have hsel0 := sel _ _ (by decide) Y.fill0 (w (.selects C Bundle.tFill0 Bundle.tFill0) (by simp [Bundle.messageArmAtoms]))
  have hselF := sel _ _ (by decide) Y.fill (w (.selects C Bundle.tFill Bundle.tFill) (by simp [Bundle.messageArmAtoms]))
  obtain ⟨cS, hcS, hiss⟩ := Y.statics
  obtain ⟨u0, hu0⟩ := Cond.staticRefV Y.unassigned Lt.unassignedStatic Lt.statics hcS hiss (w (.isRef (.static Bundle.tN "UNASSIGNED_STACK" Bundle.steD)) (by simp [Bundle.messageArmAtoms]))
  obtain ⟨sen, hsen⟩ := Cond.staticRefV Y.sentinel Lt.sentinelStatic Lt.statics hcS hiss (w (.isRef (.static Bundle.tN "SUPPRESSED_SENTINEL" Bundle.listD)) (by simp [Bundle.messageArmAtoms]))
  obtain ⟨ci, i1, fB, k1, k2, k3, k4, -, hnB, htB, hffB⟩ := Cond.ownField (t := .object "java/lang/Object") Y.found Lt.cls (by decide +kernel) (w (.fieldLink Bundle.tN 198 Bundle.tN "backtrace" "Ljava/lang/Object;") (by simp [Bundle.messageArmAtoms])) (w (.lays Bundle.tN Bundle.tN "backtrace" "Ljava/lang/Object;") (by simp [Bundle.messageArmAtoms])) e.platform hpl
  have hkn : cS.vm ≠ .unknown := by
    intro hu
    rw [hu] at hiss
    cases hiss
  obtain ⟨iM, hffM⟩ := Y.msg
  obtain ⟨tC, dC, eC, nC⟩ := Cond.laysAt hfound hk Y.cause (w (.lays C Bundle.tN "cause" "Ljava/lang/Throwable;") (by simp [Bundle.messageArmAtoms]))
  obtain ⟨tS, dS, eS, nS⟩ := Cond.laysAt hfound hk Y.stack (w (.lays C Bundle.tN "stackTrace" Bundle.steD) (by simp [Bundle.messageArmAtoms]))
  obtain ⟨tP, dP, eP, nP⟩ := Cond.laysAt hfound hk Y.supp (w (.lays C Bundle.tN "suppressedExceptions" Bundle.listD) (by simp [Bundle.messageArmAtoms]))
  obtain ⟨tM, dM, eM, nM⟩ := Cond.laysAt hfound hk hffM (w (.lays C Bundle.tN "detailMessage" "Ljava/lang/String;") (by simp [Bundle.messageArmAtoms]))
  obtain ⟨tB, dB, eB, nB⟩ := Cond.laysAt hfound hk hffB (w (.lays C Bundle.tN "backtrace" "Ljava/lang/Object;") (by simp [Bundle.messageArmAtoms]))
  have aC := Cond.laysApart eB eC nB nC (by rw [hnB, Y.causeName]; decide)
  have aS := Cond.laysApart eB eS nB nS (by rw [hnB, Y.stackName]; decide)
  have aP := Cond.laysApart eB eP nB nP (by rw [hnB, Y.suppName]; decide)
  have hskip : SkipFacts Tc e.platform T (fun u => u) u0 ((preparedCellV Tc.toThrowableT (freshCell P1.m.cls kX) (T.heap.size + 2) u0 sen).withEntry T.cur) :=
    ⟨{ ci198 := ci, i198 := i1, fBack := fB }, ⟨k1, k2, k3, k4⟩, by
      have := fresh_default (c := P1.m.cls) tB
      rw [htB] at this
      simpa [preparedCellV, Cell.setSlot, Cell.withEntry, Array.getElem?_setIfInBounds, aC, aS, aP, aC.symm, aS.symm, aP.symm, defaultValue] using this, fun _ _ => rfl⟩
  have hO := n_stand X g nf
  obtain ⟨hbey, hfree⟩ := n_may X hsize hn1 (.throwNew C (some text) none) (fun f hf => by cases hf) rfl hRl
  have hfr' : (Frame.native nf :: .java g :: below).length + Ps.length + 4 < (e.platform.stackLimits T.me).1 := by have := n_deep X g nf (n := Ps.length + 4) (by omega); omega
  have hwd' : (stackUse (.native nf :: .java g :: below)).2 + 13 * Ps.length + 55 ≤ (e.platform.stackLimits T.me).2 := by have := n_room X hsize hn1 (K := 13 * Ps.length + 55) (by omega); omega
  have hsl : T.slotsUsed + (stringBytes (stringToUtf16 text)).size + Zs.kS.instanceTypes.size + kX.instanceTypes.size ≤ e.platform.maxSlots := by have := X.slotsAbove hRs; omega
  obtain ⟨w1, w2, w3', w4', w5', -, w7⟩ := withThrown_facts e.platform T Zs text P1.m.cls kX
  have hOW : n_on (withThrown T Zs text P1.m.cls kX) (.native nf :: .java g :: below) below := hO.hp rfl rfl rfl rfl rfl
  have hltS : Tc.aS < T.heap.size := (Array.getElem?_eq_some_iff.mp hcS).1
  have hlimN : e.platform.stackLimits ((withThrown T Zs text P1.m.cls kX).setFrames (.thenThrow (T.heap.size + 2) :: .native nf :: .java g :: below)).me = e.platform.stackLimits T.me := by rw [State.stackLimits_setFrames]; exact w7
  have hroom := roomAbove (pl := e.platform) (u := (withThrown T Zs text P1.m.cls kX).setFrames (.thenThrow (T.heap.size + 2) :: .native nf :: .java g :: below)) (vars := 2) (pushed := [.thenThrow (T.heap.size + 2)]) (base := .native nf :: .java g :: below) (free := 13 * Ps.length + 55) (lim := e.platform.stackLimits T.me) (hOW.fr _) hlimN
    (by simp only [List.length_cons, List.length_nil] at hfr' ⊢; omega) (by omega) (by rw [stackUse_light _ _ (fun f hf => by cases hf) rfl, stackUse_nil]; show 0 + 2 + 11 ≤ _; omega)
  obtain ⟨vm', hW'', st0⟩ := n_ctorS (tb := p.tables) (e := e) (s₀ := T) (W := withThrown T Zs text P1.m.cls kX) hOW hexec (H := fun u => u.setCell (T.heap.size + 2) (((((preparedCellV Tc.toThrowableT (freshCell P1.m.cls kX) (T.heap.size + 2) u0 sen).withEntry T.cur)).setSlot Tc.fStack.slot u0.v).left.setSlot Tc.fMsg.slot (.ref (T.heap.size + 1)))) (heapOnly_id.thenSetCell (T.heap.size + 2) _) P1 L1 (by rw [w1]; exact State.WarmedH.refl T) (T.heap.size + 2) (T.heap.size + 1) hroom (fun vm1 hW1 hI1 => by
    rw [hl1]
    obtain ⟨-, hfI⟩ := n_inS (hOW.vm vm1) (T.heap.size + 2) (T.heap.size + 1) (hW1.methodAt L1.method) L1.code (hW1.plainAt (U := (withThrown T Zs text P1.m.cls kX).setVm vm1) L1.plain)
    have hXvm : ∀ w, ((((withThrown T Zs text P1.m.cls kX).setVm vm1).setFrames (.thenThrow (T.heap.size + 2) :: .native nf :: .java g :: below)).pushFrame (.java (passJ P1.m (T.heap.size + 2) (.ref (T.heap.size + 1)) 0 []))).setVm w = ((((withThrown T Zs text P1.m.cls kX).setVm w).setFrames (.thenThrow (T.heap.size + 2) :: .native nf :: .java g :: below)).pushFrame (.java (passJ P1.m (T.heap.size + 2) (.ref (T.heap.size + 1)) 0 []))) := fun w => by rw [State.pushFrame_setVm, State.setFrames_setVm, State.setVm_twice]
    obtain ⟨vm2, hW2, st2⟩ := Steps.initThrowableSColdByV p (s₀ := T) (V := (((withThrown T Zs text P1.m.cls kX).setVm vm1).setFrames (.thenThrow (T.heap.size + 2) :: .native nf :: .java g :: below)).pushFrame (.java (passJ P1.m (T.heap.size + 2) (.ref (T.heap.size + 1)) 0 []))) (g := passJ P1.m (T.heap.size + 2) (.ref (T.heap.size + 1)) 2 []) (c := P1.code) (self := T.heap.size + 2) hI1 hexec Tc Lt Z LZ M LM hW1 (t := T.cur) (show (withThrown T Zs text P1.m.cls kX).cur = T.cur by simp [withThrown, withString])
      (Nn := fun u => u) heapOnly_id (fun _ _ => rfl) (fun _ => rfl) (fun u x y => setCell_twice _ _ _ _) (fun _ => Nat.le_refl _) (u0 := u0) (sen := sen) (msg := .ref (T.heap.size + 1)) rfl (cell := freshCell P1.m.cls kX) (cellS := cS) (cN := ((preparedCellV Tc.toThrowableT (freshCell P1.m.cls kX) (T.heap.size + 2) u0 sen).withEntry T.cur))
      w4' (by intro k hk'; cases hk') (by intro hk'; cases hk') rfl hsel0 ((w5' _ hltS).trans hcS) (Nat.ne_of_lt (Nat.lt_of_lt_of_le hltS (Nat.le_add_right _ 2))) hkn hu0 (Takes.of_laid hk hord tS (by rw [Y.stackType]; exact fits_refV_array _ u0)) (fun _ hu => hu) (fun _ hu => hu) rfl rfl rfl (by simp [preparedCellV, Cell.setSlot, Cell.withEntry]) hskip (fun _ _ hA hW _ hroom _ hrest => Lt.nativeOff p htr hA hW hroom hrest) hselF hsen
      (Takes.of_laid hk hord tC (by rw [Y.causeType]; rfl)) (Takes.of_laid hk hord tP (by rw [Y.suppType]; exact fits_refV_object _ sen)) (Takes.of_laid hk hord tM (by rw [Y.msgType]; rfl)) Y.objLocals Ps hL hl2 (ig := .invokespecial P1.index) (len := 3) [] (lim := e.platform.stackLimits T.me) (by rw [State.stackLimits_pushFrame, State.stackLimits_setFrames]; exact w7)
      (by rw [hfI]; simp only [List.length_cons] at hfr' ⊢; omega)
      (by rw [hfI, List.tail_cons, stackUse_java, stackUse_light _ _ (fun f hf => by cases hf) rfl]
          show (stackUse (Frame.native nf :: .java g :: below)).2 + (2 + 11 + 2 * 0 + operandWords []) + 13 * Ps.length + 42 ≤ (e.platform.stackLimits T.me).2
          simp only [operandWords, List.foldl_nil]
          omega)
      L1.at2
    refine ⟨vm2, hW2, fun t' h' => st2 t' ?_⟩
    rw [hXvm]
    exact h')
  have hW' : T.WarmedH vm' := hW''
  have st : ∀ target, Steps p.tables e below ((((withThrown T Zs text P1.m.cls kX).setVm vm').setCell (T.heap.size + 2) (((((preparedCellV Tc.toThrowableT (freshCell P1.m.cls kX) (T.heap.size + 2) u0 sen).withEntry T.cur)).setSlot Tc.fStack.slot u0.v).left.setSlot Tc.fMsg.slot (.ref (T.heap.size + 1)))).setFrames (.throwing (T.heap.size + 2) :: .java g :: below)) target → Steps p.tables e below (T.setFrames (.throwNew C (some text) none :: .native nf :: .java g :: below)) target := fun target hgo => by
    refine n_step hO ⟨[.throwNew C (some text) none, .native nf, .java g], by rw [hO.fr]; rfl, by simp, by simp⟩ ?_
    rw [stepThread_throwNew (hO.fr _), stepThrowNew_message (s := T.setFrames (.throwNew C (some text) none :: .native nf :: .java g :: below)) (c := P1.m.cls) (k := kX) (i := P1.m.idx) Zs LZs hsoe hoom hfound hk hinit hord (Launch.admits_hotImplicitExceptions X.admits) hbey hfree htext hctor (by rw [Launch.admits_arrayLengthLimit X.admits]; omega) (by rw [Launch.admits_maxHeapBytes X.admits]; simp only [componentBytes]; omega) (X.cellsAbove hRc) hsl (hfv _) (hfc _)]
    have e1 : (withThrown (T.setFrames (.throwNew C (some text) none :: .native nf :: .java g :: below)) Zs text P1.m.cls kX).setFrames (.thenThrow ((T.setFrames (.throwNew C (some text) none :: .native nf :: .java g :: below)).heap.size + 2) :: .native nf :: .java g :: below) = (withThrown T Zs text P1.m.cls kX).setFrames (.thenThrow (T.heap.size + 2) :: .native nf :: .java g :: below) := by
      rw [withThrown_setFrames, State.setFrames_setFrames]
      rfl
    rw [e1]
    refine st0 target ?_
    exact n_pass (r := below) ((hOW.vm vm').cell _ _) hn2 hn3 hgo
  rw [plainBareV_eq Tc.toThrowableT (T.heap.size + 2) u0 sen (.ref (T.heap.size + 1)) T.cur rfl rfl] at st
  obtain ⟨-, -, w3, w4, w5, -, -⟩ := withThrown_facts e.platform T Zs text P1.m.cls kX
  have X3 := ((X.pushed (bytesOf Zs.cB (stringToUtf16 text))).pushed (stringAt Zs.cS Zs.kS Zs.fv Zs.fc (stringToUtf16 text) T.heap.size)).pushed (freshCell P1.m.cls kX)
  rw [← withString_eq] at X3
  have X4 := X3.noted (State.WarmedH.trans X.warmed hW')
  have ha : (T.heap.size + 2) < ((withThrown T Zs text P1.m.cls kX).setVm vm').heap.size := by show _ < (withThrown T Zs text P1.m.cls kX).heap.size; rw [w3]; omega
  have hcell : ((withThrown T Zs text P1.m.cls kX).setVm vm').heap[(T.heap.size + 2)]? = some (freshCell P1.m.cls kX) := w4
  have X5 := ((((X4.stored hcell Tc.fCause.slot (.ref (T.heap.size + 2))).storedAgain ha Tc.fStack.slot u0.v).storedAgain ha Tc.fSupp.slot sen.v).storedAgain ha Tc.fStack.slot u0.v).storedAgain ha Tc.fMsg.slot (.ref (T.heap.size + 1))
  have b1 : (bytesOf Zs.cB (stringToUtf16 text)).slots.size = (stringBytes (stringToUtf16 text)).size := by
    rw [(Cell.writeAll_facts _ _).2.2]; simp [bytes0]
  have b2 : (stringAt Zs.cS Zs.kS Zs.fv Zs.fc (stringToUtf16 text) T.heap.size).slots.size = 4 := by simp [string0, Cell.setSlot, hn4]
  have b3 : (freshCell P1.m.cls kX).slots.size = 6 := by simp [hn6]
  rw [b1, b2, b3] at X5
  have hge : s.heap.size ≤ T.heap.size := X.same.2.1
  have X6 : Stand p l e R s m args below meth c (((withThrown T Zs text P1.m.cls kX).setVm vm').setCell (T.heap.size + 2) (plainBareV Tc.toThrowableT (freshCell P1.m.cls kX) (T.heap.size + 2) u0 sen (.ref (T.heap.size + 1)))) locs (cells + 3) (slots + 800) :=
    { X5 with same := X5.same.weaken (fun y hy hlt => by
        simp only [List.append_assoc, List.cons_append, List.nil_append] at hy
        rcases List.mem_append.mp hy with h1 | h1
        · exact h1
        · exfalso
          have hb : y.base = T.heap.size + 2 := by
            simp only [List.mem_cons, List.not_mem_nil, or_false] at h1
            rcases h1 with rfl | rfl | rfl | rfl | rfl <;> rfl
          exact absurd hlt (by rw [hb]; exact Nat.not_lt.mpr (by first | exact hge | exact Nat.le_trans hge (Nat.le_add_right _ 2)))) (by omega) (by omega) }
  have hsz' : (((withThrown T Zs text P1.m.cls kX).setVm vm').setCell (T.heap.size + 2) (plainBareV Tc.toThrowableT (freshCell P1.m.cls kX) (T.heap.size + 2) u0 sen (.ref (T.heap.size + 1)))).heap.size = T.heap.size + 3 := by
    simpa [State.setCell] using w3
  refine ⟨_, X6, hsz', fun q hq => ?_, ⟨_, heapAt_setCell_self (s := (withThrown T Zs text P1.m.cls kX).setVm vm') _ ha, ?_, rfl⟩, fun target hgo => ?_⟩
  · rw [heapAt_setCell_ne _ (Nat.ne_of_gt (Nat.lt_of_lt_of_le hq (Nat.le_add_right _ 2)))]
    exact w5 q hq
  · exact hfound
  · rw [x_note X6] at hgo
    exact st target hgo
set_option maxHeartbeats 4000000 in
theorem n_npe (X : Stand p l e R s m args below meth c T locs cells slots) (hexec : p.tables.exec = Jvm.exec) (htr : e.platform.stackTraces = false)
    (h : ∀ w ∈ Bundle.npeArmAtoms 8, w.before args T = true)
    {g : JFrame} (hg : g.method = m) (hsize : g.locals.size = c.maxLocals) {nf : NFrame} (hn1 : nf.words = 0) (hn2 : nf.awaiting = false) (hn3 : nf.locked = none) (hRf : 8 < R.frames) (hRl : 2 * g.monitorRoom + (g.stack.map fun v => v.category).sum + 10240 ≤ R.locals) (hRc : cells + 1 ≤ R.cells) (hRs : slots + 800 ≤ R.slots) :
    x_MadeN p l e R s m args below meth c T locs cells slots g "java/lang/NullPointerException" 0 (fun target => Steps p.tables e below (T.setFrames (.throwNew "java/lang/NullPointerException" none none :: .native nf :: .java g :: below)) target) := by
  have howns : e.platform.frameOwnsMonitors = true := by rw [X.admits.platform]
  have hfin : e.platform.finalization = false := by rw [X.admits.platform]
  have hpl : e.platform.magicAccessors = ({} : Platform).magicAccessors := by rw [X.admits.platform]
  have hpl2 : e.platform.arrayCloneIsPublic = true := by rw [X.admits.platform]
  have w : ∀ x, x ∈ Bundle.npeArmAtoms 8 → x.holds args T none T [] = true := fun x hx => h x hx
  obtain ⟨Tc, Z, Lt, LZ, Y⟩ := ThrowableC.of_atoms (args := args) (s := T) howns hfin hpl (fun x hx => h x (by simp [Bundle.npeArmAtoms, hx]))
  obtain ⟨N, LN, hcN, hnNF, hord, hffS⟩ := NpeC.of_atoms (args := args) hpl hpl2 Lt Y (fun x hx => h x (by simp [Bundle.npeArmAtoms, hx]))
  obtain ⟨P1, L1, hP1, hS1⟩ := PassC.of_atoms (args := args) (s := T) hpl (X := Bundle.nN) (Y := Bundle.rN) (by decide) (by decide) LibCode.NullPointerException.Init0.at_0 LibCode.NullPointerException.Init0.at_1 LibCode.NullPointerException.Init0.at_4 (fun x hx => h x (by simp [Bundle.npeArmAtoms, hx]))
  obtain ⟨PR, LR, hPR, hSR⟩ := PassC.of_atoms (args := args) (s := T) hpl (X := Bundle.rN) (Y := Bundle.eN) (by decide) (by decide) LibCode.RuntimeException.Init0.at_0 LibCode.RuntimeException.Init0.at_1 LibCode.RuntimeException.Init0.at_4 (fun x hx => h x (by simp [Bundle.npeArmAtoms, hx]))
  obtain ⟨PE, LE, hPE, hSE⟩ := PassC.of_atoms (args := args) (s := T) hpl (X := Bundle.eN) (Y := Bundle.tN) (by decide) (by decide) LibCode.Exception.Init0.at_0 LibCode.Exception.Init0.at_1 LibCode.Exception.Init0.at_4 (fun x hx => h x (by simp [Bundle.npeArmAtoms, hx]))
  have hfound : T.vm.findClass "java/lang/NullPointerException" = some P1.m.cls := findClass_of_methodNamed hP1
  have ecls : N.cN = P1.m.cls := Option.some.inj (hcN.symm.trans hfound)
  have hk : T.vm.classes[P1.m.cls]? = some N.kN := by rw [← ecls]; exact LN.cls
  have hinit := Cond.initialized_spec hfound hk (w (.initialized Bundle.nN) (by simp [Bundle.npeArmAtoms]))
  have hctor : N.kN.findMethod "<init>" "()V" = some P1.m.idx := findMethod_of_methodNamed hP1 hk
  obtain ⟨c1, k1', hc1, hk1, -, -, -, hn8⟩ := Cond.instantiable_spec (w (.instantiable Bundle.nN 8) (by simp [Bundle.npeArmAtoms]))
  cases hc1.symm.trans hfound
  cases hk1.symm.trans hk
  have sel : ∀ (x y : MethodName) (r r' : MethodId), (x.cls ≠ "java/lang/invoke/MethodHandle" ∧ x.cls ≠ "java/lang/invoke/VarHandle") → T.methodNamed? x = some r → T.methodNamed? y = some r' → (Cond.selects Bundle.nN x y).holds args T none T [] = true → selectMethod e.platform T.vm P1.m.cls r = .method r' := by
    intro x y r r' hx hr hr' hs
    obtain ⟨c2, r2, m2, q1, q2, q3, q4, -⟩ := Cond.selects_spec hs
    cases q1.symm.trans hfound
    cases q2.symm.trans (State.methodFound?_of_named hr hx)
    cases q3.symm.trans hr'
    rw [Launch.admits_selectMethod X.admits]; exact q4
  have hsel0 := sel _ _ _ _ (by decide) Y.fill0 Y.fill0 (w (.selects Bundle.nN Bundle.tFill0 Bundle.tFill0) (by simp [Bundle.npeArmAtoms]))
  have hselF := sel _ _ _ _ (by decide) Y.fill hnNF (w (.selects Bundle.nN Bundle.tFill Bundle.nFill) (by simp [Bundle.npeArmAtoms]))
  obtain ⟨cS, hcS, hiss⟩ := Y.statics
  obtain ⟨u0, hu0⟩ := Cond.staticRefV Y.unassigned Lt.unassignedStatic Lt.statics hcS hiss (w (.isRef (.static Bundle.tN "UNASSIGNED_STACK" Bundle.steD)) (by simp [Bundle.npeArmAtoms]))
  obtain ⟨sen, hsen⟩ := Cond.staticRefV Y.sentinel Lt.sentinelStatic Lt.statics hcS hiss (w (.isRef (.static Bundle.tN "SUPPRESSED_SENTINEL" Bundle.listD)) (by simp [Bundle.npeArmAtoms]))
  obtain ⟨ci, i1, fB, k1, k2, k3, k4, -, hnB, htB, hffB⟩ := Cond.ownField (t := .object "java/lang/Object") Y.found Lt.cls (by decide +kernel) (w (.fieldLink Bundle.tN 198 Bundle.tN "backtrace" Bundle.objD) (by simp [Bundle.npeArmAtoms])) (w (.lays Bundle.tN Bundle.tN "backtrace" Bundle.objD) (by simp [Bundle.npeArmAtoms])) e.platform hpl
  have hkn : cS.vm ≠ .unknown := by
    intro hu
    rw [hu] at hiss
    cases hiss
  obtain ⟨tC, dC, eC, nC⟩ := Cond.laysAt hfound hk Y.cause (w (.lays Bundle.nN Bundle.tN "cause" "Ljava/lang/Throwable;") (by simp [Bundle.npeArmAtoms]))
  obtain ⟨tS, dS, eS, nS⟩ := Cond.laysAt hfound hk Y.stack (w (.lays Bundle.nN Bundle.tN "stackTrace" Bundle.steD) (by simp [Bundle.npeArmAtoms]))
  obtain ⟨tP, dP, eP, nP⟩ := Cond.laysAt hfound hk Y.supp (w (.lays Bundle.nN Bundle.tN "suppressedExceptions" Bundle.listD) (by simp [Bundle.npeArmAtoms]))
  obtain ⟨tX, dX, eX, nX⟩ := Cond.laysAt hfound hk hffS (w (.lays Bundle.nN Bundle.nN "extendedMessageState" "I") (by simp [Bundle.npeArmAtoms, Bundle.npeAtoms]))
  obtain ⟨tB, dB, eB, nB⟩ := Cond.laysAt hfound hk hffB (w (.lays Bundle.nN Bundle.tN "backtrace" Bundle.objD) (by simp [Bundle.npeArmAtoms]))
  have hnX : N.fState.name = "extendedMessageState" := (State.fieldFound?_type hffS (t := .int) (by decide +kernel)).1
  have aC := Cond.laysApart eB eC nB nC (by rw [hnB, Y.causeName]; decide)
  have aS := Cond.laysApart eB eS nB nS (by rw [hnB, Y.stackName]; decide)
  have aP := Cond.laysApart eB eP nB nP (by rw [hnB, Y.suppName]; decide)
  have aX := Cond.laysApart eB eX nB nX (by rw [hnB, hnX]; decide)
  have hskip : SkipFacts Tc e.platform T (fun u => u) u0 ((npeCell N.toNpeT (preparedCellV Tc.toThrowableT (freshCell P1.m.cls N.kN) T.heap.size u0 sen) T.cur).withEntry T.cur) :=
    ⟨{ ci198 := ci, i198 := i1, fBack := fB }, ⟨k1, k2, k3, k4⟩, by
      have := fresh_default (c := P1.m.cls) tB
      rw [htB] at this
      simpa [npeCell, preparedCellV, Cell.setSlot, Cell.withEntry, Array.getElem?_setIfInBounds, aC, aS, aP, aX, aC.symm, aS.symm, aP.symm, aX.symm, defaultValue] using this, fun _ _ => rfl⟩
  have hO := n_stand X g nf
  obtain ⟨hbey, hfree⟩ := n_may X hsize hn1 (.throwNew "java/lang/NullPointerException" none none) (fun f hf => by cases hf) rfl hRl
  have hfr' : (Frame.native nf :: .java g :: below).length + [PR, PE].length + 5 < (e.platform.stackLimits T.me).1 := by have := n_deep X g nf (n := 7) (by omega); simp only [List.length_cons, List.length_nil] at this ⊢; omega
  have hwd' : (stackUse (.native nf :: .java g :: below)).2 + 13 * [PR, PE].length + 68 ≤ (e.platform.stackLimits T.me).2 := by have := n_room X hsize hn1 (K := 13 * 2 + 68) (by omega); simp only [List.length_cons, List.length_nil]; omega
  have hl1 : P1.sup = PR.m := Option.some.inj (hS1.symm.trans hPR)
  have hl2 : PR.sup = PE.m := Option.some.inj (hSR.symm.trans hPE)
  have hl3 : PE.sup = Z.m Tc.toThrowableT := Option.some.inj (hSE.symm.trans Y.init0)
  have hLs : ∀ P, P ∈ [PR, PE] → P.Links0 e.platform T := fun P hP => by
    simp only [List.mem_cons, List.not_mem_nil, or_false] at hP
    rcases hP with rfl | rfl
    · exact LR
    · exact LE
  have hOW : n_on (T.pushCell (freshCell P1.m.cls N.kN)) (.native nf :: .java g :: below) below := hO.hp rfl rfl rfl rfl rfl
  have hltS : Tc.aS < T.heap.size := (Array.getElem?_eq_some_iff.mp hcS).1
  have w4' : (T.pushCell (freshCell P1.m.cls N.kN)).heap[T.heap.size]? = some (freshCell P1.m.cls N.kN) := State.heap_pushCell_size T (freshCell P1.m.cls N.kN)
  have w5' : (T.pushCell (freshCell P1.m.cls N.kN)).heap[Tc.aS]? = some cS := by
    rw [← hcS]
    simp [State.pushCell, Array.getElem?_push, Nat.ne_of_lt hltS]
  have hlimN : e.platform.stackLimits ((T.pushCell (freshCell P1.m.cls N.kN)).setFrames (.thenThrow T.heap.size :: .native nf :: .java g :: below)).me = e.platform.stackLimits T.me := by rw [State.stackLimits_setFrames]; rfl
  have hroom := roomAbove (pl := e.platform) (u := (T.pushCell (freshCell P1.m.cls N.kN)).setFrames (.thenThrow T.heap.size :: .native nf :: .java g :: below)) (vars := 1) (pushed := [.thenThrow T.heap.size]) (base := .native nf :: .java g :: below) (free := 13 * [PR, PE].length + 68) (lim := e.platform.stackLimits T.me) (hOW.fr _) hlimN
    (by simp only [List.length_cons, List.length_nil] at hfr' ⊢; omega) (by omega) (by rw [stackUse_light _ _ (fun f hf => by cases hf) rfl, stackUse_nil]; show 0 + 1 + 11 ≤ _; simp only [List.length_cons, List.length_nil]; omega)
  obtain ⟨vm', hW'', st0⟩ := n_ctor0 (tb := p.tables) (e := e) (s₀ := T) (W := T.pushCell (freshCell P1.m.cls N.kN)) hOW hexec (H := fun u => u.setCell T.heap.size (((npeCell N.toNpeT (preparedCellV Tc.toThrowableT (freshCell P1.m.cls N.kN) T.heap.size u0 sen) T.cur).withEntry T.cur).setSlot Tc.fStack.slot u0.v).left.left) (heapOnly_id.thenSetCell T.heap.size _) P1 L1 (State.WarmedH.refl T) T.heap.size hroom (fun vm1 hW1 hI1 => by
    rw [hl1]
    obtain ⟨-, hfI⟩ := n_in0 (hOW.vm vm1) T.heap.size (hW1.methodAt L1.method) L1.code (hW1.plainAt (U := (T.pushCell (freshCell P1.m.cls N.kN)).setVm vm1) L1.plain)
    have hXvm : ∀ w, ((((T.pushCell (freshCell P1.m.cls N.kN)).setVm vm1).setFrames (.thenThrow T.heap.size :: .native nf :: .java g :: below)).pushFrame (.java (pass0J P1.m T.heap.size 0 []))).setVm w = ((((T.pushCell (freshCell P1.m.cls N.kN)).setVm w).setFrames (.thenThrow T.heap.size :: .native nf :: .java g :: below)).pushFrame (.java (pass0J P1.m T.heap.size 0 []))) := fun w => by rw [State.pushFrame_setVm, State.setFrames_setVm, State.setVm_twice]
    obtain ⟨vm2, hW2, st2⟩ := Steps.initNpe0ColdByV p (s₀ := T) (V := (((T.pushCell (freshCell P1.m.cls N.kN)).setVm vm1).setFrames (.thenThrow T.heap.size :: .native nf :: .java g :: below)).pushFrame (.java (pass0J P1.m T.heap.size 0 []))) (g := pass0J P1.m T.heap.size 1 []) (c := P1.code) (self := T.heap.size) hI1 hexec Tc Lt Z LZ N LN hW1 (t := T.cur) rfl
      (Nn := fun u => u) heapOnly_id (fun _ _ => rfl) (fun _ => rfl) (fun u x y => setCell_twice _ _ _ _) (fun _ => Nat.le_refl _) (u0 := u0) (sen := sen) (cell := freshCell P1.m.cls N.kN) (cellS := cS) (cN := ((npeCell N.toNpeT (preparedCellV Tc.toThrowableT (freshCell P1.m.cls N.kN) T.heap.size u0 sen) T.cur).withEntry T.cur)) (kcell := N.kN)
      w4' (by intro k hk'; cases hk') (by intro hk'; cases hk') rfl hk hsel0 w5' (Nat.ne_of_lt hltS) hkn hu0 (by rw [fresh_default tX, LN.stateInt]; rfl)
      (Cond.laysApart eC eX nC nX (by rw [Y.causeName, hnX]; decide)) (Cond.laysApart eS eX nS nX (by rw [Y.stackName, hnX]; decide)) (Cond.laysApart eP eX nP nX (by rw [Y.suppName, hnX]; decide))
      (Takes.of_laid hk hord tS (by rw [Y.stackType]; exact fits_refV_array _ u0)) (Takes.of_laid hk hord tX (by rw [LN.stateInt]; rfl)) (fun _ hu => hu) (fun _ hu => hu) rfl rfl rfl (by simp [npeCell, preparedCellV, Cell.setSlot, Cell.withEntry]) hskip (fun _ _ hA hW _ hroom _ hrest => Lt.nativeOff p htr hA hW hroom hrest) hselF hsen
      (Takes.of_laid hk hord tC (by rw [Y.causeType]; rfl)) (Takes.of_laid hk hord tP (by rw [Y.suppType]; exact fits_refV_object _ sen)) Y.objLocals [PR, PE] hLs ⟨hl2, hl3, trivial⟩ (ig := .invokespecial P1.index) (len := 3) [] (lim := e.platform.stackLimits T.me) (by rw [State.stackLimits_pushFrame, State.stackLimits_setFrames]; rfl)
      (by rw [hfI]; simp only [List.length_cons] at hfr' ⊢; omega)
      (by rw [hfI, List.tail_cons, stackUse_java, stackUse_light _ _ (fun f hf => by cases hf) rfl]
          show (stackUse (Frame.native nf :: .java g :: below)).2 + (1 + 11 + 2 * 0 + operandWords []) + 13 * [PR, PE].length + 55 ≤ (e.platform.stackLimits T.me).2
          simp only [operandWords, List.foldl_nil]
          omega)
      L1.at1
    refine ⟨vm2, hW2, fun t' h' => st2 t' ?_⟩
    rw [hXvm]
    exact h')
  have hW' : T.WarmedH vm' := hW''
  have st : ∀ target, Steps p.tables e below ((((T.pushCell (freshCell P1.m.cls N.kN)).setVm vm').setCell T.heap.size (((npeCell N.toNpeT (preparedCellV Tc.toThrowableT (freshCell P1.m.cls N.kN) T.heap.size u0 sen) T.cur).withEntry T.cur).setSlot Tc.fStack.slot u0.v).left.left).setFrames (.throwing T.heap.size :: .java g :: below)) target → Steps p.tables e below (T.setFrames (.throwNew "java/lang/NullPointerException" none none :: .native nf :: .java g :: below)) target := fun target hgo => by
    refine n_step hO ⟨[.throwNew "java/lang/NullPointerException" none none, .native nf, .java g], by rw [hO.fr]; rfl, by simp, by simp⟩ ?_
    rw [stepThread_throwNew (hO.fr _), stepThrowNew_plain (s := T.setFrames (.throwNew "java/lang/NullPointerException" none none :: .native nf :: .java g :: below)) (c := P1.m.cls) (k := N.kN) (i := P1.m.idx) (by decide) (by decide) hfound hk hinit hord (Launch.admits_hotImplicitExceptions X.admits) hbey hfree hctor (X.cellsAbove hRc) (by have := X.slotsAbove hRs; show T.slotsUsed + _ ≤ _; omega)]
    have e1 : ((T.setFrames (.throwNew "java/lang/NullPointerException" none none :: .native nf :: .java g :: below)).pushCell (freshCell P1.m.cls N.kN)).setFrames (.thenThrow (T.setFrames (.throwNew "java/lang/NullPointerException" none none :: .native nf :: .java g :: below)).heap.size :: .native nf :: .java g :: below) = (T.pushCell (freshCell P1.m.cls N.kN)).setFrames (.thenThrow T.heap.size :: .native nf :: .java g :: below) := by
      rw [State.pushCell_setFrames, State.setFrames_setFrames]
      rfl
    rw [e1]
    refine st0 target ?_
    exact n_pass (r := below) ((hOW.vm vm').cell _ _) hn2 hn3 hgo
  rw [npeBareV_eq Tc.toThrowableT N.toNpeT T.heap.size u0 sen T.cur rfl rfl] at st
  have X2 := (X.pushed (freshCell P1.m.cls N.kN)).noted (State.WarmedH.trans X.warmed hW')
  have hsz : ((T.pushCell (freshCell P1.m.cls N.kN)).setVm vm').heap.size = T.heap.size + 1 := State.heap_size_pushCell _ _
  have ha : T.heap.size < ((T.pushCell (freshCell P1.m.cls N.kN)).setVm vm').heap.size := by rw [hsz]; omega
  have hcell : ((T.pushCell (freshCell P1.m.cls N.kN)).setVm vm').heap[T.heap.size]? = some (freshCell P1.m.cls N.kN) := State.heap_pushCell_size T (freshCell P1.m.cls N.kN)
  have X5 := ((((X2.stored hcell Tc.fCause.slot (.ref T.heap.size)).storedAgain ha Tc.fStack.slot u0.v).storedAgain ha Tc.fSupp.slot sen.v).storedAgain ha N.fState.slot (.int 1)).storedAgain ha Tc.fStack.slot u0.v
  have b3 : (freshCell P1.m.cls N.kN).slots.size = 8 := by simp [hn8]
  rw [b3] at X5
  have hge : s.heap.size ≤ T.heap.size := X.same.2.1
  have X6 : Stand p l e R s m args below meth c (((T.pushCell (freshCell P1.m.cls N.kN)).setVm vm').setCell T.heap.size (npeBareV Tc.toThrowableT N.toNpeT (freshCell P1.m.cls N.kN) T.heap.size u0 sen)) locs (cells + 1) (slots + 800) :=
    { X5 with same := X5.same.weaken (fun y hy hlt => by
        simp only [List.append_assoc, List.cons_append, List.nil_append] at hy
        rcases List.mem_append.mp hy with h1 | h1
        · exact h1
        · exfalso
          have hb : y.base = T.heap.size := by
            simp only [List.mem_cons, List.not_mem_nil, or_false] at h1
            rcases h1 with rfl | rfl | rfl | rfl | rfl <;> rfl
          exact absurd hlt (by rw [hb]; exact Nat.not_lt.mpr (by first | exact hge | exact Nat.le_trans hge (Nat.le_add_right _ 2)))) (by omega) (by omega) }
  have hsz' : (((T.pushCell (freshCell P1.m.cls N.kN)).setVm vm').setCell T.heap.size (npeBareV Tc.toThrowableT N.toNpeT (freshCell P1.m.cls N.kN) T.heap.size u0 sen)).heap.size = T.heap.size + 1 := by
    simpa [State.setCell] using hsz
  refine ⟨_, X6, hsz', fun q hq => ?_, ⟨_, heapAt_setCell_self (s := (T.pushCell (freshCell P1.m.cls N.kN)).setVm vm') _ ha, ?_, rfl⟩, fun target hgo => ?_⟩
  · rw [heapAt_setCell_ne _ (Nat.ne_of_gt hq)]
    show (T.heap.push _)[q]? = _
    rw [Array.getElem?_push_lt hq, Array.getElem?_eq_getElem hq]
  · exact hfound
  · rw [x_note X6] at hgo
    exact st target hgo
end NX
section NC
variable {e : Env} {d : Bool} {acts : List Action} {s : State} {Q : Option Value → Pre} {E : CtlPost}
theorem n_txt {t : String} (h : t.toList.head? = some 'a') : (t == notModelled) = false := by
  rw [beq_eq_false_iff_ne]
  intro g
  rw [g] at h
  exact absurd h (by decide)
theorem n_hd {x y : String} (h : x.toList.head? = some 'a') : (x ++ y).toList.head? = some 'a' := by
  rw [String.toList_append, List.head?_append, h]; rfl
theorem n_ln {x y : String} {a b c : Nat} (h1 : x.toList.length ≤ a) (h2 : y.toList.length ≤ b) (h3 : a + b ≤ c) : (x ++ y).toList.length ≤ c := by
  rw [String.toList_append, List.length_append]; omega
theorem n_kind (t : FieldType) : (Native.java_lang_System.arraycopy.kindName t).toList.length ≤ 12 := by cases t <;> first | decide | (show ("object array" : String).toList.length ≤ 12; decide)
theorem n_int {i : Int} (h0 : 0 ≤ i) (h1 : i < 10 ^ 10) : (toString i).toList.length ≤ 10 := by
  obtain ⟨m, rfl⟩ := Int.eq_ofNat_of_zero_le h0
  exact nat_print (n := m) (by omega)
theorem n_null1 (sp dp n : Int32) (v : Value) (hE : E (.throwNew "java/lang/NullPointerException" none) acts s) : wp (Native.java_lang_System.arraycopy.sem #[.null, .int sp, v, .int dp, .int n]) Q E e d acts s := by
  show wp (do Jvm.mark "nat.java_lang_System.arraycopy/null"; Jvm.throwNew "java/lang/NullPointerException") Q E e d acts s
  simpa [W.throwNew] using hE
theorem n_null2 (sp dp n : Int32) (a : Addr) (hE : E (.throwNew "java/lang/NullPointerException" none) acts s) : wp (Native.java_lang_System.arraycopy.sem #[.ref a, .int sp, .null, .int dp, .int n]) Q E e d acts s := by
  show wp (do Jvm.mark "nat.java_lang_System.arraycopy/null"; Jvm.throwNew "java/lang/NullPointerException") Q E e d acts s
  simpa [W.throwNew] using hE
theorem n_types {src dst : Addr} {sp dp n : Int32} {cs cd : Cell} {ks kd : Class} {sComp dComp : ClassId} {sType dType : FieldType} (hs : s.heap[src]? = some cs) (hd : s.heap[dst]? = some cd) (hsobj : ∀ k, cs.vm ≠ .statics k) (hdobj : ∀ k, cd.vm ≠ .statics k)
    (hks : s.vm.classes[cs.cls]? = some ks) (hkd : s.vm.classes[cd.cls]? = some kd) (hsk : ks.kind = .array sComp sType) (hdk : kd.kind = .array dComp dType) (hty : ((refKind sType != refKind dType) || (!refKind sType && sType != dType)) = true)
    (hE : ∀ text : String, text.toList.head? = some 'a' → text.toList.length ≤ 190 → E (.throwNew "java/lang/ArrayStoreException" (some text)) acts s) : wp (Native.java_lang_System.arraycopy.sem #[.ref src, .int sp, .ref dst, .int dp, .int n]) Q E e d acts s := by
  rw [Native.java_lang_System.arraycopy.sem_refs]
  unfold Native.java_lang_System.arraycopy.behind
  simp only [wp_bind', W.classOf, W.theClass, hs, hd, hks, hkd, Option.some.injEq, exists_eq_left', hsk, hdk]
  refine ⟨hsobj, hdobj, ?_⟩
  unfold refKind at hty
  simp only [hty, if_true, wp_bind', W.mark, W.throwNew]
  refine hE _ (n_hd (n_hd (n_hd (n_hd (by decide))))) ?_
  exact n_ln (a := 100) (n_ln (a := 80) (n_ln (a := 60) (n_ln (a := 45) (by decide) (n_kind _) (by decide)) (b := 15) (by decide) (by decide)) (n_kind _) (by decide)) (b := 15) (by decide) (by decide)
theorem n_bounds {src dst : Addr} {sp dp n : Int32} {cs cd : Cell} {ks kd : Class} {sComp dComp : ClassId} {sType dType : FieldType} (hs : s.heap[src]? = some cs) (hd : s.heap[dst]? = some cd) (hsobj : ∀ k, cs.vm ≠ .statics k) (hdobj : ∀ k, cd.vm ≠ .statics k)
    (hks : s.vm.classes[cs.cls]? = some ks) (hkd : s.vm.classes[cd.cls]? = some kd) (hsk : ks.kind = .array sComp sType) (hdk : kd.kind = .array dComp dType) (hty : ((refKind sType != refKind dType) || (!refKind sType && sType != dType)) = false)
    (hz1 : cs.slots.size < 1000) (hz2 : cd.slots.size < 1000) (hb : sp < 0 ∨ dp < 0 ∨ n < 0 ∨ sp.toInt + n.toInt > cs.slots.size ∨ dp.toInt + n.toInt > cd.slots.size)
    (hE : ∀ text : String, text.toList.head? = some 'a' → text.toList.length ≤ 190 → E (.throwNew "java/lang/ArrayIndexOutOfBoundsException" (some text)) acts s) : wp (Native.java_lang_System.arraycopy.sem #[.ref src, .int sp, .ref dst, .int dp, .int n]) Q E e d acts s := by
  rw [Native.java_lang_System.arraycopy.sem_refs]
  unfold Native.java_lang_System.arraycopy.behind
  simp only [wp_bind', W.classOf, W.theClass, hs, hd, hks, hkd, Option.some.injEq, exists_eq_left', hsk, hdk]
  refine ⟨hsobj, hdobj, ?_⟩
  unfold refKind at hty
  simp only [hty, Bool.false_eq_true, if_false]
  simp only [wp_bind', W.sizeOf, hs, hd, Option.some.injEq, exists_eq_left']
  have harr : ∀ (t : FieldType) (k : Nat), k < 1000 → (toString (Native.java_lang_System.arraycopy.kindName t) ++ toString "[" ++ toString k ++ toString "]").toList.length ≤ 30 := fun t k hk => n_ln (a := 25) (n_ln (a := 14) (n_ln (n_kind t) (b := 1) (by decide) (by decide)) (nat_print (by omega)) (by decide)) (b := 1) (by decide) (by decide)
  by_cases h1 : sp < 0
  · simp only [h1, if_true, wp_bind', W.mark, W.throwNew]
    exact hE _ (n_hd (by decide)) (n_ln (a := 20) (b := 100) (by decide) (n_ln (a := 70) (n_ln (a := 40) (n_ln (a := 20) (by decide) (int32_print sp) (by decide)) (b := 30) (by decide) (by decide)) (harr _ _ hz1) (by decide)) (by decide))
  simp only [h1, if_false]
  by_cases h2 : dp < 0
  · simp only [h2, if_true, wp_bind', W.mark, W.throwNew]
    exact hE _ (n_hd (by decide)) (n_ln (a := 20) (b := 100) (by decide) (n_ln (a := 70) (n_ln (a := 40) (n_ln (a := 20) (by decide) (int32_print dp) (by decide)) (b := 30) (by decide) (by decide)) (harr _ _ hz2) (by decide)) (by decide))
  simp only [h2, if_false]
  by_cases h3 : n < 0
  · simp only [h3, if_true, wp_bind', W.mark, W.throwNew]
    exact hE _ (n_hd (by decide)) (n_ln (a := 20) (b := 100) (by decide) (n_ln (a := 40) (n_ln (a := 20) (by decide) (int32_print n) (by decide)) (b := 30) (by decide) (by decide)) (by decide))
  simp only [h3, if_false]
  have g1 := Int32.toInt_lt sp
  have g2 := Int32.toInt_lt dp
  have g3 := Int32.toInt_lt n
  have k1 : 0 ≤ sp.toInt := by rw [Int32.lt_iff_toInt_lt] at h1; have : (0 : Int32).toInt = 0 := rfl; omega
  have k2 : 0 ≤ dp.toInt := by rw [Int32.lt_iff_toInt_lt] at h2; have : (0 : Int32).toInt = 0 := rfl; omega
  have k3 : 0 ≤ n.toInt := by rw [Int32.lt_iff_toInt_lt] at h3; have : (0 : Int32).toInt = 0 := rfl; omega
  by_cases h4 : sp.toInt + n.toInt > cs.slots.size
  · simp only [h4, if_true, wp_bind', W.mark, W.throwNew]
    exact hE _ (n_hd (by decide)) (n_ln (a := 20) (b := 100) (by decide) (n_ln (a := 70) (n_ln (a := 40) (n_ln (a := 25) (by decide) (n_int (by omega) (by omega)) (by decide)) (b := 30) (by decide) (by decide)) (harr _ _ hz1) (by decide)) (by decide))
  simp only [h4, if_false]
  by_cases h5 : dp.toInt + n.toInt > cd.slots.size
  · simp only [h5, if_true, wp_bind', W.mark, W.throwNew]
    exact hE _ (n_hd (by decide)) (n_ln (a := 20) (b := 100) (by decide) (n_ln (a := 70) (n_ln (a := 40) (n_ln (a := 28) (by decide) (n_int (by omega) (by omega)) (by decide)) (b := 30) (by decide) (by decide)) (harr _ _ hz2) (by decide)) (by decide))
  · exact absurd hb (by rintro (h | h | h | h | h) <;> contradiction)
end NC
/-- a native that ends by asking for an exception -/
theorem n_call {tb : Tables} {e : Env} {below : List Frame} {s : State} {g : JFrame} {c : Code} (h : At s g.method c below) {m : MethodId} {meth : Method} {k : Class} {row : NativeRow} {args : Array Value}
    (hk : s.vm.classes[m.cls]? = some k) (hx : k.methods[m.idx]? = some meth) (hboot : k.loader = none) (hnat : meth.isNative = true) (hc : meth.code = none) (hl : meth.locks = false) (hrow : NativeRow.find? tb.natives k.name meth.name meth.desc = some row)
    (hroom : e.platform.stackFull (((s.setTop g).threads[(s.setTop g).cur]?).getD { frames := [] }) (s.setTop g).frames (nativeFrameWords k.name meth.name (operandWords args.toList)) = false) {C : String} {P : Option String → Prop}
    (hw : ∀ E : CtlPost, (∀ msg acts', P msg → E (.throwNew C msg) acts' ((s.setTop g).pushFrame (.native { method := m, args := seenByNative meth args, locked := none }))) → wp (row.sem (seenByNative meth args)) (fun _ _ _ _ => False) E e false [] ((s.setTop g).pushFrame (.native { method := m, args := seenByNative meth args, locked := none }))) :
    ∃ msg, P msg ∧ ∀ acts target, Steps tb e below (s.setFrames (.throwNew C msg none :: .native { method := m, args := seenByNative meth args, locked := none } :: .java g :: s.frames.tail)) target → Steps tb e below (doInvoke e (s.setTop g) acts m args).1 target := by
  have hm : (s.setTop g).vm.method? m = some meth := by
    show s.vm.method? m = some meth
    simp [Vm.method?, hk, hx]
  have hroom' : e.platform.stackFull (((s.setTop g).threads[(s.setTop g).cur]?).getD { frames := [] }) (s.setTop g).frames (nativeFrameWords ((((s.setTop g).vm.classes[m.cls]?).map (·.name)).getD "") meth.name (operandWords args.toList)) = false := by
    have e0 : (((s.setTop g).vm.classes[m.cls]?).map (·.name)).getD "" = k.name := by
      show ((s.vm.classes[m.cls]?).map (·.name)).getD "" = k.name
      rw [hk]; rfl
    rw [e0]; exact hroom
  obtain ⟨g0, hg⟩ := Option.isSome_iff_exists.mp h.top
  obtain ⟨r, hr'⟩ := State.topJava?_eq_some.mp hg
  have hfe := frames_entered (g := g) h.top (.native { method := m, args := seenByNative meth args, locked := none })
  obtain ⟨mid, hmid⟩ := h.above
  have hU : ((s.setTop g).pushFrame (.native { method := m, args := seenByNative meth args, locked := none })) = s.setFrames (.native { method := m, args := seenByNative meth args, locked := none } :: .java g :: s.frames.tail) := by
    rw [State.pushFrame, State.frames_setTop _ hr', State.setTop_of_frames _ hr', State.setFrames_setFrames, hr']; rfl
  have hw1 := hw (fun x _ s₁ => ∃ msg, P msg ∧ x = .throwNew C msg ∧ s₁ = (s.setTop g).pushFrame (.native { method := m, args := seenByNative meth args, locked := none })) (fun msg _ hp => ⟨msg, hp, rfl, rfl⟩)
  have hw2 := (wpRun_iff_run (row.sem (seenByNative meth args)) (fun _ _ _ => False) (fun x s₁ _ => ∃ msg, P msg ∧ x = .throwNew C msg ∧ s₁ = (s.setTop g).pushFrame (.native { method := m, args := seenByNative meth args, locked := none })) e ((s.setTop g).pushFrame (.native { method := m, args := seenByNative meth args, locked := none }))).mp hw1
  cases hr : (row.sem (seenByNative meth args)).run e ((s.setTop g).pushFrame (.native { method := m, args := seenByNative meth args, locked := none })) with
  | ok v s₁ acts₁ => rw [hr] at hw2; exact hw2.elim
  | ctl x s₁ acts₁ =>
    rw [hr] at hw2
    have hx2 : ∃ msg, P msg ∧ x = .throwNew C msg ∧ s₁ = (s.setTop g).pushFrame (.native { method := m, args := seenByNative meth args, locked := none }) := by
      cases x <;> first | exact hw2 | exact hw2.elim
    obtain ⟨msg, hp, rfl, rfl⟩ := hx2
    refine ⟨msg, hp, fun acts target kk => ?_⟩
    rw [(Fast.doInvoke_native (s := s.setTop g) (e := e) (acts := acts) (args := args) hm hnat hc hl hroom').1]
    refine Steps.head ⟨h.running, by simpa using h.runnable, by simpa using h.alone⟩
      ⟨.native { method := m, args := seenByNative meth args, locked := none } :: .java g :: mid, by rw [hfe, hmid]; rfl, by simp, by simp⟩ ?_
    rw [stepThread_native (f := { method := m, args := seenByNative meth args, locked := none }) (k := k) (x := meth) (row := row) hfe hk hx hboot hrow rfl, hr]
    show Steps tb e below (((s.setTop g).pushFrame (.native { method := m, args := seenByNative meth args, locked := none })).pushFrame (.throwNew C msg none)) target
    rw [State.pushFrame, hfe, hU, State.setFrames_setFrames]
    exact kk
section NR
variable {Γ : Gc} {p : Program} {l : Launch} {e : Env} {fr lo : Nat} {s : State} {m : MethodId} {args : Array Value} {below : List Frame} {meth : Method} {c : Code} {nL : Nat} {α : Type} {z : Nat} {vl : α → Option Value} {rF : α} {tF t : St} {pc : Nat} {lv : List (Nat × Value)} {st st' rest : List Value} {cc : ByteArray} {own : String} {F FN FS FI : Option (α × St)}
theorem x_mkG (X : g_X Γ p s m args meth c cc nL own) {ci k : Nat} {C : String} {T0 : u_T} (hc : cls[ci]? = some (C, T0, 0))
    (hmade : ∀ (H : Heap) (locs : List Loc) (ls : Array Slot), g_H Γ t.1 H → H.size = z + t.2.1 → va_S (g_A Γ.2.2.1) s.heap H locs → lv_has ls nL lv → ∀ T : State, T.heap = H → Stand p l e (g_R fr lo (g_ι z tF)) s m args below meth c T locs t.2.1 t.2.2 → t.2.1 + (k + 1) ≤ tF.2.1 → t.2.2 + 800 ≤ tF.2.2 →
      ∃ vm' : Vm, x_MadeN p l e (g_R fr lo (g_ι z tF)) s m args below meth c (T.setVm vm') locs t.2.1 t.2.2 (F0 m pc ls st') C k (fun target => Steps p.tables e below (T.setTop (F0 m pc ls st)) target) ∧ s.WarmedH vm')
    (kx : Wx Γ p l e fr lo s m args below meth c nL (g_ι z) vl rF tF pc lv st' (z + t.2.1 + k) (xNew z k ci t) F) : Wf Γ p l e fr lo s m args below meth c nL (g_ι z) vl rF tF pc lv st t F := by
  intro hF
  have k1 := kx hF
  have m1 : t.2.1 + (k + 1) ≤ tF.2.1 := k1.1.1
  have m2 : t.2.2 + 800 ≤ tF.2.2 := k1.1.2
  refine ⟨⟨Nat.le_trans (Nat.le_add_right _ _) m1, Nat.le_trans (Nat.le_add_right _ _) m2⟩, fun H locs ls h1 h2 h3 h4 T hT XT => ?_⟩
  obtain ⟨vm', ⟨T', X', q1, q2, ⟨cell, q3, q4, q5⟩, q6⟩, hW⟩ := hmade H locs ls h1 h2 h3 h4 T hT XT m1 m2
  have hTs : (T.setVm vm').heap.size = z + t.2.1 := by show T.heap.size = _; rw [hT]; exact h2
  have hTh : (T.setVm vm').heap = H := hT
  rw [hTs] at q1 q2 q3 q6
  rw [hTh] at q2
  have hcls : cell.cls = Γ.1.1 ci := by
    have g1 := (X.2.2.2.2.2.2.1.1.1 ci _ hc).2.1
    have g2 : s.vm.findClass C = some cell.cls := by
      rw [← hW.alike.findClass]; exact q4
    exact Option.some.inj (g2.symm.trans g1)
  have hb : Γ.2.2.1 ≤ z + t.2.1 + k := Nat.le_trans X.2.2.2.2.2.2.2 (Nat.le_trans h3.1 (by rw [h2]; exact Nat.le_add_right _ _))
  have hH : g_H Γ (xNew z k ci t).1 T'.heap := by
    intro q x hx
    by_cases hq : q = z + t.2.1 + k
    · subst hq
      have hx' : g_u t.1 (z + t.2.1 + k) (true, .inr (ci, [])) (z + t.2.1 + k) = some x := hx
      rw [g_u_self] at hx'
      cases hx'
      exact ⟨g_at.of ⟨_, hc, cell, q3, hcls, q5, fun j hj => absurd hj (Nat.not_lt_zero j)⟩, fun _ => hb⟩
    · have hx' : g_u t.1 (z + t.2.1 + k) (true, .inr (ci, [])) q = some x := hx
      rw [g_u_ne _ _ hq] at hx'
      have hlt : q < z + t.2.1 := by
        have := (h1 q x hx').1.lt
        rw [h2] at this
        exact this
      exact ⟨(h1 q x hx').1.kept (q2 q hlt), (h1 q x hx').2⟩
  have h2' : H.size = z + t.2.1 := h2
  have hle : s.heap.size ≤ z + t.2.1 := by rw [← h2']; exact h3.1
  have hS : va_S (g_A Γ.2.2.1) s.heap T'.heap locs := ⟨Nat.le_trans hle (by rw [q1]; exact Nat.le_add_right _ _), fun q g1 g2 => by
    rw [q2 q (Nat.lt_of_lt_of_le g1 hle)]
    exact h3.2.1 q g1 g2, h3.2.2⟩
  obtain ⟨u, a1, b1⟩ := k1.2 T'.heap locs ls hH (by rw [q1]; show _ = z + (t.2.1 + (k + 1)); omega) hS h4 T' rfl X'
  exact ⟨u, q6 u a1, b1⟩
/-- into the native -/
theorem n_go {R : Room} {T : State} {locs : List Loc} {cells slots : Nat} (X : Stand p l e R s m args below meth c T locs cells slots) (hexec : p.tables.exec = Jvm.exec) {index : Nat} (hown : s.vm.findClass own = some m.cls)
    (hlink : (Cond.methodLink own index arraycopyName).before args s = true) (hnat : (Cond.native arraycopyName).before args s = true) (hstat : (Cond.static arraycopyName).before args s = true) (hinit : (Cond.initialized "java/lang/System").before args s = true)
    {v0 v1 : Option Nat} {sp dp n : Int32} {g : JFrame} (hg : g.method = m) (hsize : g.locals.size = c.maxLocals) {rest : List Value} (hstack : g.stack = .int n :: .int dp :: va_rf v1 :: .int sp :: va_rf v0 :: rest) (hdg : decode c.code g.pc = .ok (.invokestatic index, 3))
    (hframes : 1 ≤ R.frames) (hlocals : 2 * g.monitorRoom + (rest.map fun v => v.category).sum + (nativeFrameWords "java/lang/System" "arraycopy" 5 + 11) ≤ R.locals) {C : String} {P : Option String → Prop}
    (hw : ∀ (vm' : Vm), s.vm.Alike vm' → ∀ (fs : List Frame) (E : CtlPost), (∀ msg acts', P msg → E (.throwNew C msg) acts' ((T.setVm vm').setFrames fs)) → wp (Native.java_lang_System.arraycopy.sem #[va_rf v0, .int sp, va_rf v1, .int dp, .int n]) (fun _ _ _ _ => False) E e false [] ((T.setVm vm').setFrames fs)) :
    ∃ vm' nf msg, Stand p l e R s m args below meth c (T.setVm vm') locs cells slots ∧ (nf.words = 0 ∧ nf.awaiting = false ∧ nf.locked = none) ∧ P msg ∧ ∀ target, Steps p.tables e below ((T.setVm vm').setFrames (.throwNew C msg none :: .native nf :: .java { g with stack := rest } :: below)) target → Steps p.tables e below (T.setTop g) target := by
  obtain ⟨r, kS, methS, hnS, hmS, hkS, N⟩ := NativeOf.of_static hnat hstat (ps := [.object "java/lang/Object", .int, .object "java/lang/Object", .int, .int]) (ret := none) (by decide +kernel)
  have hinitS : kS.init = .initialized := Cond.initialized_spec (findClass_of_methodNamed hnS) hkS hinit
  obtain ⟨vm', X', step⟩ := X.invokestatic hexec hown hlink hnS hmS N.static hkS hinitS (by decide) hg (argsL := [va_rf v0, .int sp, va_rf v1, .int dp, .int n]) (rest := rest) (by rw [N.sig]; rfl) hstack hdg
  subst hg
  have hA' : s.vm.Alike vm' := X'.warmed.alike
  obtain ⟨kS', N'⟩ := N.alike hA'
  have hseen : seenByNative methS #[va_rf v0, .int sp, va_rf v1, .int dp, .int n] = #[va_rf v0, .int sp, va_rf v1, .int dp, .int n] := by
    cases v0 <;> cases v1 <;> simp [seenByNative, N.static, N.sig, narrow, va_rf]
  have how : operandWords (#[va_rf v0, .int sp, va_rf v1, .int dp, .int n] : Array Value).toList = 5 := by cases v0 <;> cases v1 <;> rfl
  obtain ⟨g1, hfr⟩ := X'.frames_eq
  obtain ⟨msg, hp, hgo⟩ := n_call (tb := p.tables) (e := e) (g := { g with stack := rest }) X'.here (m := r) (args := #[va_rf v0, .int sp, va_rf v1, .int dp, .int n]) (row := arraycopyRow) N'.cls N'.meth N'.boot N'.native N'.noCode N'.noLock (by rw [N'.className, N'.name, N'.desc]; exact arraycopy_row p)
    (by rw [N'.className, N'.name, how]; exact X'.notFull (g := { g with stack := rest }) hsize (vars := nativeFrameWords "java/lang/System" "arraycopy" 5) hframes hlocals) (C := C) (P := P) (fun E hE => by
      rw [hseen] at hE ⊢
      rw [arraycopyRow_sem]
      have hU : (((T.setVm vm').setTop { g with stack := rest }).pushFrame (.native { method := r, args := #[va_rf v0, .int sp, va_rf v1, .int dp, .int n], locked := none })) = (T.setVm vm').setFrames (.native { method := r, args := #[va_rf v0, .int sp, va_rf v1, .int dp, .int n], locked := none } :: .java { g with stack := rest } :: below) := by
        rw [State.pushFrame, State.frames_setTop _ hfr, State.setTop_of_frames _ hfr, State.setFrames_setFrames]
      rw [hU] at hE ⊢
      exact hw vm' hA' _ E hE)
  refine ⟨vm', { method := r, args := seenByNative methS #[va_rf v0, .int sp, va_rf v1, .int dp, .int n], locked := none }, msg, X', ⟨rfl, rfl, rfl⟩, hp, fun target k => step target fun acts => hgo acts target ?_⟩
  rw [X'.tail]
  exact k
/-- System.arraycopy, with all that it may throw -/
def ccopyT {β : Type} (t : St) (v0 : Option Nat) (sp : Int32) (v1 : Option Nat) (dp n : Int32) (FN FS FI : Option β) (K : St → Option β) : Option β := match v0, v1 with
  | some a0, some a1 => match t.1 a0, t.1 a1 with
    | some (true, .inl q0), some (true, .inl q1) => if q0.1 < 4 ∧ q1.1 < 4 ∧ q0.2.1 < 1000 ∧ q1.2.1 < 1000 then
        (if q0.1 = q1.1 then
          (if sp < 0 ∨ dp < 0 ∨ n < 0 ∨ q0.2.1 < sp.toNatClampNeg + n.toNatClampNeg ∨ q1.2.1 < dp.toNatClampNeg + n.toNatClampNeg then FI
          else if q0.1 = 0 then ccopyI 0 .byte t a0 sp a1 dp n K else if q0.1 = 1 then ccopyI 1 .short t a0 sp a1 dp n K else if q0.1 = 2 then ccopyI 2 .int t a0 sp a1 dp n K else ccopyL 3 t a0 sp a1 dp n K)
        else FS)
      else none
    | _, _ => none
  | _, _ => FN
def n_ty (j : Nat) : FieldType := match j with
  | 0 => .byte
  | 1 => .short
  | 2 => .int
  | _ => .long
theorem n_tys {Γ : Gc} {j : Nat} (hj : j < 4) : (g_tys Γ.2.1)[j]? = some (Γ.2.1 j, n_ty j) := by
  match j, hj with
  | 0, _ => rfl
  | 1, _ => rfl
  | 2, _ => rfl
  | 3, _ => rfl
theorem n_ne {i j : Nat} (hi : i < 4) (hj : j < 4) (h : i ≠ j) : ((refKind (n_ty i) != refKind (n_ty j)) || (!refKind (n_ty i) && n_ty i != n_ty j)) = true := by
  match i, hi, j, hj with
  | 0, _, 0, _ => exact absurd rfl h
  | 0, _, 1, _ => decide
  | 0, _, 2, _ => decide
  | 0, _, 3, _ => decide
  | 1, _, 0, _ => decide
  | 1, _, 1, _ => exact absurd rfl h
  | 1, _, 2, _ => decide
  | 1, _, 3, _ => decide
  | 2, _, 0, _ => decide
  | 2, _, 1, _ => decide
  | 2, _, 2, _ => exact absurd rfl h
  | 2, _, 3, _ => decide
  | 3, _, 0, _ => decide
  | 3, _, 1, _ => decide
  | 3, _, 2, _ => decide
  | 3, _, 3, _ => exact absurd rfl h
theorem n_eq {i : Nat} (hi : i < 4) : ((refKind (n_ty i) != refKind (n_ty i)) || (!refKind (n_ty i) && n_ty i != n_ty i)) = false := by
  match i, hi with
  | 0, _ => decide
  | 1, _ => decide
  | 2, _ => decide
  | 3, _ => decide
set_option maxHeartbeats 1000000 in
theorem cx_copy (X : g_X Γ p s m args meth c cc nL own) (hl : l.stackTraces = false) {index : Nat} {v0 v1 : Option Nat} {sp dp n : Int32} {K : St → Option (α × St)} (d : decode cc pc = .ok (.invokestatic index, 3)) (hlink : Cond.methodLink own index arraycopyName ∈ lw_all) (hnat : Cond.native arraycopyName ∈ lw_all) (hstat : Cond.static arraycopyName ∈ lw_all) (hini : Cond.initialized "java/lang/System" ∈ lw_all) (hfr : 8 < fr) (hlo : (rest.map fun v => v.category).sum + 10240 ≤ lo)
    (kN : Wx Γ p l e fr lo s m args below meth c nL (g_ι z) vl rF tF pc lv rest (z + t.2.1) (xNew z 0 27 t) FN) (kS : Wx Γ p l e fr lo s m args below meth c nL (g_ι z) vl rF tF pc lv rest (z + t.2.1 + 2) (xNew z 2 31 t) FS) (kI : Wx Γ p l e fr lo s m args below meth c nL (g_ι z) vl rF tF pc lv rest (z + t.2.1 + 2) (xNew z 2 29 t) FI)
    (kk : ∀ t', Wf Γ p l e fr lo s m args below meth c nL (g_ι z) vl rF tF (pc + 3) lv rest t' (K t')) : Wf Γ p l e fr lo s m args below meth c nL (g_ι z) vl rF tF pc lv (.int n :: .int dp :: va_rf v1 :: .int sp :: va_rf v0 :: rest) t (ccopyT t v0 sp v1 dp n FN FS FI K) := by
  have hts := X.2.2.2.2.1
  have hlo' : ∀ ls, 2 * (F0 m pc ls (.int n :: .int dp :: va_rf v1 :: .int sp :: va_rf v0 :: rest)).monitorRoom + (rest.map fun v => v.category).sum + (nativeFrameWords "java/lang/System" "arraycopy" 5 + 11) ≤ lo := fun ls => by
    have e9 : nativeFrameWords "java/lang/System" "arraycopy" 5 = 7 := by decide
    rw [e9]
    show 2 * 0 + _ + _ ≤ _
    omega
  have null : (v0 = none ∨ v1 = none) → Wf Γ p l e fr lo s m args below meth c nL (g_ι z) vl rF tF pc lv (.int n :: .int dp :: va_rf v1 :: .int sp :: va_rf v0 :: rest) t FN := fun hv => by
    refine x_mkG X (ci := 27) (k := 0) (st' := rest) rfl (fun H locs ls h1 h2 h3 h4 T hT XT m1 m2 => ?_) kN
    obtain ⟨vm', nf, msg, X', ⟨n1, n2, n3⟩, hp, hgo⟩ := n_go XT X.1 X.2.2.2.1 (hts _ hlink) (hts _ hnat) (hts _ hstat) (hts _ hini) (v0 := v0) (v1 := v1) (sp := sp) (dp := dp) (n := n) (g := F0 m pc ls (.int n :: .int dp :: va_rf v1 :: .int sp :: va_rf v0 :: rest)) rfl (h4.1.trans X.2.2.1.symm) (rest := rest) rfl (by rw [X.2.1]; exact d) (by show 1 ≤ fr; omega) (hlo' ls) (C := "java/lang/NullPointerException") (P := fun x => x = none) (fun vm' _ fs E hE => by
      rcases hv with rfl | rfl
      · exact n_null1 sp dp n _ (hE _ _ rfl)
      · cases v0 with
        | none => exact n_null1 sp dp n _ (hE _ _ rfl)
        | some a0 => exact n_null2 sp dp n a0 (hE _ _ rfl))
    subst hp
    obtain ⟨T', Y1, Y2, Y3, Y4, Y5⟩ := n_npe X' X.1 (by rw [XT.admits.platform]; exact hl) (fun w hw => x_words X (by show va_S _ _ T.heap locs; rw [hT]; exact h3) X'.warmed (xa_J16 w hw)) (g := F0 m pc ls rest) rfl (h4.1.trans X.2.2.1.symm) (nf := nf) n1 n2 n3 (by show 8 < fr; omega) (by show 2 * 0 + (rest.map fun v => v.category).sum + 10240 ≤ lo; omega) m1 m2
    exact ⟨vm', ⟨T', Y1, Y2, Y3, Y4, fun target k => hgo target (Y5 target k)⟩, X'.warmed⟩
  cases v0 with
  | none => exact null (Or.inl rfl)
  | some a0 =>
    cases v1 with
    | none => exact null (Or.inr rfl)
    | some a1 =>
      intro hF
      have hF' : (match t.1 a0, t.1 a1 with
        | some (true, .inl q0), some (true, .inl q1) => if q0.1 < 4 ∧ q1.1 < 4 ∧ q0.2.1 < 1000 ∧ q1.2.1 < 1000 then
            (if q0.1 = q1.1 then
              (if sp < 0 ∨ dp < 0 ∨ n < 0 ∨ q0.2.1 < sp.toNatClampNeg + n.toNatClampNeg ∨ q1.2.1 < dp.toNatClampNeg + n.toNatClampNeg then FI
              else if q0.1 = 0 then ccopyI 0 .byte t a0 sp a1 dp n K else if q0.1 = 1 then ccopyI 1 .short t a0 sp a1 dp n K else if q0.1 = 2 then ccopyI 2 .int t a0 sp a1 dp n K else ccopyL 3 t a0 sp a1 dp n K)
            else FS)
          else none
        | _, _ => none) = some (rF, tF) := hF
      split at hF'
      · rename_i q0 q1 hs0 hs1
        split at hF'
        · rename_i hq
          obtain ⟨b0, b1, b2, b3⟩ := hq
          have made : ∀ {C : String} {ci : Nat} {T0 : u_T} {FX : Option (α × St)} {names : List String}, cls[ci]? = some (C, T0, 0) → (∀ w ∈ Bundle.messageArmAtoms C names, x_ok w) → Bundle.fit C = true → (∀ n ∈ names, Bundle.fit n = true) → (C == "java/lang/StackOverflowError") = false → (C == "java/lang/OutOfMemoryError") = false → names.length ≤ 3 →
              (∀ (H : Heap) (T : State), g_H Γ t.1 H → T.heap = H → ∀ (vm' : Vm), s.vm.Alike vm' → ∀ (fs : List Frame) (E : CtlPost), (∀ msg acts', (∃ text : String, msg = some text ∧ text.toList.head? = some 'a' ∧ text.toList.length ≤ 190) → E (.throwNew C msg) acts' ((T.setVm vm').setFrames fs)) → wp (Native.java_lang_System.arraycopy.sem #[va_rf (some a0), .int sp, va_rf (some a1), .int dp, .int n]) (fun _ _ _ _ => False) E e false [] ((T.setVm vm').setFrames fs)) →
              Wx Γ p l e fr lo s m args below meth c nL (g_ι z) vl rF tF pc lv rest (z + t.2.1 + 2) (xNew z 2 ci t) FX → Wf Γ p l e fr lo s m args below meth c nL (g_ι z) vl rF tF pc lv (.int n :: .int dp :: va_rf (some a1) :: .int sp :: va_rf (some a0) :: rest) t FX := fun {C ci T0 FX names} hc hA hf1 hf2 hs1 hs2 hln hw kx => by
            refine x_mkG X (ci := ci) (k := 2) (st' := rest) hc (fun H locs ls h1 h2 h3 h4 T hT XT m1 m2 => ?_) kx
            obtain ⟨vm', nf, msg, X', ⟨n1, n2, n3⟩, ⟨text, rfl, t1, t2⟩, hgo⟩ := n_go XT X.1 X.2.2.2.1 (hts _ hlink) (hts _ hnat) (hts _ hstat) (hts _ hini) (v0 := some a0) (v1 := some a1) (sp := sp) (dp := dp) (n := n) (g := F0 m pc ls (.int n :: .int dp :: va_rf (some a1) :: .int sp :: va_rf (some a0) :: rest)) rfl (h4.1.trans X.2.2.1.symm) (rest := rest) rfl (by rw [X.2.1]; exact d) (by show 1 ≤ fr; omega) (hlo' ls) (C := C) (P := fun msg => ∃ text : String, msg = some text ∧ text.toList.head? = some 'a' ∧ text.toList.length ≤ 190) (hw H T h1 hT)
            obtain ⟨T', Y1, Y2, Y3, Y4, Y5⟩ := n_msg X' X.1 (by rw [XT.admits.platform]; exact hl) hf1 hf2 hs1 hs2 (fun w hw => x_words X (by show va_S _ _ T.heap locs; rw [hT]; exact h3) X'.warmed (hA w hw)) (n_txt t1) t2 (g := F0 m pc ls rest) rfl (h4.1.trans X.2.2.1.symm) (nf := nf) n1 n2 n3 (by show names.length + 5 < fr; omega) (by show 2 * 0 + (rest.map fun v => v.category).sum + 10240 ≤ lo; omega) (by omega) m1 m2
            exact ⟨vm', ⟨T', Y1, Y2, Y3, Y4, fun target k => hgo target (Y5 target k)⟩, X'.warmed⟩
          have cell : ∀ (H : Heap), g_H Γ t.1 H → ∀ (vm' : Vm), s.vm.Alike vm' → ∀ {a : Nat} {q : Nat × vp_A}, t.1 a = some (true, .inl q) → q.1 < 4 → ∃ (cx : Cell) (kx : Class) (comp : ClassId), H[a]? = some cx ∧ (∀ k, cx.vm ≠ .statics k) ∧ cx.slots.size = q.2.1 ∧ vm'.classes[cx.cls]? = some kx ∧ kx.kind = .array comp (n_ty q.1) := fun H h1 vm' hal a q hs hj => by
            have hc : H[a]? = some (vp_cell (Γ.2.1 q.1) q.2) := h1.ex hs
            obtain ⟨g2, g3, g4⟩ := x_vp (Γ.2.1 q.1) q.2
            obtain ⟨-, k0, hk0, cm0, hkk0⟩ := (X.2.2.2.2.2.2.1.1.2 q.1 _ (n_tys hj)).1 0 (fun _ => .null)
            obtain ⟨k0', hk0', he0⟩ := hal.2.2 _ _ hk0
            exact ⟨_, k0', cm0, hc, g3, g4, by rw [g2]; exact hk0', by rw [he0]; exact hkk0⟩
          split at hF'
          · rename_i hj
            split at hF'
            · rename_i hb
              refine made (ci := 29) (names := ["java/lang/IndexOutOfBoundsException", "java/lang/RuntimeException", "java/lang/Exception"]) rfl xa_J19 (by decide +kernel) (by decide +kernel) (by decide) (by decide) (by decide) (fun H T h1 hT vm' hal fs E hE => ?_) kI hF'
              obtain ⟨c0, k0, m0, u1, u2, u3, u4, u5⟩ := cell H h1 vm' hal hs0 b0
              obtain ⟨c1, k1, m1', w1, w2, w3, w4, w5⟩ := cell H h1 vm' hal hs1 b1
              rw [← hj] at w5
              refine n_bounds (cs := c0) (cd := c1) (show T.heap[a0]? = _ by rw [hT]; exact u1) (show T.heap[a1]? = _ by rw [hT]; exact w1) u2 w2 u4 w4 u5 w5 (n_eq b0) (by rw [u3]; exact b2) (by rw [w3]; exact b3) ?_ (fun text t1 t2 => hE _ _ ⟨text, rfl, t1, t2⟩)
              rw [u3, w3]
              by_cases x1 : sp < 0
              · exact Or.inl x1
              by_cases x2 : dp < 0
              · exact Or.inr (Or.inl x2)
              by_cases x3 : n < 0
              · exact Or.inr (Or.inr (Or.inl x3))
              rcases hb with hb | hb | hb | hb | hb
              · exact Or.inl hb
              · exact Or.inr (Or.inl hb)
              · exact Or.inr (Or.inr (Or.inl hb))
              · exact Or.inr (Or.inr (Or.inr (Or.inl (by rw [g_nn sp x1, g_nn n x3]; omega))))
              · exact Or.inr (Or.inr (Or.inr (Or.inr (by rw [g_nn dp x2, g_nn n x3]; omega))))
            · have lo9 : (rest.map fun v => v.category).sum + (nativeFrameWords "java/lang/System" "arraycopy" 5 + 11) ≤ lo := by
                have e9 : nativeFrameWords "java/lang/System" "arraycopy" 5 = 7 := by decide
                rw [e9]; omega
              split at hF'
              · exact cg_copyI X (j := 0) .byte rfl rfl d hlink hnat hstat hini (by omega) lo9 kk hF'
              split at hF'
              · exact cg_copyI X (j := 1) .short rfl rfl d hlink hnat hstat hini (by omega) lo9 kk hF'
              split at hF'
              · exact cg_copyI X (j := 2) .int rfl rfl d hlink hnat hstat hini (by omega) lo9 kk hF'
              · exact cg_copyL X (j := 3) rfl d hlink hnat hstat hini (by omega) lo9 kk hF'
          · rename_i hj
            refine made (ci := 31) (names := ["java/lang/RuntimeException", "java/lang/Exception"]) rfl xa_J21 (by decide +kernel) (by decide +kernel) (by decide) (by decide) (by decide) (fun H T h1 hT vm' hal fs E hE => ?_) kS hF'
            obtain ⟨c0, k0, m0, u1, u2, u3, u4, u5⟩ := cell H h1 vm' hal hs0 b0
            obtain ⟨c1, k1, m1', w1, w2, w3, w4, w5⟩ := cell H h1 vm' hal hs1 b1
            exact n_types (cs := c0) (cd := c1) (show T.heap[a0]? = _ by rw [hT]; exact u1) (show T.heap[a1]? = _ by rw [hT]; exact w1) u2 w2 u4 w4 u5 w5 (n_ne b0 b1 hj) (fun text t1 t2 => hE _ _ ⟨text, rfl, t1, t2⟩)
        · cases hF'
      · cases hF'
end NR
