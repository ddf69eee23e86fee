/-! calls that land in an interface's default method -/
set_option maxRecDepth 100000
def d_near (vm : Vm) (c : ClassId) (n d : String) (m : MethodId) : Prop := match nearestHeld vm c n d with
  | some (_, .default x) => x = m
  | some (_, .thrower _) => False
  | _ => True
theorem d_any {vm vm' : Vm} (h : vm.Alike vm') (f : Class → Bool) (hf : ∀ k : Class, f k.bare = f k) (c : ClassId) : (vm'.classes[c]?).any f = (vm.classes[c]?).any f := by
  cases hk : vm.classes[c]? with
  | none => rw [h.none hk]
  | some k =>
    obtain ⟨k', hk', he⟩ := h.2.2 _ _ hk
    rw [hk']
    show f k' = f k
    rw [← hf k', ← hf k, Class.bare_of he]
theorem d_nearEq {vm vm' : Vm} (h : vm.Alike vm') (c : ClassId) (n d : String) : nearestHeld vm' c n d = nearestHeld vm c n d := by
  have a1 : superinterfaceMethods vm' = superinterfaceMethods vm := (superinterfaceMethods_bare vm').symm.trans ((congrArg superinterfaceMethods h.bare_eq).trans (superinterfaceMethods_bare vm))
  have a2 : maximallySpecific vm' = maximallySpecific vm := (maximallySpecific_bare vm').symm.trans ((congrArg maximallySpecific h.bare_eq).trans (maximallySpecific_bare vm))
  have a3 : ∀ k : ClassId, (vm'.classes[k]?).any (·.isInterface) = (vm.classes[k]?).any (·.isInterface) := d_any h _ fun _ => rfl
  have a4 : ∀ k : ClassId, ((vm'.classes[k]?).any fun x => x.methods.any fun m => !m.isAbstract && !m.isStatic) = (vm.classes[k]?).any fun x => x.methods.any fun m => !m.isAbstract && !m.isStatic := d_any h _ fun _ => rfl
  have a5 : ∀ (g : ClassId → Bool) (k : ClassId), (vm'.classes[k]?).any (·.interfaces.any g) = (vm.classes[k]?).any (·.interfaces.any g) := fun g => d_any h _ fun _ => rfl
  unfold nearestHeld held
  simp only [h.superclasses, h.declaredIn, h.superinterfaces, h.method?, a1, a2, a3, a4, a5]
theorem d_spec {args : Array Value} {s : State} {C : String} {x y : MethodName} (h : (Cond.landsInDefault C x y).before args s = true) : ∃ (c : ClassId) (r m : MethodId) (rm : Method), s.vm.findClass C = some c ∧ s.methodFound? x.cls x.name x.desc = some r ∧ s.methodNamed? y = some m ∧ s.vm.method? r = some rm ∧ selectMethod {} s.vm c r = .method m ∧ (∃ mk, s.vm.classes[m.cls]? = some mk ∧ mk.isInterface = true) ∧
    ((c :: s.vm.superclasses c).any fun k => (declaredIn s.vm rm.name rm.desc k).any fun d => d.2.isPrivate || d.2.isStatic) = false ∧ d_near s.vm c rm.name rm.desc m := by
  simp only [Cond.before, Cond.holds, Cond.value] at h
  cases hc : s.vm.findClass C with
  | none => simp [hc] at h
  | some c =>
    cases hr : s.methodFound? x.cls x.name x.desc with
    | none => simp [hc, hr] at h
    | some r =>
      cases hm : s.methodNamed? y with
      | none => simp [hc, hr, hm] at h
      | some m =>
        cases hrm : s.vm.method? r with
        | none => simp [hc, hr, hm, hrm] at h
        | some rm =>
          refine ⟨c, r, m, rm, rfl, rfl, rfl, hrm, ?_⟩
          simp only [hc, hr, hm, hrm, Option.map_some] at h
          cases hs : selectMethod {} s.vm c r with
          | method m' =>
            simp only [hs, Option.getD_some, beq_iff_eq, Option.some.injEq, Bool.and_eq_true, decide_eq_true_eq, Bool.not_eq_true'] at h
            obtain ⟨⟨⟨⟨h1, h2⟩, h3⟩, h4⟩, h5⟩ := h
            subst h1
            refine ⟨rfl, ?_, h4, ?_⟩
            · cases hk : s.vm.classes[m'.cls]? with
              | none => rw [hk] at h2; cases h2
              | some mk => rw [hk] at h2; exact ⟨mk, rfl, h2⟩
            · unfold d_near
              cases hh : nearestHeld s.vm c rm.name rm.desc with
              | none => trivial
              | some q =>
                obtain ⟨k, q⟩ := q
                rw [hh] at h5
                cases q with
                | default x => exact of_decide_eq_true h5
                | thrower b => cases h5
                | nothing => trivial
          | _ => simp [hs] at h
section DW
variable {Q : Unit → Pre} {E : CtlPost} {e : Env} {d : Bool} {acts : List Action} {s : State} {f : JFrame}
theorem d_select {Q : Selection → Pre} {c : ClassId} {r m : MethodId} {rmeth meth : Method} {mk : Class} (hsel : selectMethod e.platform s.vm c r = .method m) (hrm : s.vm.method? r = some rmeth) (hm : s.vm.method? m = some meth) (hmk : s.vm.classes[m.cls]? = some mk) (hitf : mk.isInterface = true) (hn : d_near s.vm c rmeth.name rmeth.desc m) :
    wp (invokeinterface.selectVirtual c r) Q E e d acts s ↔ Q (.method m) d acts s := by
  unfold d_near at hn
  cases hh : nearestHeld s.vm c rmeth.name rmeth.desc with
  | none => simp [invokeinterface.selectVirtual, hrm, selectFor_method hsel hm, hmk, hitf, hh]
  | some q =>
    obtain ⟨k, q⟩ := q
    rw [hh] at hn
    cases q with
    | default x =>
      have hn : x = m := hn
      subst hn
      simp [invokeinterface.selectVirtual, hrm, selectFor_method hsel hm, hmk, hitf, hh]
    | thrower b => exact absurd hn (fun h => h)
    | nothing => simp [invokeinterface.selectVirtual, hrm, selectFor_method hsel hm, hmk, hitf, hh]
theorem d_wp {index a : Nat} {r m : MethodId} {c' : ClassId} {k k' mk : Class} {rmeth meth : Method} {args rest : List Value} {cell : Cell}
    (hs : s.topJava?.isSome) (hnamed : namesResolved s.vm f.method.cls index c') (hk' : s.vm.classes[c']? = some k') (hclass : k'.isInterface = false) (hr : s.vm.methodReady f.method.cls index r) (hk : s.vm.classes[r.cls]? = some k) (hrm : s.vm.method? r = some rmeth) (hpoly : signaturePolymorphic k rmeth = false) (hstatic : rmeth.isStatic = false)
    (hlen : args.length = rmeth.sig.parameters.length) (hstack : f.stack = args.reverse ++ .ref a :: rest) (hcell : s.heap[a]? = some cell) (hobj : ∀ c, cell.vm ≠ .statics c) (hsel : selectMethod e.platform s.vm cell.cls r = .method m) (hm : s.vm.method? m = some meth) (habs : meth.isAbstract = false)
    (hmk : s.vm.classes[m.cls]? = some mk) (hitf : mk.isInterface = true) (hn : d_near s.vm cell.cls rmeth.name rmeth.desc m) :
    wp (invokevirtual.sem index) Q E e d acts (s.setTop f) ↔ E (.invoke m (.ref a :: args).toArray) acts (s.setTop { f with stack := rest }) := by
  obtain ⟨kc, cf, ci, n, h1, h2, h3, h4⟩ := hnamed
  have hpre : ∀ {Q' : ClassId → Pre}, wp (Jvm.refClassAt index) Q' E e d acts (s.setTop f) ↔ Q' c' d acts (s.setTop f) := by
    intro Q'
    rcases h3 with h3 | h3 <;>
      simp [Jvm.refClassAt, Jvm.constantAt, State.method?_setTop f hs, h1, h2, h3, W.resolveClassAt_ready (State.method?_setTop f hs) h4]
  have hd := fun (Q : Selection → Pre) (d : Bool) (f2 : JFrame) => d_select (Q := Q) (E := E) (e := e) (d := d) (acts := acts) (s := s.setTop f2) (c := cell.cls) (r := r) (m := m) (rmeth := rmeth) (meth := meth) (mk := mk) hsel hrm hm hmk hitf hn
  simp only [invokevirtual.sem, wp_bind', hpre, W.theClass, State.vm_setTop, hk', Option.some.injEq, exists_eq_left', W.ite, hclass, Bool.false_eq_true, if_false, wp_pure', W.resolveMethodAt_ready (State.method?_setTop f hs) hr]
  simp only [W.theMethod, State.vm_setTop, hrm, Option.some.injEq, exists_eq_left', Seam.isPolymorphic, wp_bind', W.theClass, hk, wp_pure', hpoly, W.ite, Bool.false_eq_true, if_false, hstatic, Jvm.popArgs, ← hlen, popN_top hs hstack]
  simp [hs, hcell, hobj, hd, hm, habs]
end DW
section DS
variable {p : Program} {l : Launch} {e : Env} {R : Room} {s : State} {m : MethodId} {args : Array Value} {below : List Frame} {meth : Method} {c : Code} {T : State} {locs : List Loc} {cells slots : Nat}
theorem d_invoke (X : Stand p l e R s m args below meth c T locs cells slots) (hexec : p.tables.exec = Jvm.exec)
    {own owner : String} {index : Nat} {x : MethodName} (hown : s.vm.findClass own = some m.cls) (hlink : (Cond.methodLink own index x).before args s = true)
    (hsame : (Cond.sameMethod x.cls owner x.name x.desc).before args s = true) (howner : owner ≠ "java/lang/invoke/MethodHandle" ∧ owner ≠ "java/lang/invoke/VarHandle")
    {r0 : MethodId} {r : Method} (hn : s.methodNamed? ⟨owner, x.name, x.desc⟩ = some r0) (hrm : s.vm.method? r0 = some r) (hstatic : r.isStatic = false)
    {a : Addr} {cell : Cell} (hcell : T.heap[a]? = some cell) (hobj : ∀ c, cell.vm ≠ .statics c)
    {m' : MethodId} {meth' : Method} {mk : Class} (hsel : selectMethod e.platform s.vm cell.cls r0 = .method m') (hm' : s.vm.method? m' = some meth') (habs : meth'.isAbstract = false)
    (hmk : s.vm.classes[m'.cls]? = some mk) (hitf : mk.isInterface = true) (hnear : d_near s.vm cell.cls r.name r.desc m')
    {g : JFrame} (hg : g.method = m) {argsL rest : List Value} (hlen : argsL.length = r.sig.parameters.length) (hstack : g.stack = argsL.reverse ++ .ref a :: rest) (hdg : decode c.code g.pc = .ok (.invokevirtual index, 3)) :
    ∃ vm', Stand p l e R s m args below meth c (T.setVm vm') locs cells slots ∧
      ∀ target, (∀ acts, Steps p.tables e below (doInvoke e ((T.setVm vm').setTop { g with stack := rest }) acts m' (.ref a :: argsL).toArray).1 target) → Steps p.tables e below (T.setTop g) target := by
  obtain ⟨cn, ck, r1, hcn, hck, hni, hf, hn1⟩ := Cond.sameMethod_found hsame
  cases hn.symm.trans hn1
  obtain ⟨ci, hl, hright⟩ := Cond.methodLink_specUp hown hcn hck hni hf hlink e.platform (by rw [X.admits.platform]) (by rw [X.admits.platform])
  have hE : s.MethodEntryUp e T.vm m.cls index cn r0 ci := State.methodEntryUp X.warmed hl hright
  obtain ⟨kr, hkr, hnr⟩ := className_of_methodNamed hn
  obtain ⟨dk, cfile, nt, _, _, _, _, _, hd, hcf, hcp, -⟩ := hl.here
  have al := hE.warmed.alike
  obtain ⟨dk2, hdk2, hres⟩ := hE.classReady
  obtain ⟨dk3, hdk3, hed⟩ := al.2.2 _ _ hd
  cases hdk2.symm.trans hdk3
  obtain ⟨kr2, hkr2, her⟩ := al.2.2 _ _ hkr
  obtain ⟨ck2, hck2, hec⟩ := al.2.2 _ _ hck
  obtain ⟨mk2, hmk2, hem⟩ := al.2.2 _ _ hmk
  refine ⟨T.vm.calledUp m.cls ci index cn r0, X.noted hE.warmed, fun target hrest => ?_⟩
  subst hg
  have hnear2 : d_near (T.setVm (T.vm.calledUp g.method.cls ci index cn r0)).vm cell.cls r.name r.desc m' := by
    unfold d_near
    rw [show nearestHeld (T.setVm (T.vm.calledUp g.method.cls ci index cn r0)).vm cell.cls r.name r.desc = nearestHeld s.vm cell.cls r.name r.desc from d_nearEq al _ _ _]
    exact hnear
  jvm_step X.here [hexec, hdg, invokevirtual.wp_coldUp (e := e) (s := T) (s₀ := s) (f := g) X.here.top X.warmed hE hd hcf (Or.inl hcp) hck hni,
    d_wp (e := e) (s := T.setVm (T.vm.calledUp g.method.cls ci index cn r0)) (f := g) (r := r0) (m := m') (c' := cn) (k := kr2) (k' := ck2) (mk := mk2) (rmeth := r) (meth := meth') (a := a) (args := argsL) (rest := rest) (cell := cell)
      X.here.top ⟨dk2, cfile, ci, nt, hdk2, by rw [hed]; exact hcf, Or.inl hcp, dk2, hdk2, hres⟩ hck2 (by rw [hec]; exact hni) hE.ready hkr2
      (by show (T.vm.calledUp g.method.cls ci index cn r0).method? r0 = some r; rw [al.method?]; exact hrm)
      (by rw [her]; show signaturePolymorphic kr r = false; simp [signaturePolymorphic, hnr, howner.1, howner.2]) hstatic hlen hstack hcell hobj
      (by show selectMethod e.platform (T.vm.calledUp g.method.cls ci index cn r0) cell.cls r0 = .method m'; rw [al.selectMethod]; exact hsel)
      (by show (T.vm.calledUp g.method.cls ci index cn r0).method? m' = some meth'; rw [al.method?]; exact hm') habs hmk2 (by rw [hem]; exact hitf) hnear2]
  exact hrest
end DS
theorem g_E.narrow {Γ : Gc} {s : State} (h : g_E Γ s) {w : Cond} (hm : w ∈ flatC (Jvm.Cond.and given_1 narrow_1)) (hk : (w.onTables && w.keeps) = true) (args : Array Value) : w.before args s = true := by
  obtain ⟨-, s0, g2, g3, -, g5, -⟩ := h
  exact word_at g5 (Or.inl hk) (flat_of_before _ g3 _ hm)
/-- what is known at a state of a call that lands in a default -/
theorem d_lands {Γ : Gc} {s : State} (h : g_E Γ s) {C owner : String} {x y : MethodName} (hm : Cond.landsInDefault C x y ∈ flatC (Jvm.Cond.and given_1 narrow_1))
    (hfn : ∀ s0 : State, (∀ w ∈ lw_tbl, w.before #[Value.ref Γ.2.2.2.1] s0 = true) → (Jvm.Cond.and given_1 narrow_1).before #[Value.ref Γ.2.2.2.1] s0 = true → ∃ r, s0.methodFound? x.cls x.name x.desc = some r ∧ s0.methodNamed? ⟨owner, x.name, x.desc⟩ = some r) :
    ∃ (c : ClassId) (r m : MethodId) (rm : Method) (mk : Class), s.vm.findClass C = some c ∧ s.methodNamed? ⟨owner, x.name, x.desc⟩ = some r ∧ s.methodNamed? y = some m ∧ s.vm.method? r = some rm ∧ selectMethod {} s.vm c r = .method m ∧ s.vm.classes[m.cls]? = some mk ∧ mk.isInterface = true ∧
    ((c :: s.vm.superclasses c).any fun k => (declaredIn s.vm rm.name rm.desc k).any fun d => d.2.isPrivate || d.2.isStatic) = false ∧ d_near s.vm c rm.name rm.desc m := by
  obtain ⟨-, s0, g2, g3, -, g5, -⟩ := h
  have al := g5.alike
  obtain ⟨c, r, m, rm, h1, h2, h3, h4, h5, ⟨mk, h6, h6'⟩, h7, h8⟩ := d_spec (flat_of_before _ g3 _ hm)
  obtain ⟨r1, f1, f2⟩ := hfn s0 g2 g3
  cases h2.symm.trans f1
  obtain ⟨mk', q1, q2⟩ := al.2.2 _ _ h6
  have nm : ∀ z : MethodName, s.methodNamed? z = s0.methodNamed? z := fun z => State.methodNamed?_setVm al z
  refine ⟨c, r, m, rm, mk', by rw [al.findClass]; exact h1, (nm _).trans f2, (nm _).trans h3, by rw [al.method?]; exact h4, by rw [al.selectMethod]; exact h5, q1, by rw [q2]; exact h6', ?_, ?_⟩
  · rw [al.superclasses]
    simp only [al.declaredIn]
    exact h7
  · unfold d_near
    rw [d_nearEq al]
    exact h8
section DC
variable {p : Program} {l : Launch} {e : Env} {R : Room} {s : State} {m : MethodId} {args : Array Value} {below : List Frame} {meth : Method} {c : Code} {H : Heap} {locs : List Loc} {cells slots : Nat} {Γ : Gc}
theorem d_runV {x y : MethodName} {bytes cc : ByteArray} {maxL nL mc ms n index : Nat} {ret : Option FieldType} {rm : Room} {Pc : Array Value → State → Prop} {Qc : Array Value → State → Outcome → State → Prop} {free : Addr → Prop} {own C owner : String} {b : Addr} {As rest : List Value} {g : JFrame}
    (S : CallFix p m c cc nL s args lw_all own) (hE : g_E Γ s) (hM : Met l y (ws_ y bytes maxL ret) rm Pc Qc mc ms free) (hG : GoodIn lw_all (ws_ y bytes maxL ret)) (hrc : rm.cells = mc) (hrs : rm.slots = ms) (hR : rm.frames + 1 ≤ R.frames ∧ 8 + (maxL + 11) + rm.locals ≤ R.locals) (hini : Cond.initialized y.cls ∈ lw_all) (hinst : Cond.instanceMethod y ∈ lw_all)
    (hlink : Cond.methodLink own index x ∈ flatC (Jvm.Cond.and given_1 narrow_1)) (hsame : Cond.sameMethod x.cls owner x.name x.desc ∈ flatC (Jvm.Cond.and given_1 narrow_1)) (hlands : Cond.landsInDefault C x y ∈ flatC (Jvm.Cond.and given_1 narrow_1)) (hyo : y = ⟨owner, x.name, x.desc⟩)
    (howner : owner ≠ "java/lang/invoke/MethodHandle" ∧ owner ≠ "java/lang/invoke/VarHandle") (hlen : (parseMethodDescriptor x.desc).map (fun d => d.parameters.length) = some n)
    (hp : PreV s H C b Pc As) (hg : g.method = m) (hn : As.length = n) (hsize : g.locals.size = nL) (hstack : g.stack = As.reverse ++ .ref b :: rest) (hW : 2 * g.monitorRoom + (rest.map fun v => v.category).sum ≤ 8) (hdg : decode cc g.pc = .ok (.invokevirtual index, 3)) (hf : cells + mc ≤ R.cells ∧ slots + ms ≤ R.slots) :
    va_Run p l e R s m args below meth c H locs cells slots mc ms g rest (Qc (Value.ref b :: As).toArray) (free) := by
  obtain ⟨hx, hb, hml, ho, hts⟩ := S
  have hcw : Cond.code y bytes maxL ret ∈ ws_ y bytes maxL ret := List.mem_cons_self
  have hK : Back l R p e below s args y 3 8 (PreOf R mc ms Pc) (PostOf Qc mc ms free) := back_of (bytes := bytes) (maxL := maxL) (ret := ret) hM hp.1 hrc hrs hR.1 hR.2 (pay_in hts hG) hcw (fun a' U hW => word_at hW (Or.inl (by first | rfl | simp [Cond.onTables, Cond.keeps, Cond.steady])) (hts _ hini))
  obtain ⟨-, ⟨cellB, hcB, hoB, hclB⟩, hPc⟩ := hp
  obtain ⟨c2, r0, mk, r, kI, q1, q2, q3, q4, q5, q6, q7, -, q8⟩ := d_lands (owner := owner) hE hlands (fun s0 _ g3 => by
    obtain ⟨cn, ck, r1, -, -, -, z1, z2⟩ := Cond.sameMethod_found (flat_of_before _ g3 _ hsame)
    exact ⟨r1, z1, z2⟩)
  cases hclB.symm.trans q1
  have hc0 := hts _ (hG _ hcw).1
  obtain ⟨r9, rr9, w1, w2, w3, w4⟩ := va_Decl.of (hts _ hinst) hc0
  rw [hyo] at w1
  cases q2.symm.trans w1
  cases q4.symm.trans w2
  obtain ⟨mk9, methM, hnamed, hmethM, -, habM⟩ := Cond.instanceMethod_spec (hts _ hinst)
  cases hnamed.symm.trans q3
  intro T hT X
  have hselP : selectMethod e.platform s.vm cellB.cls r0 = .method mk := by rw [Launch.admits_selectMethod X.admits]; exact q5
  have hl1 : ∀ sig, parseMethodDescriptor x.desc = some sig → n = sig.parameters.length := fun sig h => by
    rw [h] at hlen
    exact (Option.some.inj hlen).symm
  have hd9 : parseMethodDescriptor x.desc = some r.sig := by
    rw [hyo] at w4
    exact w4
  obtain ⟨vm₁, X₁, hstep₁⟩ := d_invoke X hx ho (hE.narrow hlink (by first | rfl | simp [Cond.onTables, Cond.keeps, Cond.steady]) args) (hE.narrow hsame (by first | rfl | simp [Cond.onTables, Cond.keeps, Cond.steady]) args) howner q2 q4 w3 (a := b) (cell := cellB) (by rw [hT]; exact hcB)
    (fun z h => by rw [h] at hoB; cases hoB) hselP hmethM habM q6 q7 q8 (g := g) hg (argsL := As) (rest := rest) (hn.trans (hl1 _ hd9)) hstack (by rw [hb]; exact hdg)
  obtain ⟨v, ⟨U', l2, c2, s2⟩, X', ⟨g', mk', t, L, e1, e2, hq, h1, hL, h2, h3⟩, hsteps⟩ := hK m meth c ⟨T.setVm vm₁, locs, cells, slots⟩ { g with stack := rest } (.invokevirtual index) mk (Value.ref b :: As).toArray X₁ hg (hsize.trans hml.symm) (by rw [hb]; exact hdg) hW (X₁.named hnamed) ⟨hf.1, hf.2, hPc (T.setVm vm₁) hT X₁.warmed⟩
  dsimp only [Pt.U, Pt.locs, Pt.cells, Pt.slots] at X' e1 e2 h1 h2 h3 hsteps
  subst h1; subst h2; subst h3
  exact ⟨v, (T.setVm vm₁).calling g' mk' (Value.ref b :: As).toArray, t, U', L, hT, X', hL, e1, e2, hq, fun target h => hstep₁ _ fun acts => by rw [doInvoke_state]; exact hsteps.trans h⟩
end DC
