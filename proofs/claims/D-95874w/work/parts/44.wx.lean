/-! the walk where an exception is on its way; calls of callees that may throw, and of methods with a table -/
set_option maxRecDepth 100000
/-- as Wf, but the exception a is on its way out of the instruction at pc -/
def Wx (Γ : Gc) (p : Program) (l : Launch) (e : Env) (fr lo : Nat) (s : State) (m : MethodId) (args : Array Value) (below : List Frame) (meth : Method) (c : Code) (nL : Nat) {α τ : Type} (ι : τ → Iv) (vl : α → Option Value) (rF : α) (tF : τ) (pc : Nat) (lv : List (Nat × Value)) (st : List Value) (a : Nat) (t : τ) (F : Option (α × τ)) : Prop :=
  F = some (rF, tF) → ((ι t).2.2.1 ≤ (ι tF).2.2.1 ∧ (ι t).2.2.2 ≤ (ι tF).2.2.2) ∧ ∀ (H : Heap) (locs : List Loc) (ls : Array Slot), g_H Γ (ι t).1 H → H.size = (ι t).2.1 → va_S (g_A Γ.2.2.1) s.heap H locs → lv_has ls nL lv →
    ∀ T : State, T.heap = H → Stand p l e (g_R fr lo (ι tF)) s m args below meth c T locs (ι t).2.2.1 (ι t).2.2.2 → ∃ u, Steps p.tables e below ((T.setTop (F0 m pc ls st)).pushFrame (.throwing a)) u ∧ MZ Γ below vl rF (ι tF) args s u
/-- the row of the table at hp takes an exception of the class C that comes from pc -/
def x_ev (own : String) (pc : Nat) (C : String) (hp : Nat) : List (Nat × Nat × Nat × Nat) → Prop
  | [] => False
  | y :: r => ((decide (y.1 ≤ pc) && decide (pc < y.2.1)) = false ∧ x_ev own pc C hp r) ∨ ((decide (y.1 ≤ pc) && decide (pc < y.2.1)) = true ∧ y.2.2.2 ≠ 0 ∧ ∃ n : String, Cond.classLink own y.2.2.2 n ∈ lw_all ∧ ((Cond.not (.castable C n) ∈ flatC (Jvm.Cond.and given_1 narrow_1) ∧ x_ev own pc C hp r) ∨ (Cond.castable C n ∈ lw_tbl ∧ y.2.2.1 = hp)))
theorem x_ev.pass {own C n : String} {pc hp a b h k : Nat} {r : List (Nat × Nat × Nat × Nat)} (h1 : (decide (a ≤ pc) && decide (pc < b)) = true) (h2 : k ≠ 0) (h3 : Cond.classLink own k n ∈ lw_all) (h4 : Cond.not (.castable C n) ∈ flatC (Jvm.Cond.and given_1 narrow_1)) (h5 : x_ev own pc C hp r) : x_ev own pc C hp ((a, b, h, k) :: r) := Or.inr ⟨h1, h2, n, h3, Or.inl ⟨h4, h5⟩⟩
theorem x_ev.take {own C n : String} {pc hp a b k : Nat} {r : List (Nat × Nat × Nat × Nat)} (h1 : (decide (a ≤ pc) && decide (pc < b)) = true) (h2 : k ≠ 0) (h3 : Cond.classLink own k n ∈ lw_all) (h4 : Cond.castable C n ∈ lw_tbl) : x_ev own pc C hp ((a, b, hp, k) :: r) := Or.inr ⟨h1, h2, n, h3, Or.inr ⟨h4, rfl⟩⟩
/-- which class it is of -/
def cif {α : Type} (t : St) (a ci : Nat) (F G : Option (α × St)) : Option (α × St) := match t.1 a with
  | some (_, .inr o) => if o.1 = ci then F else G
  | _ => none
theorem x_nocast {Γ : Gc} {s : State} (hE : g_E Γ s) {C n : String} (h : Cond.not (.castable C n) ∈ flatC (Jvm.Cond.and given_1 narrow_1)) {c1 c2 : ClassId} (h1 : s.vm.findClass C = some c1) (h2 : s.vm.findClass n = some c2) : s.vm.assignable c1 c2 = false := by
  obtain ⟨-, s0, -, g3, -, g5, -⟩ := hE
  have al := g5.alike
  have hw := flat_of_before _ g3 _ h
  rw [al.findClass] at h1 h2
  rw [al.assignable]
  simp only [Cond.before, Cond.holds, Cond.value, h1, h2] at hw
  simpa using hw
section WX
variable {Γ : Gc} {p : Program} {l : Launch} {e : Env} {fr lo : Nat} {s : State} {m : MethodId} {args : Array Value} {below : List Frame} {meth : Method} {c : Code} {nL : Nat} {α τ : Type} {ι : τ → Iv} {vl : α → Option Value} {rF : α} {tF : τ} {pc a : Nat} {lv lv' : List (Nat × Value)} {st rest : List Value} {t : τ} {F G : Option (α × τ)} {cc : ByteArray} {own : String} {tb : List (Nat × Nat × Nat × Nat)}
theorem x_none : Wx Γ p l e fr lo s m args below meth c nL ι vl rF tF pc lv st a t none := fun hF => by cases hF
/-- it leaves the method -/
theorem x_leave (X : g_X Γ p s m args meth c cc nL own) (ht : g_T meth tb) (ho : g_out tb pc = true) {β : Type} {vl : β ⊕ Nat → Option Value} {rF : β ⊕ Nat} (hvl : vl (.inr a) = some (.retAddr a)) : Wx Γ p l e fr lo s m args below meth c nL ι vl rF tF pc lv st a t (some (.inr a, t)) := by
  intro hF
  obtain ⟨rfl, rfl⟩ : Sum.inr a = rF ∧ t = tF := by simpa using hF
  refine ⟨⟨Nat.le_refl _, Nat.le_refl _⟩, fun H locs ls h1 h2 h3 h4 T hT XT => ?_⟩
  obtain ⟨stp, q1, q2, q3, q4⟩ := XT.leaveThrown a (g := F0 m pc ls st) rfl rfl rfl (g_out_spec (ht c XT.code) ho) X.2.2.2.2.2.1
  subst hT
  exact ⟨_, stp, Or.inr ⟨a, hvl, q1, q2, ⟨h1, h2, h3.F rfl⟩, locs, ⟨q3, q4⟩, h3.2.2⟩⟩
theorem x_toPath (X : g_X Γ p s m args meth c cc nL own) {pl : Platform} (hpl : pl.magicAccessors = ({} : Platform).magicAccessors) {C : String} {ct : ClassId} (hct : s.vm.findClass C = some ct) {pc hp : Nat} : ∀ {L : List ExceptionTableEntry} {tb : List (Nat × Nat × Nat × Nat)}, L.map (fun h => (h.startPc, h.endPc, h.handlerPc, h.catchType)) = tb → x_ev own pc C hp tb → x_path s pl m.cls pc ct hp L := by
  intro L
  induction L with
  | nil => intro tb h1 h2; subst h1; exact h2
  | cons x r ih =>
    intro tb h1 h2
    subst h1
    rcases h2 with ⟨q1, q2⟩ | ⟨q1, q2, n, q3, q4⟩
    · exact Or.inl ⟨q1, ih rfl q2⟩
    · obtain ⟨cT, hcT, hl⟩ := Cond.classLink_spec X.2.2.2.1 (X.2.2.2.2.1 _ q3) pl hpl
      refine Or.inr ⟨q1, q2, cT, hl, ?_⟩
      rcases q4 with ⟨q4, q5⟩ | ⟨q4, q5⟩
      · refine Or.inl ⟨?_, ih rfl q5⟩
        exact x_nocast X.2.2.2.2.2.2.1 q4 hct hcT
      · refine Or.inr ⟨?_, q5⟩
        obtain ⟨c1, c2, g1, g2, g3⟩ := Cond.castable_spec (va_Nw.use rfl (X.2.2.2.2.2.2.1.castable q4) (A := args))
        cases hct.symm.trans g1
        cases hcT.symm.trans g2
        exact g3
/-- it is caught -/
theorem x_catch (X : g_X Γ p s m args meth c cc nL own) (ht : g_T meth tb) {ci : Nat} {C : String} {T0 : u_T} {N : Nat} {fl : Bool} {fs : List Value} (hs : (ι t).1 a = some (fl, .inr (ci, fs))) (hc : cls[ci]? = some (C, T0, N)) (hp : Nat) (hev : x_ev own pc C hp tb) (kk : Wf Γ p l e fr lo s m args below meth c nL ι vl rF tF hp lv [.ref a] t F) : Wx Γ p l e fr lo s m args below meth c nL ι vl rF tF pc lv st a t F := by
  intro hF
  refine ⟨(kk hF).1, fun H locs ls h1 h2 h3 h4 T hT XT => ?_⟩
  obtain ⟨r, g1, cell, q1, q2, q3, -, q4⟩ := (h1 a _ hs).1.2
  cases g1.symm.trans hc
  obtain ⟨-, hfc, kC, hkC, -⟩ := X.2.2.2.2.2.2.1.1.1 ci _ hc
  have hpl : e.platform.magicAccessors = ({} : Platform).magicAccessors := by rw [XT.admits.platform]
  obtain ⟨vm', X', hgo⟩ := x_caught XT (a := a) (g := F0 m pc ls st) rfl (cell := cell) (by rw [hT]; exact q1) q3 ⟨kC, by rw [q2]; exact hkC⟩ (hp := hp) (x_toPath X hpl (by rw [q2]; exact hfc) (ht c XT.code) hev)
  obtain ⟨u, a1, b1⟩ := (kk hF).2 H locs ls h1 h2 h3 h4 (T.setVm vm') hT X'
  exact ⟨u, hgo u a1, b1⟩
theorem x_lv (ks : List Nat) (hl : lv_pick lv ks = lv') (k : Wx Γ p l e fr lo s m args below meth c nL ι vl rF tF pc lv' st a t F) : Wx Γ p l e fr lo s m args below meth c nL ι vl rF tF pc lv st a t F :=
  fun hF => ⟨(k hF).1, fun H locs ls h1 h2 h3 h4 => (k hF).2 H locs ls h1 h2 h3 (lv_sub h4 ks hl)⟩
end WX
theorem x_cif {Γ : Gc} {p : Program} {l : Launch} {e : Env} {fr lo : Nat} {s : State} {m : MethodId} {args : Array Value} {below : List Frame} {meth : Method} {c : Code} {nL z : Nat} {α : Type} {vl : α → Option Value} {rF : α} {t tF : St} {pc a ci : Nat} {lv : List (Nat × Value)} {st : List Value} {F G : Option (α × St)}
    (k1 : ∀ fl fs, t.1 a = some (fl, .inr (ci, fs)) → Wx Γ p l e fr lo s m args below meth c nL (g_ι z) vl rF tF pc lv st a t F) (k2 : Wx Γ p l e fr lo s m args below meth c nL (g_ι z) vl rF tF pc lv st a t G) : Wx Γ p l e fr lo s m args below meth c nL (g_ι z) vl rF tF pc lv st a t (cif t a ci F G) := by
  intro hF
  unfold cif at hF
  split at hF
  · rename_i fl o hs
    split at hF
    · rename_i hq
      exact k1 fl o.2 (by rw [hs, ← hq]) hF
    · exact k2 hF
  · cases hF
/-- the callee's code, by its word -/
def x_cd (y : MethodName) (cc : ByteArray) (nL : Nat) (ret : Option FieldType) (tb : List (Nat × Nat × Nat × Nat)) : Prop := (Cond.code y cc nL ret ∈ lw_all ∧ tb = []) ∨ Cond.codeWith y cc nL ret tb ∈ lw_all
theorem x_cd.spec {y : MethodName} {cc : ByteArray} {nL : Nat} {ret : Option FieldType} {tb : List (Nat × Nat × Nat × Nat)} (h : x_cd y cc nL ret tb) {s : State} {args : Array Value} (hts : ∀ w ∈ lw_all, w.before args s = true) {m : MethodId} (hn : s.methodNamed? y = some m) :
    ∃ meth c, s.vm.method? m = some meth ∧ meth.code = some c ∧ c.code = cc ∧ c.maxLocals = nL ∧ meth.sig.returnType = ret ∧ meth.locks = false ∧ g_T meth tb ∧ parseMethodDescriptor y.desc = some meth.sig := by
  rcases h with ⟨h, rfl⟩ | h
  · obtain ⟨meth, c, h1, h2, h3, h4, h5, h6, h7, h8⟩ := Cond.code_spec hn (hts _ h)
    refine ⟨meth, c, h1, h2, h3, h4, h5, h6, fun c' hc' => ?_, h8⟩
    cases h2.symm.trans hc'
    rw [Array.isEmpty_iff.mp h7]
    rfl
  · obtain ⟨m', meth, c, h0, h1, h2, h3, h4, h7, h5, h6, h8⟩ := Cond.codeWith_spec (hts _ h)
    cases hn.symm.trans h0
    refine ⟨meth, c, h1, h2, h3, h4, h5, h6, fun c' hc' => ?_, h8⟩
    cases h2.symm.trans hc'
    exact h7
/-- a callee's body, walked; its table is known -/
def g_CT (Γ : Gc) (l : Launch) (y : MethodName) (cc : ByteArray) (nL : Nat) (ret : Option FieldType) (tb : List (Nat × Nat × Nat × Nat)) (fr lo : Nat) (avs : List Value) (σ : Sg) (sz : Nat) {β : Type} (vl : β → Option Value) (r : β) (q : Iv) : Prop :=
  ∀ (p : Program) (e : Env) (s : State) (m : MethodId) (args : Array Value) (below : List Frame) (meth : Method) (c : Code), p.tables.exec = Jvm.exec → s.methodNamed? y = some m → s.vm.method? m = some meth → c.code = cc → c.maxLocals = nL → meth.sig.returnType = ret → meth.locks = false → g_T meth tb → (∀ w ∈ lw_all, w.before args s = true) → g_Pc Γ avs σ sz args s →
    W p l e (g_R fr lo q) s m args below meth c s.heap [] 0 0 (MZ Γ below vl r q args s) (entryFrame m args nL)
theorem g_metT {Γ : Gc} {l : Launch} {fr lo nL : Nat} {α τ : Type} {ι : τ → Iv} {vl : α → Option Value} {rF : α} {tF t : τ} {F : Option (α × τ)} {y : MethodName} {cc : ByteArray} {ret : Option FieldType} {tb : List (Nat × Nat × Nat × Nat)} (avs : List Value) (hlen : (lg_sl avs).length ≤ nL) (hF : F = some (rF, tF)) (h0 : (ι t).2.2 = (0, 0))
    (body : ∀ (p : Program) (e : Env) (s : State) (m : MethodId) (args : Array Value) (below : List Frame) (meth : Method) (c : Code), g_X Γ p s m args meth c cc nL y.cls → meth.sig.returnType = ret → meth.name = y.name → g_T meth tb → Wf Γ p l e fr lo s m args below meth c nL ι vl rF tF 0 (lv_args 0 avs) [] t F) :
    g_CT Γ l y cc nL ret tb fr lo avs (ι t).1 (ι t).2.1 vl rF (ι tF) := by
  intro p e s m args below meth c hx hn hm hb hml hr hk ht hts hv
  obtain ⟨rfl, hH, hsz, hE, hbs⟩ := hv
  have hown : s.vm.findClass y.cls = some m.cls := findClass_of_methodNamed hn
  have hl := lv_entry avs (n := nL) hlen
  have K := (body p e s m avs.toArray below meth c ⟨hx, hb, hml, hown, hts, hk, hE, by rw [hsz]; exact hbs⟩ hr (name_of_methodNamed hn hm).1 ht hF).2 s.heap [] _ hH hsz va_S.rf hl
  rw [h0] at K
  rw [lg_entry_eq]
  exact K
section IT
variable {p : Program} {l : Launch} {e : Env} {R : Room} {s : State} {m : MethodId} {args : Array Value} {below : List Frame} {meth : Method} {c : Code} {T : State} {locs : List Loc} {cells slots : Nat} {Γ : Gc}
/-- how the callee has ended, seen by its caller -/
def x_End (p : Program) (l : Launch) (e : Env) (R : Room) (s : State) (m : MethodId) (args : Array Value) (below : List Frame) (meth : Method) (c : Code) (H : Heap) (locs : List Loc) (cells slots : Nat) (Γ : Gc) {β : Type} (vl : β → Option Value) (r : β) (q : Iv) (g : JFrame) (len : Nat) (from_ : State → Prop) : Prop :=
  ∃ (T' : State) (L : List Loc), Stand p l e R s m args below meth c T' (locs ++ L) (cells + q.2.2.1) (slots + q.2.2.2) ∧ (∀ q1 ∈ L, Γ.2.2.1 ≤ q1.base) ∧ g_H Γ q.1 T'.heap ∧ T'.heap.size = q.2.1 ∧ (H.size ≤ T'.heap.size ∧ ∀ q1 : Nat, q1 < H.size → ¬ g_A Γ.2.2.1 q1 → T'.heap[q1]? = H[q1]?) ∧
    (((∀ a, vl r ≠ some (.retAddr a)) ∧ ∀ target, Steps p.tables e below (T'.setTop { g with pc := g.pc + len, stack := (vl r).toList ++ g.stack }) target → from_ target) ∨ ∃ a : Nat, vl r = some (.retAddr a) ∧ ∀ target, Steps p.tables e below ((T'.setTop g).pushFrame (.throwing a)) target → from_ target)
theorem d_intoT {y : MethodName} {bytes : ByteArray} {maxL : Nat} {ret : Option FieldType} {tb : List (Nat × Nat × Nat × Nat)} {fr lo : Nat} {avs : List Value} {σ : Sg} {sz : Nat} {β : Type} {vl : β → Option Value} {r : β} {q : Iv} {mk : MethodId} {ig : Instr} {len : Nat} {g : JFrame}
    (X : Stand p l e R s m args below meth c T locs cells slots) (hx : p.tables.exec = Jvm.exec) (hts : ∀ w ∈ lw_all, w.before args s = true) (hpl : plainFor y = true) (hM : g_CT Γ l y bytes maxL ret tb fr lo avs σ sz vl r q) (hcode : x_cd y bytes maxL ret tb) (hnamed : s.methodNamed? y = some mk)
    (hfr : fr + 1 ≤ R.frames) (hlo : 8 + (maxL + 11) + lo ≤ R.locals) (hg : g.method = m) (hsize : g.locals.size = c.maxLocals) (hW : 2 * g.monitorRoom + (g.stack.map fun v => v.category).sum ≤ 8) (hdg : decode c.code g.pc = .ok (ig, len))
    (hf : cells + q.2.2.1 ≤ R.cells ∧ slots + q.2.2.2 ≤ R.slots) (hp : g_Pc Γ avs σ sz avs.toArray T) :
    x_End p l e R s m args below meth c T.heap locs cells slots Γ vl r q g len (fun target => ∀ acts, Steps p.tables e below (doInvoke e (T.setTop g) acts mk avs.toArray).1 target) := by
  obtain ⟨methM, cM, h1, h2, h3, h4, h5, h6, h7, -⟩ := hcode.spec hts hnamed
  have al := X.warmed.alike
  have hm1 : T.vm.method? mk = some methM := by rw [al.method?]; exact h1
  have hn1 : T.methodNamed? y = some mk := (State.methodNamed?_setVm al y).trans hnamed
  have hpk : T.plainMethod mk := State.plainMethod.of_named hpl hn1 hm1
  obtain ⟨Y, hdo⟩ := X.into hg hsize hdg avs.toArray (R' := g_R fr lo q) hm1 h2 h6 hpk hfr (by rw [h4]; show _ + _ + (maxL + 11) + lo ≤ R.locals; omega) hf.1 hf.2
  have hws : ∀ w ∈ lw_all, w.before avs.toArray (T.calling g mk avs.toArray) = true := fun w hw => pay_in hts lw_self w hw avs.toArray (T.calling g mk avs.toArray) X.warmed
  have hn2 : (T.calling g mk avs.toArray).methodNamed? y = some mk := hn1
  have K := hM p e (T.calling g mk avs.toArray) mk avs.toArray (.java g :: below) methM cM hx hn2 hm1 h3 h4 h5 h6 h7 hws (g_blind _ _ _ _ hp)
  rw [← h4] at K
  obtain ⟨t, st, hend⟩ := K ((T.setTop g).pushFrame (.java (entryFrame mk avs.toArray cM.maxLocals))) rfl Y
  rcases hend with ⟨hv, o, hrun, hended, ⟨ho, q1, q2, q3, q4⟩, L, ⟨⟨v, ho'⟩, hW2, hsame⟩, hL⟩ | ⟨a, hv, hrun, hended, ⟨q1, q2, q3, q4⟩, L, ⟨hW2, hsame⟩, hL⟩
  · subst ho'
    cases ho
    obtain ⟨T', X', hWT, hB, ht⟩ := X.outOf hg hdg hended hW2 hsame
    have e1 : T'.heap = t.heap := by rw [ht]; rfl
    refine ⟨T', L, X', hL, by rw [e1]; exact q1, by rw [e1]; exact q2, ⟨by rw [e1]; exact q3, fun x hx1 hx2 => by rw [e1]; exact q4 x hx1 hx2⟩, Or.inl ⟨hv, fun target hgo acts => ?_⟩⟩
    rw [hdo acts]
    rw [← ht] at hgo
    obtain ⟨k9, e9, w9⟩ := st
    exact Steps.trans ⟨k9, e9, fun j hj => Within.weaken (mid := [.java g]) (w9 j hj)⟩ hgo
  · obtain ⟨T', X', hWT, hB, ht⟩ := X.outOfThrown hg hended hW2 hsame
    have e1 : T'.heap = t.heap := by rw [ht]; rfl
    refine ⟨T', L, X', hL, by rw [e1]; exact q1, by rw [e1]; exact q2, ⟨by rw [e1]; exact q3, fun x hx1 hx2 => by rw [e1]; exact q4 x hx1 hx2⟩, Or.inr ⟨a, hv, fun target hgo acts => ?_⟩⟩
    rw [hdo acts]
    rw [← ht] at hgo
    obtain ⟨k9, e9, w9⟩ := st
    exact Steps.trans ⟨k9, e9, fun j hj => Within.weaken (mid := [.java g]) (w9 j hj)⟩ hgo
end IT
