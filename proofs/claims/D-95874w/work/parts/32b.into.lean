/-! calls by walking into the callee: no word of its class's initialisation is asked -/
set_option maxRecDepth 100000
/-- a callee's body, walked -/
def g_CW (Γ : Gc) (l : Launch) (y : MethodName) (cc : ByteArray) (nL : Nat) (ret : Option FieldType) (fr lo : Nat) (avs : List Value) (σ : Sg) (sz : Nat) {β : Type} (vl : β → Option Value) (r : β) (q : Iv) : Prop :=
  ∀ (p : Program) (e : Env) (s : State) (m : MethodId) (args : Array Value) (below : List Frame) (meth : Method) (c : Code), p.tables.exec = Jvm.exec → s.methodNamed? y = some m → s.vm.method? m = some meth → c.code = cc → c.maxLocals = nL → meth.sig.returnType = ret → meth.locks = false → (∀ w ∈ lw_all, w.before args s = true) → g_Pc Γ avs σ sz args s →
    W p l e (g_R fr lo q) s m args below meth c s.heap [] 0 0 (MZ Γ below vl r q args s) (entryFrame m args nL)
theorem g_metW {Γ : Gc} {l : Launch} {fr lo nL : Nat} {α τ : Type} {ι : τ → Iv} {vl : α → Option Value} {rF : α} {tF t : τ} {F : Option (α × τ)} {y : MethodName} {cc : ByteArray} {ret : Option FieldType} (avs : List Value) (hlen : (lg_sl avs).length ≤ nL) (hF : F = some (rF, tF)) (h0 : (ι t).2.2 = (0, 0))
    (body : ∀ (p : Program) (e : Env) (s : State) (m : MethodId) (args : Array Value) (below : List Frame) (meth : Method) (c : Code), g_X Γ p s m args meth c cc nL y.cls → meth.sig.returnType = ret → meth.name = y.name → Wf Γ p l e fr lo s m args below meth c nL ι vl rF tF 0 (lv_args 0 avs) [] t F) :
    g_CW Γ l y cc nL ret fr lo avs (ι t).1 (ι t).2.1 vl rF (ι tF) := by
  intro p e s m args below meth c hx hn hm hb hml hr hk hts hv
  obtain ⟨rfl, hH, hsz, hE, hbs⟩ := hv
  have hown : s.vm.findClass y.cls = some m.cls := findClass_of_methodNamed hn
  have hl := lv_entry avs (n := nL) hlen
  have K := (body p e s m avs.toArray below meth c ⟨hx, hb, hml, hown, hts, hk, hE, by rw [hsz]; exact hbs⟩ hr (name_of_methodNamed hn hm).1 hF).2 s.heap [] _ hH hsz va_S.rf hl
  rw [h0] at K
  rw [lg_entry_eq]
  exact K
section IN
variable {p : Program} {l : Launch} {e : Env} {R : Room} {s : State} {m : MethodId} {args : Array Value} {below : List Frame} {meth : Method} {c : Code} {T : State} {locs : List Loc} {cells slots : Nat} {Γ : Gc}
/-- behind the choice of the callee: into it, and out of it -/
theorem d_into {y : MethodName} {bytes : ByteArray} {maxL : Nat} {ret : Option FieldType} {fr lo : Nat} {avs : List Value} {σ : Sg} {sz : Nat} {β : Type} {vl : β → Option Value} {r : β} {q : Iv} {mk : MethodId} {ig : Instr} {len : Nat} {g : JFrame}
    (X : Stand p l e R s m args below meth c T locs cells slots) (hx : p.tables.exec = Jvm.exec) (hts : ∀ w ∈ lw_all, w.before args s = true) (hpl : plainFor y = true) (hM : g_CW Γ l y bytes maxL ret fr lo avs σ sz vl r q) (hcode : Cond.code y bytes maxL ret ∈ lw_all) (hnamed : s.methodNamed? y = some mk)
    (hfr : fr + 1 ≤ R.frames) (hlo : 8 + (maxL + 11) + lo ≤ R.locals) (hg : g.method = m) (hsize : g.locals.size = c.maxLocals) (hW : 2 * g.monitorRoom + (g.stack.map fun v => v.category).sum ≤ 8) (hdg : decode c.code g.pc = .ok (ig, len))
    (hf : cells + q.2.2.1 ≤ R.cells ∧ slots + q.2.2.2 ≤ R.slots) (hp : g_Pc Γ avs σ sz avs.toArray T) (hv : ∀ a, vl r ≠ some (.retAddr a)) :
    ∃ (v : Option Value) (t T' : State) (L : List Loc), Stand p l e R s m args below meth c T' (locs ++ L) (cells + q.2.2.1) (slots + q.2.2.2) ∧ (∀ q1 ∈ L, Γ.2.2.1 ≤ q1.base) ∧ T'.heap = t.heap ∧ T'.vm = t.vm ∧ g_Q Γ vl r q avs.toArray (T.calling g mk avs.toArray) (.returned v) t ∧
      ∀ target, Steps p.tables e below (T'.setTop { g with pc := g.pc + len, stack := v.toList ++ g.stack }) target → ∀ acts, Steps p.tables e below (doInvoke e (T.setTop g) acts mk avs.toArray).1 target := by
  obtain ⟨methM, cM, h1, h2, h3, h4, h5, h6, -, -⟩ := Cond.code_spec hnamed (hts _ hcode)
  have al := X.warmed.alike
  have hm1 : T.vm.method? mk = some methM := by rw [al.method?]; exact h1
  have hn1 : T.methodNamed? y = some mk := (State.methodNamed?_setVm al y).trans hnamed
  have hpk : T.plainMethod mk := State.plainMethod.of_named hpl hn1 hm1
  obtain ⟨Y, hdo⟩ := X.into hg hsize hdg avs.toArray (R' := g_R fr lo q) hm1 h2 h6 hpk hfr (by rw [h4]; show _ + _ + (maxL + 11) + lo ≤ R.locals; omega) hf.1 hf.2
  have hws : ∀ w ∈ lw_all, w.before avs.toArray (T.calling g mk avs.toArray) = true := fun w hw => pay_in hts lw_self w hw avs.toArray (T.calling g mk avs.toArray) X.warmed
  have hn2 : (T.calling g mk avs.toArray).methodNamed? y = some mk := hn1
  have K := hM p e (T.calling g mk avs.toArray) mk avs.toArray (.java g :: below) methM cM hx hn2 hm1 h3 h4 h5 h6 hws (g_blind _ _ _ _ hp)
  rw [← h4] at K
  obtain ⟨t, st, o, hrun, hended, hq, L, ⟨⟨v, ho⟩, hW2, hsame⟩, hL⟩ := g_qm hv K ((T.setTop g).pushFrame (.java (entryFrame mk avs.toArray cM.maxLocals))) rfl Y
  subst ho
  obtain ⟨T', X', hWT, hB, ht⟩ := X.outOf hg hdg hended hW2 hsame
  refine ⟨v, t, T', L, X', hL, by rw [ht]; rfl, by rw [ht]; rfl, hq, fun target hgo acts => ?_⟩
  rw [hdo acts]
  rw [← ht] at hgo
  obtain ⟨k9, e9, w9⟩ := st
  exact Steps.trans ⟨k9, e9, fun j hj => Within.weaken (mid := [.java g]) (w9 j hj)⟩ hgo
end IN
