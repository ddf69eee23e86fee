/-! methods that throw: their ends, and calls of them -/
set_option maxRecDepth 100000
abbrev t_i : Int32 ⊕ Nat → Option Value := fun x => match x with
  | .inl v => some (.int v)
  | .inr a => some (.retAddr a)
abbrev t_v : Unit ⊕ Nat → Option Value := fun x => match x with
  | .inl _ => none
  | .inr a => some (.retAddr a)
abbrev t_a : Nat ⊕ Nat → Option Value := fun x => match x with
  | .inl v => some (.ref v)
  | .inr a => some (.retAddr a)
section TH
variable {Γ : Gc} {p : Program} {l : Launch} {e : Env} {fr lo : Nat} {s : State} {m : MethodId} {args : Array Value} {below : List Frame} {meth : Method} {c : Code} {nL : Nat} {α τ : Type} {ι : τ → Iv} {vl : α → Option Value} {rF : α} {tF t : τ} {pc : Nat} {lv : List (Nat × Value)} {st rest : List Value} {cc : ByteArray} {own : String}
theorem g_tiret (X : g_X Γ p s m args meth c cc nL own) (hr : meth.sig.returnType = some .int) {x : Int32} (d : decode cc pc = .ok (.ireturn, 1)) {rF : Int32 ⊕ Nat} : Wf Γ p l e fr lo s m args below meth c nL ι t_i rF tF pc lv [.int x] t (some (.inl x, t)) := by
  intro hF
  obtain ⟨rfl, rfl⟩ : Sum.inl x = rF ∧ t = tF := by simpa using hF
  exact g_iret X hr d rfl
theorem g_tvret (X : g_X Γ p s m args meth c cc nL own) (hr : meth.sig.returnType = none) (d : decode cc pc = .ok (.return_, 1)) {rF : Unit ⊕ Nat} : Wf Γ p l e fr lo s m args below meth c nL ι t_v rF tF pc lv [] t (some (.inl (), t)) := by
  intro hF
  obtain ⟨rfl, rfl⟩ : Sum.inl () = rF ∧ t = tF := by simpa using hF
  exact g_vret X hr d rfl
theorem g_taret (X : g_X Γ p s m args meth c cc nL own) {rt : FieldType} (hr : meth.sig.returnType = some rt) (hrt : (∃ n, rt = .object n) ∨ ∃ t, rt = .array t) {x : Nat} (d : decode cc pc = .ok (.areturn, 1)) {rF : Nat ⊕ Nat} : Wf Γ p l e fr lo s m args below meth c nL ι t_a rF tF pc lv [.ref x] t (some (.inl x, t)) := by
  intro hF
  obtain ⟨rfl, rfl⟩ : Sum.inl x = rF ∧ t = tF := by simpa using hF
  exact g_aret X hr hrt d rfl
/-- the exception table of the method's own code -/
def g_T (meth : Method) (tb : List (Nat × Nat × Nat × Nat)) : Prop := ∀ c' : Code, meth.code = some c' → c'.exceptionTable.toList.map (fun h => (h.startPc, h.endPc, h.handlerPc, h.catchType)) = tb
def g_out (tb : List (Nat × Nat × Nat × Nat)) (pc : Nat) : Bool := tb.all fun x => !(decide (x.1 ≤ pc) && decide (pc < x.2.1))
theorem g_out_spec {c : Code} {tb : List (Nat × Nat × Nat × Nat)} (h : c.exceptionTable.toList.map (fun h => (h.startPc, h.endPc, h.handlerPc, h.catchType)) = tb) {pc : Nat} (ho : g_out tb pc = true) : ∀ x ∈ c.exceptionTable.toList, covers x pc = false := by
  intro x hx
  have h1 : (x.startPc, x.endPc, x.handlerPc, x.catchType) ∈ tb := by rw [← h]; exact List.mem_map.mpr ⟨x, hx, rfl⟩
  have h2 := List.all_eq_true.mp ho _ h1
  show (decide (x.startPc ≤ pc) && decide (pc < x.endPc)) = false
  simpa only [Bool.not_eq_true'] using h2
/-- athrow: the method throws -/
theorem g_athrow (X : g_X Γ p s m args meth c cc nL own) {tb : List (Nat × Nat × Nat × Nat)} (ht : g_T meth tb) (d : decode cc pc = .ok (.athrow, 1)) (ho : g_out tb pc = true) {β : Type} {vl : β ⊕ Nat → Option Value} {a : Nat} {rF : β ⊕ Nat} (hvl : vl (.inr a) = some (.retAddr a)) : Wf Γ p l e fr lo s m args below meth c nL ι vl rF tF pc lv (.ref a :: rest) t (some (.inr a, t)) := by
  intro hF
  obtain ⟨rfl, rfl⟩ : Sum.inr a = rF ∧ t = tF := by simpa using hF
  refine ⟨⟨Nat.le_refl _, Nat.le_refl _⟩, fun H locs ls h1 h2 h3 h4 => ?_⟩
  intro T hT XT
  obtain ⟨stp, q1, q2, q3, q4⟩ := XT.athrowLeaves X.1 (g := F0 m pc ls (.ref a :: rest)) rfl rfl rfl (g_out_spec (ht c XT.code) ho) rfl (by rw [X.2.1]; exact d) X.2.2.2.2.2.1
  subst hT
  exact ⟨_, stp, Or.inr ⟨a, hvl, q1, q2, ⟨h1, h2, h3.F rfl⟩, locs, ⟨q3, q4⟩, h3.2.2⟩⟩
end TH
