/-! methods of classes with natives; a class object; byte answers (printed by gen/comp4.py) -/
set_option maxRecDepth 100000
theorem g_ofWF {l : Launch} {y : MethodName} {ws ws' : List Cond} {rm : Room} {Pc : Array Value → State → Prop} {Qc : Array Value → State → Outcome → State → Prop} {mc ms : Nat} {free : Addr → Prop} {cc : ByteArray} {maxL : Nat} {ret : Option FieldType}
    (hy : plainFor y = true) (hw : ws = Cond.code y cc maxL ret :: ws')
    (body : ∀ p e s m args below meth c s₁, BodyLoose p l y (headSpec ws rm) cc maxL ret e s m args below meth c s₁ → c.maxLocals = maxL → Pc args s →
      W p l e (headSpec ws rm).room s m args below meth c s.heap [] 0 0 (MQ below Qc args s mc ms free) (entryFrame m args maxL)) : Met l y ws rm Pc Qc mc ms free := by
  refine MetFree.of_bodySF (code := cc) (maxLocals := maxL) (ret := ret) hy ?_ ?_
  · intro args s m h hn
    obtain ⟨meth, c, h1, h2, h3, h4, h5, h6, -, -⟩ := Cond.code_spec hn (atoms_spec (ws := ws) h _ (by rw [hw]; exact List.mem_cons_self))
    exact ⟨meth, c, h1, h2, h3, h4, h5, h6⟩
  · intro p e s m args below meth c s₁ B hml hP _
    have hh0 : s₁.heap = s.heap := by rw [B.state]; rfl
    obtain ⟨t, a1, o, b1, b2, b3⟩ := body p e s m args below meth c s₁ B hml hP s₁ hh0 (Stand.of_body B)
    exact ⟨t, o, a1, b1, b2, ⟨b3.1, b3.2⟩⟩
theorem g_metF {Γ : Gc} {l : Launch} {fr lo nL : Nat} {α τ : Type} {ι : τ → Iv} {vl : α → Option Value} {rF : α} {tF t : τ} {F : Option (α × τ)} {y : MethodName} {cc : ByteArray} {ret : Option FieldType} (avs : List Value) (hy : plainFor y = true) (hlen : (lg_sl avs).length ≤ nL) (hF : F = some (rF, tF)) (h0 : (ι t).2.2 = (0, 0))
    (body : ∀ (p : Program) (e : Env) (s : State) (m : MethodId) (args : Array Value) (below : List Frame) (meth : Method) (c : Code), g_X Γ p s m args meth c cc nL y.cls → meth.sig.returnType = ret → meth.name = y.name → Wf Γ p l e fr lo s m args below meth c nL ι vl rF tF 0 (lv_args 0 avs) [] t F) (hv : ∀ a, vl rF ≠ some (.retAddr a) := by intro a h; cases h) :
    Met l y (ws_ y cc nL ret) (g_R fr lo (ι tF)) (g_Pc Γ avs (ι t).1 (ι t).2.1) (g_Q Γ vl rF (ι tF)) (ι tF).2.2.1 (ι tF).2.2.2 (g_A Γ.2.2.1) := by
  refine g_ofWF (cc := cc) (maxL := nL) (ret := ret) hy rfl ?_
  intro p e s m args below meth c s₁ B hml hv
  obtain ⟨rfl, hH, hsz, hE, hbs⟩ := hv
  have hts := atoms_spec (ws := ws_ y cc nL ret) B.pre
  have hts : ∀ w ∈ lw_all, w.before _ s = true := fun w h => hts w (List.mem_cons_of_mem _ h)
  have hown : s.vm.findClass y.cls = some m.cls := findClass_of_methodNamed B.named
  have hl := lv_entry avs (n := nL) hlen
  have K := (body p e s m avs.toArray below meth c ⟨B.exec, B.bytes, hml, hown, hts, B.notSynchronized, hE, by rw [hsz]; exact hbs⟩ B.returns (name_of_methodNamed B.named B.method).1 hF).2 s.heap [] _ hH hsz va_S.rf hl
  rw [h0] at K
  rw [lg_entry_eq]
  exact g_qm hv K
theorem g_miIn : Cond.isRef (.mirror "[Ljava/lang/Object;") ∈ flatC (Jvm.Cond.and given_1 narrow_1) := by decide +kernel
theorem g_E.mi {Γ : Gc} {s : State} (h : g_E Γ s) : ∃ mi : Nat, Γ.2.2.2.2 6 = some mi ∧ va_Mi "[Ljava/lang/Object;" mi s := by
  obtain ⟨-, s0, g2, g3, -, g5, g6, g7, g8, -⟩ := h
  obtain ⟨v, hv, -⟩ := Cond.isRef_spec (flat_of_before _ g3 _ g_miIn)
  obtain ⟨c, k, a, h1, h2, h3, h4⟩ := Term.mirror_spec hv
  refine ⟨a, ?_, va_Mi.moved g5.alike ⟨c, k, h1, h2, h3⟩⟩
  rw [g8 6]
  show (match (Term.mirror "[Ljava/lang/Object;").eval #[Value.ref Γ.2.2.2.1] s0 none [] s0 with
    | some (.ref a) => some a
    | _ => none) = some a
  rw [hv, h4]
/-- an array of kind j -/
def ckind {β : Type} (j : Nat) (t : St) (a : Nat) (F : Option β) : Option β := match t.1 a with
  | some (_, .inl q) => if q.1 = j then F else none
  | _ => none
theorem ckind_inv {β : Type} {j : Nat} {t : St} {a : Nat} {F : Option β} {r : β} (h : ckind j t a F = some r) : ∃ (fl : Bool) (x : vp_A), t.1 a = some (fl, .inl (j, x)) ∧ F = some r := by
  unfold ckind at h
  split at h
  · rename_i fl q hs
    by_cases hc : q.1 = j
    · rw [if_pos hc] at h
      refine ⟨fl, q.2, ?_, h⟩
      rw [hs, ← hc]
    · rw [if_neg hc] at h; cases h
  · cases h
/-- a constant that is there -/
def cex {β : Type} (r : Option Nat) (K : Nat → Option β) : Option β := match r with
  | some a => K a
  | none => none
section CL
variable {Γ : Gc} {p : Program} {l : Launch} {e : Env} {fr lo : Nat} {s : State} {m : MethodId} {args : Array Value} {below : List Frame} {meth : Method} {c : Code} {nL : Nat} {α τ : Type} {ι : τ → Iv} {vl : α → Option Value} {rF : α} {tF : τ} {pc : Nat} {lv lv' : List (Nat × Value)} {st rest : List Value} {t : τ} {F : Option (α × τ)} {cc : ByteArray} {own : String}
theorem g_aload_n_q (X : g_X Γ p s m args meth c cc nL own) {j : Fin 4} {i : Nat} {r : Option Nat} (q : Nat) (d : decode cc pc = .ok (.aload_n j, 1)) (hi : (j : Nat) = i) (hq : lv[q]? = some (i, va_rf r)) (k : Wf Γ p l e fr lo s m args below meth c nL ι vl rF tF (pc + 1) lv (va_rf r :: rest) t F) : Wf Γ p l e fr lo s m args below meth c nL ι vl rF tF pc lv rest t F := by
  cases r with
  | none => exact g_liftS (fun _ _ _ _ _ _ _ h k => lv_aload_nN X.1 X.2.1 d hi (lv_at h q hq) k) k
  | some a => exact g_aload_n X q d hi hq k
theorem g_aload_q (X : g_X Γ p s m args meth c cc nL own) {i : Nat} {r : Option Nat} (q : Nat) (d : decode cc pc = .ok (.aload i, 2)) (hq : lv[q]? = some (i, va_rf r)) (k : Wf Γ p l e fr lo s m args below meth c nL ι vl rF tF (pc + 2) lv (va_rf r :: rest) t F) : Wf Γ p l e fr lo s m args below meth c nL ι vl rF tF pc lv rest t F := by
  cases r with
  | none => exact g_liftS (fun _ _ _ _ _ _ _ h k => lv_aloadN X.1 X.2.1 d (lv_at h q hq) k) k
  | some a => exact g_aload X q d hq k
theorem g_astore_n_q (X : g_X Γ p s m args meth c cc nL own) {j : Fin 4} {i : Nat} {r : Option Nat} (d : decode cc pc = .ok (.astore_n j, 1)) (hi : (j : Nat) = i) (hn : i < nL) (hl : (i, va_rf r) :: lv.filter (fun q => !(q.1 == i) && !(q.1 + 1 == i && q.2.category == 2)) = lv') (k : Wf Γ p l e fr lo s m args below meth c nL ι vl rF tF (pc + 1) lv' rest t F) : Wf Γ p l e fr lo s m args below meth c nL ι vl rF tF pc lv (va_rf r :: rest) t F := by
  cases r with
  | none => exact g_lift (fun _ _ _ _ _ _ _ h k => lv_astore_nN X.1 X.2.1 d hi h hn hl k) k
  | some a => exact g_astore_n X d hi hn hl k
theorem g_astore_q (X : g_X Γ p s m args meth c cc nL own) {i : Nat} {r : Option Nat} (d : decode cc pc = .ok (.astore i, 2)) (hn : i < nL) (hl : (i, va_rf r) :: lv.filter (fun q => !(q.1 == i) && !(q.1 + 1 == i && q.2.category == 2)) = lv') (k : Wf Γ p l e fr lo s m args below meth c nL ι vl rF tF (pc + 2) lv' rest t F) : Wf Γ p l e fr lo s m args below meth c nL ι vl rF tF pc lv (va_rf r :: rest) t F := by
  cases r with
  | none => exact g_lift (fun _ _ _ _ _ _ _ h k => lv_astoreN X.1 X.2.1 d h hn hl k) k
  | some a => exact g_astore X d hn hl k
end CL
section CM
variable {Γ : Gc} {p : Program} {l : Launch} {e : Env} {fr lo : Nat} {s : State} {m : MethodId} {args : Array Value} {below : List Frame} {meth : Method} {c : Code} {nL : Nat} {α : Type} {z : Nat} {vl : α → Option Value} {rF : α} {tF t : St} {pc : Nat} {lv : List (Nat × Value)} {st rest As : List Value} {cc : ByteArray} {own : String} {ex : Nat → Option Nat}
theorem cg_ldcM (X : g_X Γ p s m args meth c cc nL own) {index : Nat} {F : Option (α × St)} (hex : ex = Γ.2.2.2.2) (hcl : Cond.classLink own index "[Ljava/lang/Object;" ∈ lw_all) (d : decode cc pc = .ok (.ldc index, 2)) (kk : Wf Γ p l e fr lo s m args below meth c nL (g_ι z) vl rF tF (pc + 2) (lv) (va_rf (ex 6) :: rest) t F) : Wf Γ p l e fr lo s m args below meth c nL (g_ι z) vl rF tF (pc) (lv) (rest) t F := by
  intro hF
  obtain ⟨mi, h1, h2⟩ := X.2.2.2.2.2.2.1.mi
  have e1 : va_rf (ex 6) = .ref mi := by rw [hex, h1]; rfl
  have k1 := kk hF
  rw [e1] at k1
  exact ⟨k1.1, fun H locs ls g1 g2 g3 g4 => va_ldcM X.1 X.2.1 X.2.2.2.1 (X.2.2.2.2.1 _ hcl) h2 d (k1.2 H locs ls g1 g2 g3 g4)⟩
theorem g_nmO {Γ : Gc} {s : State} (h : g_E Γ s) : s.vm.findClass "[Ljava/lang/Object;" = some (Γ.2.1 4) := va_nmO (C := "java/lang/Object") (h.1.2 4 _ rfl).2 (by decide)
theorem cg_getC (X : g_X Γ p s m args meth c cc nL own) {index a : Nat} {F : Option (α × St)} (hex : ex = Γ.2.2.2.2) (d : decode cc pc = .ok (.invokevirtual index, 3)) (h1 : Cond.methodLink own index ⟨"java/lang/Object", "getClass", "()Ljava/lang/Class;"⟩ ∈ lw_all) (h2 : Cond.declares ⟨"java/lang/Object", "getClass", "()Ljava/lang/Class;"⟩ ∈ lw_tbl) (h3 : Cond.selects "[Ljava/lang/Object;" ⟨"java/lang/Object", "getClass", "()Ljava/lang/Class;"⟩ ⟨"java/lang/Object", "getClass", "()Ljava/lang/Class;"⟩ ∈ lw_all) (h4 : Cond.instanceMethod ⟨"java/lang/Object", "getClass", "()Ljava/lang/Class;"⟩ ∈ lw_all) (h5 : Cond.native ⟨"java/lang/Object", "getClass", "()Ljava/lang/Class;"⟩ ∈ lw_all) (hf : 1 ≤ fr) (hl : (rest.map fun v => v.category).sum + 14 ≤ lo) (kk : Wf Γ p l e fr lo s m args below meth c nL (g_ι z) vl rF tF (pc + 3) (lv) (va_rf (ex 6) :: rest) t F) : Wf Γ p l e fr lo s m args below meth c nL (g_ι z) vl rF tF (pc) (lv) (.ref a :: rest) t (ckind 4 t a F) := by
  intro hF
  obtain ⟨fl, x, hs, hF⟩ := ckind_inv hF
  obtain ⟨mi, q1, q2⟩ := X.2.2.2.2.2.2.1.mi
  have e1 : va_rf (ex 6) = .ref mi := by rw [hex, q1]; rfl
  have k1 := kk hF
  rw [e1] at k1
  have hts := X.2.2.2.2.1
  refine ⟨k1.1, fun H locs ls g1 g2 g3 g4 => va_getC X.1 X.2.1 (by rw [X.2.2.1]; exact g4.1.symm) X.2.2.2.1 (hts _ h1) (va_Nw.use rfl (X.2.2.2.2.2.2.1.declares h2)) (hts _ h3) (hts _ h4) (hts _ h5) q2 ?_ hf hl d (k1.2 H locs ls g1 g2 g3 g4)⟩
  obtain ⟨cell, hc, p2, p3, -⟩ := g_wkX g1 hs (Or.inr (by decide))
  exact ⟨cell, hc, g_ns p3, by rw [g_nmO X.2.2.2.2.2.2.1, p2]⟩
theorem g_castA (X : g_X Γ p s m args meth c cc nL own) {σ : Sg} {nm : String} {index a j : Nat} {x : vp_A} {fl : Bool} {R : Room} {H : Heap} {locs : List Loc} {cells slots : Nat} {Q : State → Prop} {ls : Array Slot} (hcl : Cond.classLink own index nm ∈ lw_all) (h1 : g_H Γ σ H) (hs : σ a = some (fl, .inl (j, x))) (hx : fl = true ∨ ¬ j < 4) (hnm : s.vm.findClass nm = some (Γ.2.1 j)) (d : decode cc pc = .ok (.checkcast index, 3)) (k : W p l e R s m args below meth c H locs cells slots Q (F0 m (pc + 3) ls (.ref a :: rest))) : W p l e R s m args below meth c H locs cells slots Q (F0 m pc ls (.ref a :: rest)) := by
  obtain ⟨cell, hc, p2, p3, -⟩ := g_wkX h1 hs hx
  intro T hT XT
  obtain ⟨vm', X', st⟩ := XT.checkcastYes X.1 X.2.2.2.1 (X.2.2.2.2.1 _ hcl) (by rw [hT]; exact hc) (g_ns p3) hnm (by rw [p2]; exact va_asg _ _) (g := F0 m pc ls (.ref a :: rest)) rfl rfl (by rw [X.2.1]; exact d)
  obtain ⟨t, a1, b1⟩ := k (T.setVm vm') hT X'
  exact ⟨t, st t a1, b1⟩
theorem cg_castO (X : g_X Γ p s m args meth c cc nL own) {index a : Nat} {F : Option (α × St)} (hcl : Cond.classLink own index "[Ljava/lang/Object;" ∈ lw_all) (d : decode cc pc = .ok (.checkcast index, 3)) (kk : Wf Γ p l e fr lo s m args below meth c nL (g_ι z) vl rF tF (pc + 3) (lv) (.ref a :: rest) t F) : Wf Γ p l e fr lo s m args below meth c nL (g_ι z) vl rF tF (pc) (lv) (.ref a :: rest) t (ckind 4 t a F) := by
  intro hF
  obtain ⟨fl, x, hs, hF⟩ := ckind_inv hF
  exact ⟨(kk hF).1, fun H locs ls g1 g2 g3 g4 => g_castA X hcl g1 hs (Or.inr (by decide)) (g_nmO X.2.2.2.2.2.2.1) d ((kk hF).2 H locs ls g1 g2 g3 g4)⟩
theorem cg_byret (X : g_X Γ p s m args meth c cc nL own) (hr : meth.sig.returnType = some .byte) {x : Int32} (d : decode cc pc = .ok (.ireturn, 1)) {rF : Int32} : Wf Γ p l e fr lo s m args below meth c nL (g_ι z) v_i rF tF pc lv [.int x] t (if x.toInt8.toInt32 = x then some (x, t) else none) := by
  intro hF
  by_cases h : x.toInt8.toInt32 = x
  · rw [if_pos h] at hF
    exact g_zret X hr (by show Value.int (x.toInt8.toInt32) = _; rw [h]) d hF
  · rw [if_neg h] at hF; cases hF
end CM
