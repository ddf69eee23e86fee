/-! rows: calls that may throw (printed by gen/throwrows.py) -/
set_option maxRecDepth 100000
/-- what a call does that may throw -/
def gbT {α β : Type} (o : Option ((α ⊕ Nat) × St)) (t : St) (k : α → St → Option (β × St)) (kx : Nat → St → Option (β × St)) : Option (β × St) := match o with
  | none => none
  | some (.inl r, u) => k r (u.1, t.2.1 + u.2.1, t.2.2 + u.2.2)
  | some (.inr a, u) => kx a (u.1, t.2.1 + u.2.1, t.2.2 + u.2.2)
section XB
variable {Γ : Gc} {p : Program} {l : Launch} {e : Env} {fr lo : Nat} {s : State} {m : MethodId} {args : Array Value} {below : List Frame} {meth : Method} {c : Code} {nL : Nat} {α β τ : Type} {ι : τ → Iv} {z : Nat} {vl : α → Option Value} {rF : α} {tF t t1 : τ} {pc : Nat} {lv : List (Nat × Value)} {st rest As : List Value} {cc cc' : ByteArray} {own C : String} {index n b fr' lo' nL' : Nat} {ret : Option FieldType} {y : MethodName} {tb : List (Nat × Nat × Nat × Nat)}
/-- behind a call, however it ended -/
theorem x_back {vb : β → Option Value} {r : β} {q : Iv} {H : Heap} {locs : List Loc} {ls : Array Slot} {T : State} (hE : x_End p l e (g_R fr lo (ι tF)) s m args below meth c H locs (ι t).2.2.1 (ι t).2.2.2 Γ vb r q (F0 m pc ls rest) 3 (fun target => Steps p.tables e below (T.setTop (F0 m pc ls st)) target))
    (ht : ι t1 = (q.1, q.2.1, (ι t).2.2.1 + q.2.2.1, (ι t).2.2.2 + q.2.2.2)) (h3 : va_S (g_A Γ.2.2.1) s.heap H locs) (h4 : lv_has ls nL lv)
    (k1 : (∀ a, vb r ≠ some (.retAddr a)) → ∀ (H : Heap) (locs : List Loc) (ls : Array Slot), g_H Γ (ι t1).1 H → H.size = (ι t1).2.1 → va_S (g_A Γ.2.2.1) s.heap H locs → lv_has ls nL lv → W p l e (g_R fr lo (ι tF)) s m args below meth c H locs (ι t1).2.2.1 (ι t1).2.2.2 (MZ Γ below vl rF (ι tF) args s) (F0 m (pc + 3) ls ((vb r).toList ++ rest)))
    (k2 : ∀ a, vb r = some (.retAddr a) → ∀ (H : Heap) (locs : List Loc) (ls : Array Slot), g_H Γ (ι t1).1 H → H.size = (ι t1).2.1 → va_S (g_A Γ.2.2.1) s.heap H locs → lv_has ls nL lv → ∀ T : State, T.heap = H → Stand p l e (g_R fr lo (ι tF)) s m args below meth c T locs (ι t1).2.2.1 (ι t1).2.2.2 → ∃ u, Steps p.tables e below ((T.setTop (F0 m pc ls rest)).pushFrame (.throwing a)) u ∧ MZ Γ below vl rF (ι tF) args s u) :
    ∃ u, Steps p.tables e below (T.setTop (F0 m pc ls st)) u ∧ MZ Γ below vl rF (ι tF) args s u := by
  obtain ⟨T', L, X', hL, q1, q2, ⟨q3, q4⟩, hend⟩ := hE
  have hS : va_S (g_A Γ.2.2.1) s.heap T'.heap (locs ++ L) := ⟨Nat.le_trans h3.1 q3, fun x g1 g2 => by rw [q4 x (Nat.lt_of_lt_of_le g1 h3.1) g2]; exact h3.2.1 x g1 g2, fun x hx => by
    rcases List.mem_append.mp hx with g | g
    · exact h3.2.2 x g
    · exact hL x g⟩
  have e1 : (ι t1).2.2.1 = (ι t).2.2.1 + q.2.2.1 := by rw [ht]
  have e2 : (ι t1).2.2.2 = (ι t).2.2.2 + q.2.2.2 := by rw [ht]
  rw [← e1, ← e2] at X'
  rcases hend with ⟨hv, hgo⟩ | ⟨a, hv, hgo⟩
  · obtain ⟨u, a1, b1⟩ := k1 hv T'.heap (locs ++ L) ls (by rw [ht]; exact q1) (by rw [ht]; exact q2) hS h4 T' rfl X'
    exact ⟨u, hgo u a1, b1⟩
  · obtain ⟨u, a1, b1⟩ := k2 a hv T'.heap (locs ++ L) ls (by rw [ht]; exact q1) (by rw [ht]; exact q2) hS h4 T' rfl X'
    exact ⟨u, hgo u a1, b1⟩
end XB
section XC
variable {Γ : Gc} {p : Program} {l : Launch} {e : Env} {fr lo : Nat} {s : State} {m : MethodId} {args : Array Value} {below : List Frame} {meth : Method} {c : Code} {nL : Nat} {α : Type} {z : Nat} {vl : α → Option Value} {rF : α} {tF t : St} {pc : Nat} {lv : List (Nat × Value)} {st rest As : List Value} {cc cc' : ByteArray} {own C : String} {index n b fr' lo' nL' : Nat} {ret : Option FieldType} {y : MethodName} {tb : List (Nat × Nat × Nat × Nat)}
theorem x_runV (X : g_X Γ p s m args meth c cc nL own) {ci : Nat} (hc : ∃ (T : u_T) (N : Nat), cls[ci]? = some (C, T, N)) {fl : Bool} {fs : List Value} (hs : t.1 b = some (fl, .inr (ci, fs))) (d : decode cc pc = .ok (.invokevirtual index, 3)) (hn : As.length = n) (hst : st = As.reverse ++ .ref b :: rest) (hW : (rest.map fun v => v.category).sum ≤ 8) (hpl : plainFor y = true) (hG : x_cd y cc' nL' ret tb) (hR : fr' + 1 ≤ fr ∧ 8 + (nL' + 11) + lo' ≤ lo) (hinst : Cond.instanceMethod y ∈ lw_all) (hlink : Cond.methodLink own index y ∈ lw_all) (hsel : Cond.selects C y y ∈ lw_all) (hy : y.cls ≠ "java/lang/invoke/MethodHandle" ∧ y.cls ≠ "java/lang/invoke/VarHandle") (hlen : (parseMethodDescriptor y.desc).map (fun d => d.parameters.length) = some n) {β : Type} {vb : β → Option Value} {r : β} {u : St} (hM : g_CT Γ l y cc' nL' ret tb fr' lo' (.ref b :: As) t.1 (z + t.2.1) vb r (g_ι (z + t.2.1) u)) (hf : t.2.1 + u.2.1 ≤ tF.2.1 ∧ t.2.2 + u.2.2 ≤ tF.2.2)
    {H : Heap} {locs : List Loc} {ls : Array Slot} (h1 : g_H Γ t.1 H) (h2 : H.size = z + t.2.1) (h3 : va_S (g_A Γ.2.2.1) s.heap H locs) (h4 : lv_has ls nL lv) {T : State} (hT : T.heap = H) (XT : Stand p l e (g_R fr lo (g_ι z tF)) s m args below meth c T locs t.2.1 t.2.2) :
    x_End p l e (g_R fr lo (g_ι z tF)) s m args below meth c H locs t.2.1 t.2.2 Γ vb r (g_ι (z + t.2.1) u) (F0 m pc ls rest) 3 (fun target => Steps p.tables e below (T.setTop (F0 m pc ls st)) target) := by
  obtain ⟨hx, hb, hml, ho, hts, -⟩ := id X
  obtain ⟨T0, N0, hc⟩ := hc
  obtain ⟨cellB, hcB, hoB, hclB⟩ := g_rcv X.2.2.2.2.2.2.1.1 h1 hs hc
  obtain ⟨mk, methM, hnamed, hmethM, hstM, habM⟩ := Cond.instanceMethod_spec (hts _ hinst)
  obtain ⟨methM', cM, hmethM', -, -, -, -, -, -, hsigM⟩ := hG.spec hts hnamed
  cases hmethM.symm.trans hmethM'
  obtain ⟨c2, r2, m2, q1, q2, q3, q4, kP, hkP, hkPi⟩ := Cond.selects_spec (hts _ hsel)
  cases hclB.symm.trans q1
  cases (State.methodFound?_of_named hnamed hy).symm.trans q2
  cases hnamed.symm.trans q3
  have hselP : selectMethod e.platform s.vm cellB.cls mk = .method mk := by rw [Launch.admits_selectMethod XT.admits]; exact q4
  have hl1 : As.length = methM.sig.parameters.length := by
    rw [hsigM] at hlen
    exact hn.trans (Option.some.inj hlen).symm
  obtain ⟨vm₁, X₁, hstep₁⟩ := XT.invokevirtual hx ho (hts _ hlink) hnamed hmethM hstM hkP hkPi hy (a := b) (cell := cellB) (by rw [hT]; exact hcB)
    (fun z h => by rw [h] at hoB; cases hoB) hselP hmethM habM hkP hkPi (g := F0 m pc ls st) rfl (argsL := As) (rest := rest) hl1 hst (by rw [hb]; exact d)
  obtain ⟨T', L, X', hL, q1, q2, q3, hend⟩ := d_intoT (g := F0 m pc ls rest) X₁ hx hts hpl hM hG hnamed hR.1 hR.2 rfl (h4.1.trans hml.symm) (lv_room hW) (by rw [hb]; exact d) hf (g_pre X h1 h2 h3 (T.setVm vm₁) hT X₁.warmed)
  refine ⟨T', L, X', hL, q1, q2, by rw [← hT]; exact q3, ?_⟩
  rcases hend with ⟨hv, hgo⟩ | ⟨a, hv, hgo⟩
  · exact Or.inl ⟨hv, fun target h => hstep₁ _ fun acts => hgo target h acts⟩
  · exact Or.inr ⟨a, hv, fun target h => hstep₁ _ fun acts => hgo target h acts⟩
theorem x_runS (X : g_X Γ p s m args meth c cc nL own)   (d : decode cc pc = .ok (.invokestatic index, 3)) (hn : As.length = n) (hst : st = As.reverse ++ rest) (hW : (rest.map fun v => v.category).sum ≤ 8) (hpl : plainFor y = true) (hG : x_cd y cc' nL' ret tb) (hR : fr' + 1 ≤ fr ∧ 8 + (nL' + 11) + lo' ≤ lo) (hstt : Cond.static y ∈ lw_all) (hini : Cond.initialized y.cls ∈ lw_all) (hlink : Cond.methodLink own index y ∈ lw_all) (hy : y.cls ≠ "java/lang/invoke/MethodHandle" ∧ y.cls ≠ "java/lang/invoke/VarHandle") (hlen : (parseMethodDescriptor y.desc).map (fun d => d.parameters.length) = some n) {β : Type} {vb : β → Option Value} {r : β} {u : St} (hM : g_CT Γ l y cc' nL' ret tb fr' lo' (As) t.1 (z + t.2.1) vb r (g_ι (z + t.2.1) u)) (hf : t.2.1 + u.2.1 ≤ tF.2.1 ∧ t.2.2 + u.2.2 ≤ tF.2.2)
    {H : Heap} {locs : List Loc} {ls : Array Slot} (h1 : g_H Γ t.1 H) (h2 : H.size = z + t.2.1) (h3 : va_S (g_A Γ.2.2.1) s.heap H locs) (h4 : lv_has ls nL lv) {T : State} (hT : T.heap = H) (XT : Stand p l e (g_R fr lo (g_ι z tF)) s m args below meth c T locs t.2.1 t.2.2) :
    x_End p l e (g_R fr lo (g_ι z tF)) s m args below meth c H locs t.2.1 t.2.2 Γ vb r (g_ι (z + t.2.1) u) (F0 m pc ls rest) 3 (fun target => Steps p.tables e below (T.setTop (F0 m pc ls st)) target) := by
  obtain ⟨hx, hb, hml, ho, hts, -⟩ := id X
  obtain ⟨mk, hnamed⟩ : ∃ mk, s.methodNamed? y = some mk := by
    rcases hG with ⟨hG, -⟩ | hG
    · exact Cond.code_named (hts _ hG)
    · obtain ⟨mk, -, -, h, -⟩ := Cond.codeWith_spec (hts _ hG)
      exact ⟨mk, h⟩
  obtain ⟨methM, cM, hmethM, -, -, -, -, -, -, hsigM⟩ := hG.spec hts hnamed
  obtain ⟨kP, hkP, -⟩ := className_of_methodNamed hnamed
  have hl1 : As.length = methM.sig.parameters.length := by
    rw [hsigM] at hlen
    exact hn.trans (Option.some.inj hlen).symm
  obtain ⟨vm₁, X₁, hstep₁⟩ := XT.invokestatic hx ho (hts _ hlink) hnamed hmethM (Cond.static_spec hnamed hmethM (hts _ hstt)) hkP (Cond.initialized_spec (findClass_of_methodNamed hnamed) hkP (hts _ hini)) hy (g := F0 m pc ls st) rfl (argsL := As) (rest := rest) hl1 hst (by rw [hb]; exact d)
  obtain ⟨T', L, X', hL, q1, q2, q3, hend⟩ := d_intoT (g := F0 m pc ls rest) X₁ hx hts hpl hM hG hnamed hR.1 hR.2 rfl (h4.1.trans hml.symm) (lv_room hW) (by rw [hb]; exact d) hf (g_pre X h1 h2 h3 (T.setVm vm₁) hT X₁.warmed)
  refine ⟨T', L, X', hL, q1, q2, by rw [← hT]; exact q3, ?_⟩
  rcases hend with ⟨hv, hgo⟩ | ⟨a, hv, hgo⟩
  · exact Or.inl ⟨hv, fun target h => hstep₁ _ fun acts => hgo target h acts⟩
  · exact Or.inr ⟨a, hv, fun target h => hstep₁ _ fun acts => hgo target h acts⟩
theorem t_bV_i (X : g_X Γ p s m args meth c cc nL own) {ci : Nat} (hc : ∃ (T : u_T) (N : Nat), cls[ci]? = some (C, T, N)) {fc : Option ((Int32 ⊕ Nat) × St)} {k : Int32 → St → Option (α × St)} {kX : Nat → St → Option (α × St)} (d : decode cc pc = .ok (.invokevirtual index, 3)) (hn : As.length = n) (hst : st = As.reverse ++ .ref b :: rest) (hW : (rest.map fun v => v.category).sum ≤ 8) (hpl : plainFor y = true) (hG : x_cd y cc' nL' ret tb) (hR : fr' + 1 ≤ fr ∧ 8 + (nL' + 11) + lo' ≤ lo) (hinst : Cond.instanceMethod y ∈ lw_all) (hlink : Cond.methodLink own index y ∈ lw_all) (hsel : Cond.selects C y y ∈ lw_all) (hy : y.cls ≠ "java/lang/invoke/MethodHandle" ∧ y.cls ≠ "java/lang/invoke/VarHandle") (hlen : (parseMethodDescriptor y.desc).map (fun d => d.parameters.length) = some n) (hM : ∀ r u, fc = some (r, u) → g_CT Γ l y cc' nL' ret tb fr' lo' (.ref b :: As) t.1 (z + t.2.1) t_i r (g_ι (z + t.2.1) u)) (kk : ∀ r u, Wf Γ p l e fr lo s m args below meth c nL (g_ι z) vl rF tF (pc + 3) (lv) (.int r :: rest) u (k r u)) (kx : ∀ a u, Wx Γ p l e fr lo s m args below meth c nL (g_ι z) vl rF tF pc lv rest a u (kX a u)) : Wf Γ p l e fr lo s m args below meth c nL (g_ι z) vl rF tF (pc) (lv) (st) t (ccast [ci] t b (gbT fc t k kX)) := by
  intro hF
  obtain ⟨fl, ci', fs, hs, hci, hF⟩ := ccast_inv hF
  rw [List.mem_singleton.mp hci] at hs
  cases hfc : fc with
  | none => rw [hfc] at hF; cases hF
  | some ru =>
    obtain ⟨r, u⟩ := ru
    rw [hfc] at hF
    cases r with
    | inl r =>
      have k1 := kk r (u.1, t.2.1 + u.2.1, t.2.2 + u.2.2) hF
      have hf : t.2.1 + u.2.1 ≤ tF.2.1 ∧ t.2.2 + u.2.2 ≤ tF.2.2 := k1.1
      refine ⟨⟨Nat.le_trans (Nat.le_add_right _ _) hf.1, Nat.le_trans (Nat.le_add_right _ _) hf.2⟩, fun H locs ls h1 h2 h3 h4 T hT XT => ?_⟩
      have hE := x_runV X hc hs d hn hst hW hpl hG hR hinst hlink hsel hy hlen (hM _ u hfc) hf h1 h2 h3 h4 hT XT
      exact x_back (ι := g_ι z) (t := t) (t1 := (u.1, t.2.1 + u.2.1, t.2.2 + u.2.2)) hE (by simp only [g_ι, Nat.add_assoc]) h3 h4 (fun _ => k1.2) (fun a h => by cases h)
    | inr a =>
      have k1 := kx a (u.1, t.2.1 + u.2.1, t.2.2 + u.2.2) hF
      have hf : t.2.1 + u.2.1 ≤ tF.2.1 ∧ t.2.2 + u.2.2 ≤ tF.2.2 := k1.1
      refine ⟨⟨Nat.le_trans (Nat.le_add_right _ _) hf.1, Nat.le_trans (Nat.le_add_right _ _) hf.2⟩, fun H locs ls h1 h2 h3 h4 T hT XT => ?_⟩
      have hE := x_runV X hc hs d hn hst hW hpl hG hR hinst hlink hsel hy hlen (hM _ u hfc) hf h1 h2 h3 h4 hT XT
      exact x_back (ι := g_ι z) (t := t) (t1 := (u.1, t.2.1 + u.2.1, t.2.2 + u.2.2)) hE (by simp only [g_ι, Nat.add_assoc]) h3 h4 (fun h => absurd rfl (h a)) (fun a2 h => by cases h; exact k1.2)
theorem t_bV_v (X : g_X Γ p s m args meth c cc nL own) {ci : Nat} (hc : ∃ (T : u_T) (N : Nat), cls[ci]? = some (C, T, N)) {fc : Option ((Unit ⊕ Nat) × St)} {k : Unit → St → Option (α × St)} {kX : Nat → St → Option (α × St)} (d : decode cc pc = .ok (.invokevirtual index, 3)) (hn : As.length = n) (hst : st = As.reverse ++ .ref b :: rest) (hW : (rest.map fun v => v.category).sum ≤ 8) (hpl : plainFor y = true) (hG : x_cd y cc' nL' ret tb) (hR : fr' + 1 ≤ fr ∧ 8 + (nL' + 11) + lo' ≤ lo) (hinst : Cond.instanceMethod y ∈ lw_all) (hlink : Cond.methodLink own index y ∈ lw_all) (hsel : Cond.selects C y y ∈ lw_all) (hy : y.cls ≠ "java/lang/invoke/MethodHandle" ∧ y.cls ≠ "java/lang/invoke/VarHandle") (hlen : (parseMethodDescriptor y.desc).map (fun d => d.parameters.length) = some n) (hM : ∀ r u, fc = some (r, u) → g_CT Γ l y cc' nL' ret tb fr' lo' (.ref b :: As) t.1 (z + t.2.1) t_v r (g_ι (z + t.2.1) u)) (kk : ∀ r u, Wf Γ p l e fr lo s m args below meth c nL (g_ι z) vl rF tF (pc + 3) (lv) rest u (k r u)) (kx : ∀ a u, Wx Γ p l e fr lo s m args below meth c nL (g_ι z) vl rF tF pc lv rest a u (kX a u)) : Wf Γ p l e fr lo s m args below meth c nL (g_ι z) vl rF tF (pc) (lv) (st) t (ccast [ci] t b (gbT fc t k kX)) := by
  intro hF
  obtain ⟨fl, ci', fs, hs, hci, hF⟩ := ccast_inv hF
  rw [List.mem_singleton.mp hci] at hs
  cases hfc : fc with
  | none => rw [hfc] at hF; cases hF
  | some ru =>
    obtain ⟨r, u⟩ := ru
    rw [hfc] at hF
    cases r with
    | inl r =>
      have k1 := kk r (u.1, t.2.1 + u.2.1, t.2.2 + u.2.2) hF
      have hf : t.2.1 + u.2.1 ≤ tF.2.1 ∧ t.2.2 + u.2.2 ≤ tF.2.2 := k1.1
      refine ⟨⟨Nat.le_trans (Nat.le_add_right _ _) hf.1, Nat.le_trans (Nat.le_add_right _ _) hf.2⟩, fun H locs ls h1 h2 h3 h4 T hT XT => ?_⟩
      have hE := x_runV X hc hs d hn hst hW hpl hG hR hinst hlink hsel hy hlen (hM _ u hfc) hf h1 h2 h3 h4 hT XT
      exact x_back (ι := g_ι z) (t := t) (t1 := (u.1, t.2.1 + u.2.1, t.2.2 + u.2.2)) hE (by simp only [g_ι, Nat.add_assoc]) h3 h4 (fun _ => k1.2) (fun a h => by cases h)
    | inr a =>
      have k1 := kx a (u.1, t.2.1 + u.2.1, t.2.2 + u.2.2) hF
      have hf : t.2.1 + u.2.1 ≤ tF.2.1 ∧ t.2.2 + u.2.2 ≤ tF.2.2 := k1.1
      refine ⟨⟨Nat.le_trans (Nat.le_add_right _ _) hf.1, Nat.le_trans (Nat.le_add_right _ _) hf.2⟩, fun H locs ls h1 h2 h3 h4 T hT XT => ?_⟩
      have hE := x_runV X hc hs d hn hst hW hpl hG hR hinst hlink hsel hy hlen (hM _ u hfc) hf h1 h2 h3 h4 hT XT
      exact x_back (ι := g_ι z) (t := t) (t1 := (u.1, t.2.1 + u.2.1, t.2.2 + u.2.2)) hE (by simp only [g_ι, Nat.add_assoc]) h3 h4 (fun h => absurd rfl (h a)) (fun a2 h => by cases h; exact k1.2)
theorem t_bV_a (X : g_X Γ p s m args meth c cc nL own) {ci : Nat} (hc : ∃ (T : u_T) (N : Nat), cls[ci]? = some (C, T, N)) {fc : Option ((Nat ⊕ Nat) × St)} {k : Nat → St → Option (α × St)} {kX : Nat → St → Option (α × St)} (d : decode cc pc = .ok (.invokevirtual index, 3)) (hn : As.length = n) (hst : st = As.reverse ++ .ref b :: rest) (hW : (rest.map fun v => v.category).sum ≤ 8) (hpl : plainFor y = true) (hG : x_cd y cc' nL' ret tb) (hR : fr' + 1 ≤ fr ∧ 8 + (nL' + 11) + lo' ≤ lo) (hinst : Cond.instanceMethod y ∈ lw_all) (hlink : Cond.methodLink own index y ∈ lw_all) (hsel : Cond.selects C y y ∈ lw_all) (hy : y.cls ≠ "java/lang/invoke/MethodHandle" ∧ y.cls ≠ "java/lang/invoke/VarHandle") (hlen : (parseMethodDescriptor y.desc).map (fun d => d.parameters.length) = some n) (hM : ∀ r u, fc = some (r, u) → g_CT Γ l y cc' nL' ret tb fr' lo' (.ref b :: As) t.1 (z + t.2.1) t_a r (g_ι (z + t.2.1) u)) (kk : ∀ r u, Wf Γ p l e fr lo s m args below meth c nL (g_ι z) vl rF tF (pc + 3) (lv) (.ref r :: rest) u (k r u)) (kx : ∀ a u, Wx Γ p l e fr lo s m args below meth c nL (g_ι z) vl rF tF pc lv rest a u (kX a u)) : Wf Γ p l e fr lo s m args below meth c nL (g_ι z) vl rF tF (pc) (lv) (st) t (ccast [ci] t b (gbT fc t k kX)) := by
  intro hF
  obtain ⟨fl, ci', fs, hs, hci, hF⟩ := ccast_inv hF
  rw [List.mem_singleton.mp hci] at hs
  cases hfc : fc with
  | none => rw [hfc] at hF; cases hF
  | some ru =>
    obtain ⟨r, u⟩ := ru
    rw [hfc] at hF
    cases r with
    | inl r =>
      have k1 := kk r (u.1, t.2.1 + u.2.1, t.2.2 + u.2.2) hF
      have hf : t.2.1 + u.2.1 ≤ tF.2.1 ∧ t.2.2 + u.2.2 ≤ tF.2.2 := k1.1
      refine ⟨⟨Nat.le_trans (Nat.le_add_right _ _) hf.1, Nat.le_trans (Nat.le_add_right _ _) hf.2⟩, fun H locs ls h1 h2 h3 h4 T hT XT => ?_⟩
      have hE := x_runV X hc hs d hn hst hW hpl hG hR hinst hlink hsel hy hlen (hM _ u hfc) hf h1 h2 h3 h4 hT XT
      exact x_back (ι := g_ι z) (t := t) (t1 := (u.1, t.2.1 + u.2.1, t.2.2 + u.2.2)) hE (by simp only [g_ι, Nat.add_assoc]) h3 h4 (fun _ => k1.2) (fun a h => by cases h)
    | inr a =>
      have k1 := kx a (u.1, t.2.1 + u.2.1, t.2.2 + u.2.2) hF
      have hf : t.2.1 + u.2.1 ≤ tF.2.1 ∧ t.2.2 + u.2.2 ≤ tF.2.2 := k1.1
      refine ⟨⟨Nat.le_trans (Nat.le_add_right _ _) hf.1, Nat.le_trans (Nat.le_add_right _ _) hf.2⟩, fun H locs ls h1 h2 h3 h4 T hT XT => ?_⟩
      have hE := x_runV X hc hs d hn hst hW hpl hG hR hinst hlink hsel hy hlen (hM _ u hfc) hf h1 h2 h3 h4 hT XT
      exact x_back (ι := g_ι z) (t := t) (t1 := (u.1, t.2.1 + u.2.1, t.2.2 + u.2.2)) hE (by simp only [g_ι, Nat.add_assoc]) h3 h4 (fun h => absurd rfl (h a)) (fun a2 h => by cases h; exact k1.2)
theorem t_bS_i (X : g_X Γ p s m args meth c cc nL own) {fc : Option ((Int32 ⊕ Nat) × St)} {k : Int32 → St → Option (α × St)} {kX : Nat → St → Option (α × St)} (d : decode cc pc = .ok (.invokestatic index, 3)) (hn : As.length = n) (hst : st = As.reverse ++ rest) (hW : (rest.map fun v => v.category).sum ≤ 8) (hpl : plainFor y = true) (hG : x_cd y cc' nL' ret tb) (hR : fr' + 1 ≤ fr ∧ 8 + (nL' + 11) + lo' ≤ lo) (hstt : Cond.static y ∈ lw_all) (hini : Cond.initialized y.cls ∈ lw_all) (hlink : Cond.methodLink own index y ∈ lw_all) (hy : y.cls ≠ "java/lang/invoke/MethodHandle" ∧ y.cls ≠ "java/lang/invoke/VarHandle") (hlen : (parseMethodDescriptor y.desc).map (fun d => d.parameters.length) = some n) (hM : ∀ r u, fc = some (r, u) → g_CT Γ l y cc' nL' ret tb fr' lo' (As) t.1 (z + t.2.1) t_i r (g_ι (z + t.2.1) u)) (kk : ∀ r u, Wf Γ p l e fr lo s m args below meth c nL (g_ι z) vl rF tF (pc + 3) (lv) (.int r :: rest) u (k r u)) (kx : ∀ a u, Wx Γ p l e fr lo s m args below meth c nL (g_ι z) vl rF tF pc lv rest a u (kX a u)) : Wf Γ p l e fr lo s m args below meth c nL (g_ι z) vl rF tF (pc) (lv) (st) t (gbT fc t k kX) := by
  intro hF
  cases hfc : fc with
  | none => rw [hfc] at hF; cases hF
  | some ru =>
    obtain ⟨r, u⟩ := ru
    rw [hfc] at hF
    cases r with
    | inl r =>
      have k1 := kk r (u.1, t.2.1 + u.2.1, t.2.2 + u.2.2) hF
      have hf : t.2.1 + u.2.1 ≤ tF.2.1 ∧ t.2.2 + u.2.2 ≤ tF.2.2 := k1.1
      refine ⟨⟨Nat.le_trans (Nat.le_add_right _ _) hf.1, Nat.le_trans (Nat.le_add_right _ _) hf.2⟩, fun H locs ls h1 h2 h3 h4 T hT XT => ?_⟩
      have hE := x_runS X d hn hst hW hpl hG hR hstt hini hlink hy hlen (hM _ u hfc) hf h1 h2 h3 h4 hT XT
      exact x_back (ι := g_ι z) (t := t) (t1 := (u.1, t.2.1 + u.2.1, t.2.2 + u.2.2)) hE (by simp only [g_ι, Nat.add_assoc]) h3 h4 (fun _ => k1.2) (fun a h => by cases h)
    | inr a =>
      have k1 := kx a (u.1, t.2.1 + u.2.1, t.2.2 + u.2.2) hF
      have hf : t.2.1 + u.2.1 ≤ tF.2.1 ∧ t.2.2 + u.2.2 ≤ tF.2.2 := k1.1
      refine ⟨⟨Nat.le_trans (Nat.le_add_right _ _) hf.1, Nat.le_trans (Nat.le_add_right _ _) hf.2⟩, fun H locs ls h1 h2 h3 h4 T hT XT => ?_⟩
      have hE := x_runS X d hn hst hW hpl hG hR hstt hini hlink hy hlen (hM _ u hfc) hf h1 h2 h3 h4 hT XT
      exact x_back (ι := g_ι z) (t := t) (t1 := (u.1, t.2.1 + u.2.1, t.2.2 + u.2.2)) hE (by simp only [g_ι, Nat.add_assoc]) h3 h4 (fun h => absurd rfl (h a)) (fun a2 h => by cases h; exact k1.2)
theorem t_bS_v (X : g_X Γ p s m args meth c cc nL own) {fc : Option ((Unit ⊕ Nat) × St)} {k : Unit → St → Option (α × St)} {kX : Nat → St → Option (α × St)} (d : decode cc pc = .ok (.invokestatic index, 3)) (hn : As.length = n) (hst : st = As.reverse ++ rest) (hW : (rest.map fun v => v.category).sum ≤ 8) (hpl : plainFor y = true) (hG : x_cd y cc' nL' ret tb) (hR : fr' + 1 ≤ fr ∧ 8 + (nL' + 11) + lo' ≤ lo) (hstt : Cond.static y ∈ lw_all) (hini : Cond.initialized y.cls ∈ lw_all) (hlink : Cond.methodLink own index y ∈ lw_all) (hy : y.cls ≠ "java/lang/invoke/MethodHandle" ∧ y.cls ≠ "java/lang/invoke/VarHandle") (hlen : (parseMethodDescriptor y.desc).map (fun d => d.parameters.length) = some n) (hM : ∀ r u, fc = some (r, u) → g_CT Γ l y cc' nL' ret tb fr' lo' (As) t.1 (z + t.2.1) t_v r (g_ι (z + t.2.1) u)) (kk : ∀ r u, Wf Γ p l e fr lo s m args below meth c nL (g_ι z) vl rF tF (pc + 3) (lv) rest u (k r u)) (kx : ∀ a u, Wx Γ p l e fr lo s m args below meth c nL (g_ι z) vl rF tF pc lv rest a u (kX a u)) : Wf Γ p l e fr lo s m args below meth c nL (g_ι z) vl rF tF (pc) (lv) (st) t (gbT fc t k kX) := by
  intro hF
  cases hfc : fc with
  | none => rw [hfc] at hF; cases hF
  | some ru =>
    obtain ⟨r, u⟩ := ru
    rw [hfc] at hF
    cases r with
    | inl r =>
      have k1 := kk r (u.1, t.2.1 + u.2.1, t.2.2 + u.2.2) hF
      have hf : t.2.1 + u.2.1 ≤ tF.2.1 ∧ t.2.2 + u.2.2 ≤ tF.2.2 := k1.1
      refine ⟨⟨Nat.le_trans (Nat.le_add_right _ _) hf.1, Nat.le_trans (Nat.le_add_right _ _) hf.2⟩, fun H locs ls h1 h2 h3 h4 T hT XT => ?_⟩
      have hE := x_runS X d hn hst hW hpl hG hR hstt hini hlink hy hlen (hM _ u hfc) hf h1 h2 h3 h4 hT XT
      exact x_back (ι := g_ι z) (t := t) (t1 := (u.1, t.2.1 + u.2.1, t.2.2 + u.2.2)) hE (by simp only [g_ι, Nat.add_assoc]) h3 h4 (fun _ => k1.2) (fun a h => by cases h)
    | inr a =>
      have k1 := kx a (u.1, t.2.1 + u.2.1, t.2.2 + u.2.2) hF
      have hf : t.2.1 + u.2.1 ≤ tF.2.1 ∧ t.2.2 + u.2.2 ≤ tF.2.2 := k1.1
      refine ⟨⟨Nat.le_trans (Nat.le_add_right _ _) hf.1, Nat.le_trans (Nat.le_add_right _ _) hf.2⟩, fun H locs ls h1 h2 h3 h4 T hT XT => ?_⟩
      have hE := x_runS X d hn hst hW hpl hG hR hstt hini hlink hy hlen (hM _ u hfc) hf h1 h2 h3 h4 hT XT
      exact x_back (ι := g_ι z) (t := t) (t1 := (u.1, t.2.1 + u.2.1, t.2.2 + u.2.2)) hE (by simp only [g_ι, Nat.add_assoc]) h3 h4 (fun h => absurd rfl (h a)) (fun a2 h => by cases h; exact k1.2)
theorem t_bS_a (X : g_X Γ p s m args meth c cc nL own) {fc : Option ((Nat ⊕ Nat) × St)} {k : Nat → St → Option (α × St)} {kX : Nat → St → Option (α × St)} (d : decode cc pc = .ok (.invokestatic index, 3)) (hn : As.length = n) (hst : st = As.reverse ++ rest) (hW : (rest.map fun v => v.category).sum ≤ 8) (hpl : plainFor y = true) (hG : x_cd y cc' nL' ret tb) (hR : fr' + 1 ≤ fr ∧ 8 + (nL' + 11) + lo' ≤ lo) (hstt : Cond.static y ∈ lw_all) (hini : Cond.initialized y.cls ∈ lw_all) (hlink : Cond.methodLink own index y ∈ lw_all) (hy : y.cls ≠ "java/lang/invoke/MethodHandle" ∧ y.cls ≠ "java/lang/invoke/VarHandle") (hlen : (parseMethodDescriptor y.desc).map (fun d => d.parameters.length) = some n) (hM : ∀ r u, fc = some (r, u) → g_CT Γ l y cc' nL' ret tb fr' lo' (As) t.1 (z + t.2.1) t_a r (g_ι (z + t.2.1) u)) (kk : ∀ r u, Wf Γ p l e fr lo s m args below meth c nL (g_ι z) vl rF tF (pc + 3) (lv) (.ref r :: rest) u (k r u)) (kx : ∀ a u, Wx Γ p l e fr lo s m args below meth c nL (g_ι z) vl rF tF pc lv rest a u (kX a u)) : Wf Γ p l e fr lo s m args below meth c nL (g_ι z) vl rF tF (pc) (lv) (st) t (gbT fc t k kX) := by
  intro hF
  cases hfc : fc with
  | none => rw [hfc] at hF; cases hF
  | some ru =>
    obtain ⟨r, u⟩ := ru
    rw [hfc] at hF
    cases r with
    | inl r =>
      have k1 := kk r (u.1, t.2.1 + u.2.1, t.2.2 + u.2.2) hF
      have hf : t.2.1 + u.2.1 ≤ tF.2.1 ∧ t.2.2 + u.2.2 ≤ tF.2.2 := k1.1
      refine ⟨⟨Nat.le_trans (Nat.le_add_right _ _) hf.1, Nat.le_trans (Nat.le_add_right _ _) hf.2⟩, fun H locs ls h1 h2 h3 h4 T hT XT => ?_⟩
      have hE := x_runS X d hn hst hW hpl hG hR hstt hini hlink hy hlen (hM _ u hfc) hf h1 h2 h3 h4 hT XT
      exact x_back (ι := g_ι z) (t := t) (t1 := (u.1, t.2.1 + u.2.1, t.2.2 + u.2.2)) hE (by simp only [g_ι, Nat.add_assoc]) h3 h4 (fun _ => k1.2) (fun a h => by cases h)
    | inr a =>
      have k1 := kx a (u.1, t.2.1 + u.2.1, t.2.2 + u.2.2) hF
      have hf : t.2.1 + u.2.1 ≤ tF.2.1 ∧ t.2.2 + u.2.2 ≤ tF.2.2 := k1.1
      refine ⟨⟨Nat.le_trans (Nat.le_add_right _ _) hf.1, Nat.le_trans (Nat.le_add_right _ _) hf.2⟩, fun H locs ls h1 h2 h3 h4 T hT XT => ?_⟩
      have hE := x_runS X d hn hst hW hpl hG hR hstt hini hlink hy hlen (hM _ u hfc) hf h1 h2 h3 h4 hT XT
      exact x_back (ι := g_ι z) (t := t) (t1 := (u.1, t.2.1 + u.2.1, t.2.2 + u.2.2)) hE (by simp only [g_ι, Nat.add_assoc]) h3 h4 (fun h => absurd rfl (h a)) (fun a2 h => by cases h; exact k1.2)
theorem x_bV_i (X : g_X Γ p s m args meth c cc nL own) {ci : Nat} (hc : ∃ (T : u_T) (N : Nat), cls[ci]? = some (C, T, N)) {fc : Option (Int32 × St)} {k : Int32 → St → Option (α × St)} (d : decode cc pc = .ok (.invokevirtual index, 3)) (hn : As.length = n) (hst : st = As.reverse ++ .ref b :: rest) (hW : (rest.map fun v => v.category).sum ≤ 8) (hpl : plainFor y = true) (hG : x_cd y cc' nL' ret tb) (hR : fr' + 1 ≤ fr ∧ 8 + (nL' + 11) + lo' ≤ lo) (hinst : Cond.instanceMethod y ∈ lw_all) (hlink : Cond.methodLink own index y ∈ lw_all) (hsel : Cond.selects C y y ∈ lw_all) (hy : y.cls ≠ "java/lang/invoke/MethodHandle" ∧ y.cls ≠ "java/lang/invoke/VarHandle") (hlen : (parseMethodDescriptor y.desc).map (fun d => d.parameters.length) = some n) (hM : ∀ r u, fc = some (r, u) → g_CT Γ l y cc' nL' ret tb fr' lo' (.ref b :: As) t.1 (z + t.2.1) v_i r (g_ι (z + t.2.1) u)) (kk : ∀ r u, Wf Γ p l e fr lo s m args below meth c nL (g_ι z) vl rF tF (pc + 3) (lv) (.int r :: rest) u (k r u)) : Wf Γ p l e fr lo s m args below meth c nL (g_ι z) vl rF tF (pc) (lv) (st) t (ccast [ci] t b (gb fc t k)) := by
  intro hF
  obtain ⟨fl, ci', fs, hs, hci, hF⟩ := ccast_inv hF
  rw [List.mem_singleton.mp hci] at hs
  cases hfc : fc with
  | none => rw [hfc] at hF; cases hF
  | some ru =>
    obtain ⟨r, u⟩ := ru
    rw [hfc] at hF
    have k1 := kk r (u.1, t.2.1 + u.2.1, t.2.2 + u.2.2) hF
    have hf : t.2.1 + u.2.1 ≤ tF.2.1 ∧ t.2.2 + u.2.2 ≤ tF.2.2 := k1.1
    refine ⟨⟨Nat.le_trans (Nat.le_add_right _ _) hf.1, Nat.le_trans (Nat.le_add_right _ _) hf.2⟩, fun H locs ls h1 h2 h3 h4 T hT XT => ?_⟩
    have hE := x_runV X hc hs d hn hst hW hpl hG hR hinst hlink hsel hy hlen (hM _ u hfc) hf h1 h2 h3 h4 hT XT
    exact x_back (ι := g_ι z) (t := t) (t1 := (u.1, t.2.1 + u.2.1, t.2.2 + u.2.2)) hE (by simp only [g_ι, Nat.add_assoc]) h3 h4 (fun _ => k1.2) (fun a h => by cases h)
theorem x_bS_i (X : g_X Γ p s m args meth c cc nL own) {fc : Option (Int32 × St)} {k : Int32 → St → Option (α × St)} (d : decode cc pc = .ok (.invokestatic index, 3)) (hn : As.length = n) (hst : st = As.reverse ++ rest) (hW : (rest.map fun v => v.category).sum ≤ 8) (hpl : plainFor y = true) (hG : x_cd y cc' nL' ret tb) (hR : fr' + 1 ≤ fr ∧ 8 + (nL' + 11) + lo' ≤ lo) (hstt : Cond.static y ∈ lw_all) (hini : Cond.initialized y.cls ∈ lw_all) (hlink : Cond.methodLink own index y ∈ lw_all) (hy : y.cls ≠ "java/lang/invoke/MethodHandle" ∧ y.cls ≠ "java/lang/invoke/VarHandle") (hlen : (parseMethodDescriptor y.desc).map (fun d => d.parameters.length) = some n) (hM : ∀ r u, fc = some (r, u) → g_CT Γ l y cc' nL' ret tb fr' lo' (As) t.1 (z + t.2.1) v_i r (g_ι (z + t.2.1) u)) (kk : ∀ r u, Wf Γ p l e fr lo s m args below meth c nL (g_ι z) vl rF tF (pc + 3) (lv) (.int r :: rest) u (k r u)) : Wf Γ p l e fr lo s m args below meth c nL (g_ι z) vl rF tF (pc) (lv) (st) t (gb fc t k) := by
  intro hF
  cases hfc : fc with
  | none => rw [hfc] at hF; cases hF
  | some ru =>
    obtain ⟨r, u⟩ := ru
    rw [hfc] at hF
    have k1 := kk r (u.1, t.2.1 + u.2.1, t.2.2 + u.2.2) hF
    have hf : t.2.1 + u.2.1 ≤ tF.2.1 ∧ t.2.2 + u.2.2 ≤ tF.2.2 := k1.1
    refine ⟨⟨Nat.le_trans (Nat.le_add_right _ _) hf.1, Nat.le_trans (Nat.le_add_right _ _) hf.2⟩, fun H locs ls h1 h2 h3 h4 T hT XT => ?_⟩
    have hE := x_runS X d hn hst hW hpl hG hR hstt hini hlink hy hlen (hM _ u hfc) hf h1 h2 h3 h4 hT XT
    exact x_back (ι := g_ι z) (t := t) (t1 := (u.1, t.2.1 + u.2.1, t.2.2 + u.2.2)) hE (by simp only [g_ι, Nat.add_assoc]) h3 h4 (fun _ => k1.2) (fun a h => by cases h)
theorem x_bS_l (X : g_X Γ p s m args meth c cc nL own) {fc : Option (Int64 × St)} {k : Int64 → St → Option (α × St)} (d : decode cc pc = .ok (.invokestatic index, 3)) (hn : As.length = n) (hst : st = As.reverse ++ rest) (hW : (rest.map fun v => v.category).sum ≤ 8) (hpl : plainFor y = true) (hG : x_cd y cc' nL' ret tb) (hR : fr' + 1 ≤ fr ∧ 8 + (nL' + 11) + lo' ≤ lo) (hstt : Cond.static y ∈ lw_all) (hini : Cond.initialized y.cls ∈ lw_all) (hlink : Cond.methodLink own index y ∈ lw_all) (hy : y.cls ≠ "java/lang/invoke/MethodHandle" ∧ y.cls ≠ "java/lang/invoke/VarHandle") (hlen : (parseMethodDescriptor y.desc).map (fun d => d.parameters.length) = some n) (hM : ∀ r u, fc = some (r, u) → g_CT Γ l y cc' nL' ret tb fr' lo' (As) t.1 (z + t.2.1) v_l r (g_ι (z + t.2.1) u)) (kk : ∀ r u, Wf Γ p l e fr lo s m args below meth c nL (g_ι z) vl rF tF (pc + 3) (lv) (.long r :: rest) u (k r u)) : Wf Γ p l e fr lo s m args below meth c nL (g_ι z) vl rF tF (pc) (lv) (st) t (gb fc t k) := by
  intro hF
  cases hfc : fc with
  | none => rw [hfc] at hF; cases hF
  | some ru =>
    obtain ⟨r, u⟩ := ru
    rw [hfc] at hF
    have k1 := kk r (u.1, t.2.1 + u.2.1, t.2.2 + u.2.2) hF
    have hf : t.2.1 + u.2.1 ≤ tF.2.1 ∧ t.2.2 + u.2.2 ≤ tF.2.2 := k1.1
    refine ⟨⟨Nat.le_trans (Nat.le_add_right _ _) hf.1, Nat.le_trans (Nat.le_add_right _ _) hf.2⟩, fun H locs ls h1 h2 h3 h4 T hT XT => ?_⟩
    have hE := x_runS X d hn hst hW hpl hG hR hstt hini hlink hy hlen (hM _ u hfc) hf h1 h2 h3 h4 hT XT
    exact x_back (ι := g_ι z) (t := t) (t1 := (u.1, t.2.1 + u.2.1, t.2.2 + u.2.2)) hE (by simp only [g_ι, Nat.add_assoc]) h3 h4 (fun _ => k1.2) (fun a h => by cases h)
end XC
