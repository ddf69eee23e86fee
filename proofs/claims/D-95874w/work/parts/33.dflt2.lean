/-! calls that land in a default through an interface; super calls through an inherited name; their rows -/
set_option maxRecDepth 100000
section DF
variable {p : Program} {l : Launch} {e : Env} {R : Room} {s : State} {m : MethodId} {args : Array Value} {below : List Frame} {meth : Method} {c : Code} {H : Heap} {locs : List Loc} {cells slots : Nat} {Γ : Gc}
theorem d_runV2 {x y : MethodName} {bytes cc : ByteArray} {maxL nL n index : Nat} {ret : Option FieldType} {fr' lo' : Nat} {σ : Sg} {sz : Nat} {β : Type} {vl : β → Option Value} {r' : β} {q : Iv} {own C owner : String} {b : Addr} {As rest : List Value} {g : JFrame}
    (S : CallFix p m c cc nL s args lw_all own) (hE : g_E Γ s) (hpl : plainFor y = true) (hM : g_CW Γ l y bytes maxL ret fr' lo' (.ref b :: As) σ sz vl r' q) (hG : Cond.code y bytes maxL ret ∈ lw_all) (hR : fr' + 1 ≤ R.frames ∧ 8 + (maxL + 11) + lo' ≤ R.locals) (hinst : Cond.instanceMethod y ∈ lw_all)
    (hlink : Cond.methodLink own index x ∈ flatC (Jvm.Cond.and given_1 narrow_1)) (hsame : Cond.sameMethod x.cls owner x.name x.desc ∈ flatC (Jvm.Cond.and given_1 narrow_1)) (hlands : Cond.landsInDefault C x y ∈ flatC (Jvm.Cond.and given_1 narrow_1)) (hyo : y = ⟨owner, x.name, x.desc⟩)
    (howner : owner ≠ "java/lang/invoke/MethodHandle" ∧ owner ≠ "java/lang/invoke/VarHandle") (hlen : (parseMethodDescriptor x.desc).map (fun d => d.parameters.length) = some n)
    (hp : PreV s H C b (g_Pc Γ (.ref b :: As) σ sz) As) (hg : g.method = m) (hn : As.length = n) (hsize : g.locals.size = nL) (hstack : g.stack = As.reverse ++ .ref b :: rest) (hW : 2 * g.monitorRoom + (rest.map fun v => v.category).sum ≤ 8) (hdg : decode cc g.pc = .ok (.invokevirtual index, 3)) (hf : cells + q.2.2.1 ≤ R.cells ∧ slots + q.2.2.2 ≤ R.slots) (hv : ∀ a, vl r' ≠ some (.retAddr a) := by intro a h; cases h) :
    va_Run p l e R s m args below meth c H locs cells slots q.2.2.1 q.2.2.2 g rest (g_Q Γ vl r' q (Value.ref b :: As).toArray) (g_A Γ.2.2.1) := by
  obtain ⟨hx, hb, hml, ho, hts⟩ := S
  obtain ⟨-, ⟨cellB, hcB, hoB, hclB⟩, hPc⟩ := hp
  obtain ⟨c2, r0, mk, r, kI, q1, q2, q3, q4, q5, q6, q7, -, q8⟩ := d_lands (owner := owner) hE hlands (fun s0 _ g3 => by
    obtain ⟨cn, ck, r1, -, -, -, z1, z2⟩ := Cond.sameMethod_found (flat_of_before _ g3 _ hsame)
    exact ⟨r1, z1, z2⟩)
  cases hclB.symm.trans q1
  have hc0 := hts _ hG
  obtain ⟨r9, rr9, w1, w2, w3, w4⟩ := va_Decl.of (hts _ hinst) hc0
  rw [hyo] at w1
  cases q2.symm.trans w1
  cases q4.symm.trans w2
  obtain ⟨mk9, methM, hnamed, hmethM, -, habM⟩ := Cond.instanceMethod_spec (hts _ hinst)
  cases hnamed.symm.trans q3
  intro T hT X
  have hselP : selectMethod e.platform s.vm cellB.cls r0 = .method mk := by rw [Launch.admits_selectMethod X.admits]; exact q5
  have hl1 : ∀ sig, parseMethodDescriptor x.desc = some sig → n = sig.parameters.length := fun sig h => by
    rw [h] at hlen
    exact (Option.some.inj hlen).symm
  have hd9 : parseMethodDescriptor x.desc = some r.sig := by
    rw [hyo] at w4
    exact w4
  obtain ⟨vm₁, X₁, hstep₁⟩ := d_invoke X hx ho (hE.narrow hlink (by first | rfl | simp [Cond.onTables, Cond.keeps, Cond.steady]) args) (hE.narrow hsame (by first | rfl | simp [Cond.onTables, Cond.keeps, Cond.steady]) args) howner q2 q4 w3 (a := b) (cell := cellB) (by rw [hT]; exact hcB)
    (fun z h => by rw [h] at hoB; cases hoB) hselP hmethM habM q6 q7 q8 (g := g) hg (argsL := As) (rest := rest) (hn.trans (hl1 _ hd9)) hstack (by rw [hb]; exact hdg)
  obtain ⟨v, t, T', L, X', hL, e1, e2, hq, hgo⟩ := d_into (g := { g with stack := rest }) X₁ hx hts hpl hM hG hnamed hR.1 hR.2 hg (hsize.trans hml.symm) hW (by rw [hb]; exact hdg) hf (hPc (T.setVm vm₁) hT X₁.warmed) hv
  exact ⟨v, (T.setVm vm₁).calling { g with stack := rest } mk (Value.ref b :: As).toArray, t, T', L, hT, X', hL, e1, e2, hq, fun target h => hstep₁ _ fun acts => hgo target h acts⟩
theorem d_runF2 {x y : MethodName} {bytes cc : ByteArray} {maxL nL n index count : Nat} {ret : Option FieldType} {fr' lo' : Nat} {σ : Sg} {sz : Nat} {β : Type} {vl : β → Option Value} {r' : β} {q : Iv} {own C : String} {cC : ClassId} {b : Addr} {As rest : List Value} {g : JFrame}
    (hat : ClassAt s C cC) (S : CallFix p m c cc nL s args lw_all own) (hE : g_E Γ s) (hpl : plainFor y = true) (hM : g_CW Γ l y bytes maxL ret fr' lo' (.ref b :: As) σ sz vl r' q) (hG : Cond.code y bytes maxL ret ∈ lw_all) (hR : fr' + 1 ≤ R.frames ∧ 8 + (maxL + 11) + lo' ≤ R.locals) (hinst : Cond.instanceMethod y ∈ lw_all)
    (hlink : Cond.methodLink own index x ∈ lw_all) (hlands : Cond.landsInDefault C x y ∈ flatC (Jvm.Cond.and given_1 narrow_1)) (hx0 : x.cls ≠ "java/lang/invoke/MethodHandle" ∧ x.cls ≠ "java/lang/invoke/VarHandle") (hlen : (parseMethodDescriptor x.desc).map (fun d => d.parameters.length) = some n)
    (w1 : Cond.declares x ∈ lw_tbl) (w2 : Cond.interfaceMethod x.cls x.cls x.name x.desc ∈ lw_tbl) (w3 : Cond.publicMethod y ∈ lw_tbl) (w4 : Cond.unhidden C x.name x.desc ∈ lw_tbl) (w5 : Cond.castable C x.cls ∈ lw_tbl)
    (hp : PreV s H C b (g_Pc Γ (.ref b :: As) σ sz) As) (hg : g.method = m) (hn : As.length = n) (hsize : g.locals.size = nL) (hstack : g.stack = As.reverse ++ .ref b :: rest) (hW : 2 * g.monitorRoom + (rest.map fun v => v.category).sum ≤ 8) (hdg : decode cc g.pc = .ok (.invokeinterface index count, 5)) (hf : cells + q.2.2.1 ≤ R.cells ∧ slots + q.2.2.2 ≤ R.slots) (hv : ∀ a, vl r' ≠ some (.retAddr a) := by intro a h; cases h) :
    va_Run5 p l e R s m args below meth c H locs cells slots q.2.2.1 q.2.2.2 g rest (g_Q Γ vl r' q (Value.ref b :: As).toArray) (g_A Γ.2.2.1) := by
  obtain ⟨hx, hb, hml, ho, hts⟩ := S
  obtain ⟨-, ⟨cellB, hcB, hoB, hclB⟩, hPc⟩ := hp
  obtain ⟨c2, r0, mk, r, kI, q1, q2, q3, q4, q5, q6, q7, hway, q8⟩ := d_lands (owner := x.cls) hE hlands (fun s0 g2 _ => by
    obtain ⟨cL, kL, r1, -, -, -, z1, z2⟩ := Cond.interfaceMethod_spec (g2 _ w2)
    exact ⟨r1, z1, z2⟩)
  cases hclB.symm.trans q1
  obtain ⟨f1, f2, f3, f4, f5⟩ := hE.fw hx0 w1 w2 w3 w4 w5
  obtain ⟨r9, rr9, hnm, hrm, hstR, hsigR⟩ := Cond.declares_spec f1
  cases q2.symm.trans hnm
  cases q4.symm.trans hrm
  obtain ⟨cL, kL, r1, hcL, hkL, hiL, hfoundL, hn1⟩ := Cond.interfaceMethod_spec f2
  have hr0cls : r0.cls = cL := Option.some.inj ((findClass_of_methodNamed q2).symm.trans hcL)
  obtain ⟨mk9, methM, hnamed, hmethM, -, habM⟩ := Cond.instanceMethod_spec (hts _ hinst)
  cases hnamed.symm.trans q3
  have hpubM : hasFlag methM.accessFlags Acc.public_ = true := Cond.publicMethod_spec hnamed hmethM f3
  obtain ⟨c3, t3, v1, v2, v3⟩ := Cond.castable_spec f5
  cases hclB.symm.trans v1
  cases hcL.symm.trans v2
  obtain ⟨hfc, kB, hkB0, hkind⟩ := hat
  cases hclB.symm.trans hfc
  have hl1 : ∀ sig, parseMethodDescriptor x.desc = some sig → n = sig.parameters.length := fun sig h => by
    rw [h] at hlen
    exact (Option.some.inj hlen).symm
  intro T hT X
  have hselP : selectMethod e.platform s.vm cellB.cls r0 = .method mk := by rw [Launch.admits_selectMethod X.admits]; exact q5
  obtain ⟨vm₁, X₁, hstep₁⟩ := X.invokeinterface hx ho (hts _ hlink) q2 q4 hstR (by rw [hr0cls]; exact hkL) hiL hx0 (a := b) (cell := cellB) (kcell := kB) (by rw [hT]; exact hcB)
    (fun z h => by rw [h] at hoB; cases hoB) hkB0 (by rw [hr0cls]; exact v3) hselP hmethM hway hpubM habM (g := g) hg (argsL := As) (rest := rest) (hn.trans (hl1 _ hsigR)) hstack (by rw [hb]; exact hdg)
  obtain ⟨v, t, T', L, X', hL, e1, e2, hq, hgo⟩ := d_into (g := { g with stack := rest }) X₁ hx hts hpl hM hG hnamed hR.1 hR.2 hg (hsize.trans hml.symm) hW (by rw [hb]; exact hdg) hf (hPc (T.setVm vm₁) hT X₁.warmed) hv
  exact ⟨v, (T.setVm vm₁).calling { g with stack := rest } mk (Value.ref b :: As).toArray, t, T', L, hT, X', hL, e1, e2, hq, fun target h => hstep₁ _ fun acts => hgo target h acts⟩
theorem d_runSU {x y : MethodName} {bytes cc : ByteArray} {maxL nL mc ms n index : Nat} {ret : Option FieldType} {rm : Room} {Pc : Array Value → State → Prop} {Qc : Array Value → State → Outcome → State → Prop} {free : Addr → Prop} {own C : String} {cC : ClassId} {b : Addr} {As rest : List Value} {g : JFrame}
    (hat : ClassAt s C cC) (S : CallFix p m c cc nL s args lw_all own) (hM : Met l y (ws_ y bytes maxL ret) rm Pc Qc mc ms free) (hG : GoodIn lw_all (ws_ y bytes maxL ret)) (hrc : rm.cells = mc) (hrs : rm.slots = ms) (hR : rm.frames + 1 ≤ R.frames ∧ 8 + (maxL + 11) + rm.locals ≤ R.locals) (hini : Cond.initialized y.cls ∈ lw_all) (hinst : Cond.instanceMethod y ∈ lw_all)
    (hlink : Cond.methodLink own index x ∈ lw_all) (hsame : Cond.sameMethod x.cls y.cls x.name x.desc ∈ lw_all) (hxy : y.name = x.name ∧ y.desc = x.desc) (hsup : Cond.superclass own x.cls ∈ lw_all) (hsup2 : Cond.superclass x.cls y.cls ∈ lw_all) (hno : y.name ≠ "<init>") (hlen : (parseMethodDescriptor y.desc).map (fun d => d.parameters.length) = some n)
    (hp : PreV s H C b Pc As) (hg : g.method = m) (hn : As.length = n) (hsize : g.locals.size = nL) (hstack : g.stack = As.reverse ++ .ref b :: rest) (hW : 2 * g.monitorRoom + (rest.map fun v => v.category).sum ≤ 8) (hdg : decode cc g.pc = .ok (.invokespecial index, 3)) (hf : cells + mc ≤ R.cells ∧ slots + ms ≤ R.slots) :
    va_Run p l e R s m args below meth c H locs cells slots mc ms g rest (Qc (Value.ref b :: As).toArray) (free) := by
  obtain ⟨hx, hb, hml, ho, hts⟩ := S
  have hcw : Cond.code y bytes maxL ret ∈ ws_ y bytes maxL ret := List.mem_cons_self
  have hK : Back l R p e below s args y 3 8 (PreOf R mc ms Pc) (PostOf Qc mc ms free) := back_of (bytes := bytes) (maxL := maxL) (ret := ret) hM hp.1 hrc hrs hR.1 hR.2 (pay_in hts hG) hcw (fun a' U hW => word_at hW (Or.inl (by first | rfl | simp [Cond.onTables, Cond.keeps, Cond.steady])) (hts _ hini))
  obtain ⟨-, ⟨cellB, hcB, hoB, hclB⟩, hPc⟩ := hp
  obtain ⟨mk, methM, hnamed, hmethM, hstM, habM⟩ := Cond.instanceMethod_spec (hts _ hinst)
  obtain ⟨methM', cM, hmethM', -, -, -, -, -, -, hsigM⟩ := Cond.code_spec hnamed (hts _ (hG _ hcw).1)
  cases hmethM.symm.trans hmethM'
  obtain ⟨ps, dk, kp, hps, hdk, hkp, hsuper, -, -, hnid⟩ := Cond.superclass_spec ho (hts _ hsup)
  obtain ⟨ps2, dk2, kp2, hps2, hdk2, hkp2, hsuper2, -, -, -⟩ := Cond.superclass_spec hps (hts _ hsup2)
  have hnx : s.methodNamed? ⟨y.cls, x.name, x.desc⟩ = some mk := by rw [← hxy.1, ← hxy.2]; exact hnamed
  have hpm : ps2 = mk.cls := Option.some.inj (hps2.symm.trans (findClass_of_methodNamed hnamed))
  have hsub : s.vm.isSubclass ps mk.cls = true := by
    rw [← hpm]
    have hpos : 0 < s.vm.classes.size := Nat.lt_of_le_of_lt (Nat.zero_le _) (Array.getElem?_eq_some_iff.mp hdk2).1
    obtain ⟨j, hj⟩ : ∃ j, s.vm.classes.size = j + 1 := ⟨s.vm.classes.size - 1, by omega⟩
    simp [Vm.isSubclass, Vm.isSubclassAux, hdk2, hsuper2, hj]
  obtain ⟨hfc, kB, hkB0, hkind⟩ := hat
  cases hclB.symm.trans hfc
  have hl1 : ∀ sig, parseMethodDescriptor y.desc = some sig → n = sig.parameters.length := fun sig h => by
    rw [h] at hlen
    exact (Option.some.inj hlen).symm
  intro T hT X
  obtain ⟨vm₁, X₁, hstep₁⟩ := X.invokespecialUp hx ho (hts _ hlink) (hts _ hsame) hnx hmethM hstM habM (by rw [← hxy.1]; exact hno) hdk hnid hps hsuper hsub (a := b) (cell := cellB) (by rw [hT]; exact hcB)
    (fun z h => by rw [h] at hoB; cases hoB) hkB0 (g := g) hg (argsL := As) (rest := rest) (hn.trans (hl1 _ hsigM)) hstack (by rw [hb]; exact hdg)
  obtain ⟨v, ⟨U', l2, c2, s2⟩, X', ⟨g', mk', t, L, e1, e2, hq, h1, hL, h2, h3⟩, hsteps⟩ := hK m meth c ⟨T.setVm vm₁, locs, cells, slots⟩ { g with stack := rest } (.invokespecial index) mk (Value.ref b :: As).toArray X₁ hg (hsize.trans hml.symm) (by rw [hb]; exact hdg) hW (X₁.named hnamed) ⟨hf.1, hf.2, hPc (T.setVm vm₁) hT X₁.warmed⟩
  dsimp only [Pt.U, Pt.locs, Pt.cells, Pt.slots] at X' e1 e2 h1 h2 h3 hsteps
  subst h1; subst h2; subst h3
  exact ⟨v, (T.setVm vm₁).calling g' mk' (Value.ref b :: As).toArray, t, U', L, hT, X', hL, e1, e2, hq, fun target h => hstep₁ _ (by rw [doInvoke_state]; exact hsteps.trans h)⟩
end DF
section DR
variable {Γ : Gc} {p : Program} {l : Launch} {e : Env} {fr lo : Nat} {s : State} {m : MethodId} {args : Array Value} {below : List Frame} {meth : Method} {c : Code} {nL : Nat} {α : Type} {z : Nat} {vl : α → Option Value} {rF : α} {tF t : St} {pc : Nat} {lv : List (Nat × Value)} {st rest As : List Value} {cc cc' : ByteArray} {own C owner : String} {index n b fr' lo' nL' : Nat} {ret : Option FieldType} {x y : MethodName}
theorem d_bV_i (X : g_X Γ p s m args meth c cc nL own) {ci : Nat} (hc : ∃ (T : u_T) (N : Nat), cls[ci]? = some (C, T, N)) {fc : Option (Int32 × St)} {k : Int32 → St → Option (α × St)} (d : decode cc pc = .ok (.invokevirtual index, 3)) (hn : As.length = n) (hst : st = As.reverse ++ .ref b :: rest) (hW : (rest.map fun v => v.category).sum ≤ 8) (hpl : plainFor y = true) (hG : Cond.code y cc' nL' ret ∈ lw_all) (hR : fr' + 1 ≤ fr ∧ 8 + (nL' + 11) + lo' ≤ lo) (hinst : Cond.instanceMethod y ∈ lw_all) (hlink : Cond.methodLink own index x ∈ flatC (Jvm.Cond.and given_1 narrow_1)) (hsame : Cond.sameMethod x.cls owner x.name x.desc ∈ flatC (Jvm.Cond.and given_1 narrow_1)) (hlands : Cond.landsInDefault C x y ∈ flatC (Jvm.Cond.and given_1 narrow_1)) (hyo : y = ⟨owner, x.name, x.desc⟩) (howner : owner ≠ "java/lang/invoke/MethodHandle" ∧ owner ≠ "java/lang/invoke/VarHandle") (hlen : (parseMethodDescriptor x.desc).map (fun d => d.parameters.length) = some n) (hM : ∀ r u, fc = some (r, u) → g_CW Γ l y cc' nL' ret fr' lo' (.ref b :: As) t.1 (z + t.2.1) v_i r (g_ι (z + t.2.1) u)) (kk : ∀ r u, Wf Γ p l e fr lo s m args below meth c nL (g_ι z) vl rF tF (pc + 3) (lv) (.int r :: rest) u (k r u)) : Wf Γ p l e fr lo s m args below meth c nL (g_ι z) vl rF tF (pc) (lv) (st) t (ccast [ci] t b (gb fc t k)) := by
  intro hF0
  obtain ⟨fl, ci', fs, hs, hci, hF⟩ := ccast_inv hF0
  rw [List.mem_singleton.mp hci] at hs
  cases hfc : fc with
  | none => rw [hfc] at hF; cases hF
  | some ru =>
    obtain ⟨r, u⟩ := ru
    rw [hfc] at hF
    have k1 := kk r (u.1, t.2.1 + u.2.1, t.2.2 + u.2.2) hF
    have ht : g_ι z (u.1, t.2.1 + u.2.1, t.2.2 + u.2.2) = ((g_ι (z + t.2.1) u).1, (g_ι (z + t.2.1) u).2.1, (g_ι z t).2.2.1 + (g_ι (z + t.2.1) u).2.2.1, (g_ι z t).2.2.2 + (g_ι (z + t.2.1) u).2.2.2) := by
      simp only [g_ι, Nat.add_assoc]
    have hf : (g_ι z t).2.2.1 + (g_ι (z + t.2.1) u).2.2.1 ≤ (g_ι z tF).2.2.1 ∧ (g_ι z t).2.2.2 + (g_ι (z + t.2.1) u).2.2.2 ≤ (g_ι z tF).2.2.2 := k1.1
    refine ⟨⟨Nat.le_trans (Nat.le_add_right _ _) hf.1, Nat.le_trans (Nat.le_add_right _ _) hf.2⟩, fun H locs ls h1 h2 h3 h4 => ?_⟩
    obtain ⟨T0, N0, hc⟩ := hc
    have hr := g_rcv X.2.2.2.2.2.2.1.1 h1 hs hc
    exact g_back (t := t) (t1 := (u.1, t.2.1 + u.2.1, t.2.2 + u.2.2)) (q := (g_ι (z + t.2.1) u)) (vl' := v_i) (ι := (g_ι z)) ht h3 h4 (d_runV2 ⟨X.1, X.2.1, X.2.2.1, X.2.2.2.1, X.2.2.2.2.1⟩ X.2.2.2.2.2.2.1 hpl (hM r u hfc) hG hR hinst hlink hsame hlands hyo howner hlen ⟨g_blind, hr, g_pre X h1 h2 h3⟩ rfl hn h4.1 hst (lv_room hW) d hf) (fun H locs ls h1 h2 h3 h4 => k1.2 H locs ls h1 h2 h3 h4)
theorem d_bF_i {count : Nat} (X : g_X Γ p s m args meth c cc nL own) {ci : Nat} (hc : ∃ (T : u_T) (N : Nat), cls[ci]? = some (C, T, N)) {fc : Option (Int32 × St)} {k : Int32 → St → Option (α × St)} (d : decode cc pc = .ok (.invokeinterface index count, 5)) (hn : As.length = n) (hst : st = As.reverse ++ .ref b :: rest) (hW : (rest.map fun v => v.category).sum ≤ 8) (hpl : plainFor y = true) (hG : Cond.code y cc' nL' ret ∈ lw_all) (hR : fr' + 1 ≤ fr ∧ 8 + (nL' + 11) + lo' ≤ lo) (hinst : Cond.instanceMethod y ∈ lw_all) (hlink : Cond.methodLink own index x ∈ lw_all) (hlands : Cond.landsInDefault C x y ∈ flatC (Jvm.Cond.and given_1 narrow_1)) (hx0 : x.cls ≠ "java/lang/invoke/MethodHandle" ∧ x.cls ≠ "java/lang/invoke/VarHandle") (hlen : (parseMethodDescriptor x.desc).map (fun d => d.parameters.length) = some n) (w1 : Cond.declares x ∈ lw_tbl) (w2 : Cond.interfaceMethod x.cls x.cls x.name x.desc ∈ lw_tbl) (w3 : Cond.publicMethod y ∈ lw_tbl) (w4 : Cond.unhidden C x.name x.desc ∈ lw_tbl) (w5 : Cond.castable C x.cls ∈ lw_tbl) (hM : ∀ r u, fc = some (r, u) → g_CW Γ l y cc' nL' ret fr' lo' (.ref b :: As) t.1 (z + t.2.1) v_i r (g_ι (z + t.2.1) u)) (kk : ∀ r u, Wf Γ p l e fr lo s m args below meth c nL (g_ι z) vl rF tF (pc + 5) (lv) (.int r :: rest) u (k r u)) : Wf Γ p l e fr lo s m args below meth c nL (g_ι z) vl rF tF (pc) (lv) (st) t (ccast [ci] t b (gb fc t k)) := by
  intro hF0
  obtain ⟨fl, ci', fs, hs, hci, hF⟩ := ccast_inv hF0
  rw [List.mem_singleton.mp hci] at hs
  cases hfc : fc with
  | none => rw [hfc] at hF; cases hF
  | some ru =>
    obtain ⟨r, u⟩ := ru
    rw [hfc] at hF
    have k1 := kk r (u.1, t.2.1 + u.2.1, t.2.2 + u.2.2) hF
    have ht : g_ι z (u.1, t.2.1 + u.2.1, t.2.2 + u.2.2) = ((g_ι (z + t.2.1) u).1, (g_ι (z + t.2.1) u).2.1, (g_ι z t).2.2.1 + (g_ι (z + t.2.1) u).2.2.1, (g_ι z t).2.2.2 + (g_ι (z + t.2.1) u).2.2.2) := by
      simp only [g_ι, Nat.add_assoc]
    have hf : (g_ι z t).2.2.1 + (g_ι (z + t.2.1) u).2.2.1 ≤ (g_ι z tF).2.2.1 ∧ (g_ι z t).2.2.2 + (g_ι (z + t.2.1) u).2.2.2 ≤ (g_ι z tF).2.2.2 := k1.1
    refine ⟨⟨Nat.le_trans (Nat.le_add_right _ _) hf.1, Nat.le_trans (Nat.le_add_right _ _) hf.2⟩, fun H locs ls h1 h2 h3 h4 => ?_⟩
    obtain ⟨T0, N0, hc⟩ := hc
    have hr := g_rcv X.2.2.2.2.2.2.1.1 h1 hs hc
    exact g_back5 (t := t) (t1 := (u.1, t.2.1 + u.2.1, t.2.2 + u.2.2)) (q := (g_ι (z + t.2.1) u)) (vl' := v_i) (ι := (g_ι z)) ht h3 h4 (d_runF2 (X.2.2.2.2.2.2.1.1.1 ci _ hc).2 ⟨X.1, X.2.1, X.2.2.1, X.2.2.2.1, X.2.2.2.2.1⟩ X.2.2.2.2.2.2.1 hpl (hM r u hfc) hG hR hinst hlink hlands hx0 hlen w1 w2 w3 w4 w5 ⟨g_blind, hr, g_pre X h1 h2 h3⟩ rfl hn h4.1 hst (lv_room hW) d hf) (fun H locs ls h1 h2 h3 h4 => k1.2 H locs ls h1 h2 h3 h4)
theorem d_bSU_i (X : g_X Γ p s m args meth c cc nL own) {ci : Nat} (hc : ∃ (T : u_T) (N : Nat), cls[ci]? = some (C, T, N)) {fc : Option (Int32 × St)} {k : Int32 → St → Option (α × St)} (d : decode cc pc = .ok (.invokespecial index, 3)) (hn : As.length = n) (hst : st = As.reverse ++ .ref b :: rest) (hW : (rest.map fun v => v.category).sum ≤ 8) (hG : GoodIn lw_all (ws_ y cc' nL' ret)) (hR : fr' + 1 ≤ fr ∧ 8 + (nL' + 11) + lo' ≤ lo) (hini : Cond.initialized y.cls ∈ lw_all) (hinst : Cond.instanceMethod y ∈ lw_all) (hlink : Cond.methodLink own index x ∈ lw_all) (hsame : Cond.sameMethod x.cls y.cls x.name x.desc ∈ lw_all) (hxy : y.name = x.name ∧ y.desc = x.desc) (hsup : Cond.superclass own x.cls ∈ lw_all) (hsup2 : Cond.superclass x.cls y.cls ∈ lw_all) (hno : y.name ≠ "<init>") (hlen : (parseMethodDescriptor y.desc).map (fun d => d.parameters.length) = some n) (hM : ∀ r u, fc = some (r, u) → g_C Γ l y cc' nL' ret fr' lo' (.ref b :: As) t.1 (z + t.2.1) v_i r (g_ι (z + t.2.1) u)) (kk : ∀ r u, Wf Γ p l e fr lo s m args below meth c nL (g_ι z) vl rF tF (pc + 3) (lv) (.int r :: rest) u (k r u)) : Wf Γ p l e fr lo s m args below meth c nL (g_ι z) vl rF tF (pc) (lv) (st) t (ccast [ci] t b (gb fc t k)) := by
  intro hF0
  obtain ⟨fl, ci', fs, hs, hci, hF⟩ := ccast_inv hF0
  rw [List.mem_singleton.mp hci] at hs
  cases hfc : fc with
  | none => rw [hfc] at hF; cases hF
  | some ru =>
    obtain ⟨r, u⟩ := ru
    rw [hfc] at hF
    have k1 := kk r (u.1, t.2.1 + u.2.1, t.2.2 + u.2.2) hF
    have ht : g_ι z (u.1, t.2.1 + u.2.1, t.2.2 + u.2.2) = ((g_ι (z + t.2.1) u).1, (g_ι (z + t.2.1) u).2.1, (g_ι z t).2.2.1 + (g_ι (z + t.2.1) u).2.2.1, (g_ι z t).2.2.2 + (g_ι (z + t.2.1) u).2.2.2) := by
      simp only [g_ι, Nat.add_assoc]
    have hf : (g_ι z t).2.2.1 + (g_ι (z + t.2.1) u).2.2.1 ≤ (g_ι z tF).2.2.1 ∧ (g_ι z t).2.2.2 + (g_ι (z + t.2.1) u).2.2.2 ≤ (g_ι z tF).2.2.2 := k1.1
    refine ⟨⟨Nat.le_trans (Nat.le_add_right _ _) hf.1, Nat.le_trans (Nat.le_add_right _ _) hf.2⟩, fun H locs ls h1 h2 h3 h4 => ?_⟩
    obtain ⟨T0, N0, hc⟩ := hc
    have hr := g_rcv X.2.2.2.2.2.2.1.1 h1 hs hc
    exact g_back (t := t) (t1 := (u.1, t.2.1 + u.2.1, t.2.2 + u.2.2)) (q := (g_ι (z + t.2.1) u)) (vl' := v_i) (ι := (g_ι z)) ht h3 h4 (d_runSU (X.2.2.2.2.2.2.1.1.1 ci _ hc).2 ⟨X.1, X.2.1, X.2.2.1, X.2.2.2.1, X.2.2.2.2.1⟩ (hM r u hfc) hG rfl rfl hR hini hinst hlink hsame hxy hsup hsup2 hno hlen ⟨g_blind, hr, g_pre X h1 h2 h3⟩ rfl hn h4.1 hst (lv_room hW) d hf) (fun H locs ls h1 h2 h3 h4 => k1.2 H locs ls h1 h2 h3 h4)
end DR
