/-! casts, receivers, dispatch, statics, arraycopy (printed by gen/comp2.py) -/
set_option maxRecDepth 100000
theorem in_P16 : ∀ w ∈ u_ws RX16 TP16 3, w ∈ lw_all := lw_in _ [776, 777, 774] (by decide +kernel) (by decide +kernel)
theorem in_P17 : ∀ w ∈ u_ws RX17 TP17 3, w ∈ lw_all := lw_in _ [725, 726, 723] (by decide +kernel) (by decide +kernel)
theorem in_P18 : ∀ w ∈ u_ws RX18 TP18 3, w ∈ lw_all := lw_in _ [684, 686, 682] (by decide +kernel) (by decide +kernel)
theorem in_P19 : ∀ w ∈ u_ws RX19 TP19 3, w ∈ lw_all := lw_in _ [756, 757, 754] (by decide +kernel) (by decide +kernel)
def tyP : Nat → FieldType := fun k => match k with
  | 0 => .int
  | 1 => .int
  | _ => .object "LameClocks"
theorem g_narf {ty : FieldType} (h : refKind ty = true) (r : Option Nat) : narrow ty (va_rf r) = va_rf r := by
  cases ty <;> cases r <;> first | rfl | cases h
theorem g_firf {ty : FieldType} (h : refKind ty = true) (r : Option Nat) : fits ty (va_rf r) = true := by
  cases ty <;> cases r <;> first | rfl | cases h
/-- the object is of one of the classes cs -/
def ccast {β : Type} (cs : List Nat) (t : St) (a : Nat) (F : Option β) : Option β := match t.1 a with
  | some (_, .inr q) => if q.1 ∈ cs then F else none
  | _ => none
theorem ccast_inv {β : Type} {cs : List Nat} {t : St} {a : Nat} {F : Option β} {r : β} (h : ccast cs t a F = some r) : ∃ (fl : Bool) (ci : Nat) (fs : List Value), t.1 a = some (fl, .inr (ci, fs)) ∧ ci ∈ cs ∧ F = some r := by
  unfold ccast at h
  split at h
  · rename_i fl q hs
    by_cases hc : q.1 ∈ cs
    · rw [if_pos hc] at h
      exact ⟨fl, q.1, q.2, hs, hc, h⟩
    · rw [if_neg hc] at h; cases h
  · cases h
/-- how a call through an object is linked: its own class's, an inherited or overridden one, a nest mate's -/
def g_cv (R : Room) (s : State) (args : Array Value) (own : String) (index : Nat) (C : String) (y : MethodName) (cc : ByteArray) (nL : Nat) (ret : Option FieldType) (rm : Room) (mc ms n : Nat) : Prop :=
  CallW R s args own C index y cc nL ret (ws_ y cc nL ret) rm mc ms n ∨ (∃ (owner : String) (x : MethodName), va_CU R s args own C owner index x y cc nL ret (ws_ y cc nL ret) rm mc ms n) ∨ ∃ host : String, va_CN R s args own index y host cc nL ret (ws_ y cc nL ret) rm mc ms n ∧ (Cond.instanceMethod y).before args s = true ∧ (Cond.selects C y y).before args s = true
theorem g_E.fw {Γ : Gc} {s : State} (h : g_E Γ s) {C : String} {x y : MethodName} (hx : x.cls ≠ "java/lang/invoke/MethodHandle" ∧ x.cls ≠ "java/lang/invoke/VarHandle") (h1 : Cond.declares x ∈ lw_tbl) (h2 : Cond.interfaceMethod x.cls x.cls x.name x.desc ∈ lw_tbl) (h3 : Cond.publicMethod y ∈ lw_tbl) (h4 : Cond.unhidden C x.name x.desc ∈ lw_tbl) (h5 : Cond.castable C x.cls ∈ lw_tbl) : va_Fw C x y s := by
  obtain ⟨-, s0, g2, -, -, g5, -⟩ := h
  exact va_Fw.moved hx g5.alike (va_Fw.of (g2 _ h1) (g2 _ h2) (g2 _ h3) (g2 _ h4) (g2 _ h5))
theorem g_E.zval {Γ : Gc} {s : State} (h : g_E Γ s) {C n d : String} (h1 : Cond.laysStatic C n d ∈ lw_tbl) (h2 : Cond.initialized C ∈ lw_tbl) {v : Value} (hv : ∀ s0 : State, (Jvm.Cond.and given_1 narrow_1).before #[Value.ref Γ.2.2.2.1] s0 = true → (∀ i, Γ.2.2.2.2 i = exOf Γ.2.2.2.1 s0 i) → (Term.static C n d).eval #[Value.ref Γ.2.2.2.1] s0 none [] s0 = some v) (hb : Γ.2.2.1 ≤ s.heap.size) : va_Z C n d v (g_A Γ.2.2.1) s s.heap := by
  obtain ⟨-, s0, g2, g3, -, g5, g6, g7, g8, -⟩ := h
  have q1 : va_Z C n d v (g_A Γ.2.2.1) s0 s0.heap := va_Zof (g2 _ h1) (g2 _ h2) (hv s0 g3 g8) (fun a ha => Nat.not_le.mpr (by rw [← g6]; exact ha))
  exact (q1.moved g5.alike).kept (fun a ha _ => g7 a (by rw [← g6]; exact ha))
theorem g_ev {args : Array Value} {s0 : State} {T : Term} (h : (Cond.isRef T).before args s0 = true) : ∃ r : Option Nat, T.eval args s0 none [] s0 = some (va_rf r) := by
  cases hv : T.eval args s0 none [] s0 with
  | none => simp [Cond.before, Cond.holds, Cond.value, hv] at h
  | some w =>
    simp only [Cond.before, Cond.holds, Cond.value, hv] at h
    cases w with
    | null => exact ⟨none, rfl⟩
    | ref t => exact ⟨some t, rfl⟩
    | _ => simp at h
theorem g_evx {Γ : Gc} {s0 : State} {C n d : String} (i : Nat) (hi : exT i = .static C n d) (hm : Cond.isRef (.static C n d) ∈ flatC (Jvm.Cond.and given_1 narrow_1)) (h : (Jvm.Cond.and given_1 narrow_1).before #[Value.ref Γ.2.2.2.1] s0 = true) (hx : ∀ i, Γ.2.2.2.2 i = exOf Γ.2.2.2.1 s0 i) : (Term.static C n d).eval #[Value.ref Γ.2.2.2.1] s0 none [] s0 = some (va_rf (Γ.2.2.2.2 i)) := by
  obtain ⟨r, hr⟩ := g_ev (flat_of_before _ h _ hm)
  rw [hx i]
  unfold exOf
  rw [hi, hr]
  cases r <;> rfl
section CS
variable {Γ : Gc} {p : Program} {l : Launch} {e : Env} {fr lo : Nat} {s : State} {m : MethodId} {args : Array Value} {below : List Frame} {meth : Method} {c : Code} {nL : Nat} {α : Type} {z : Nat} {vl : α → Option Value} {rF : α} {tF t : St} {pc : Nat} {lv : List (Nat × Value)} {st rest As : List Value} {cc : ByteArray} {own : String}
theorem g_recv {cs : List Nat} {a : Nat} {F : Option (α × St)} (kk : ∀ (fl : Bool) (ci : Nat) (fs : List Value), t.1 a = some (fl, .inr (ci, fs)) → ci ∈ cs → Wf Γ p l e fr lo s m args below meth c nL (g_ι z) vl rF tF (pc) (lv) (st) t F) : Wf Γ p l e fr lo s m args below meth c nL (g_ι z) vl rF tF (pc) (lv) (st) t (ccast cs t a F) := by
  intro hF
  obtain ⟨fl, ci, fs, h1, h2, h3⟩ := ccast_inv hF
  exact kk fl ci fs h1 h2 h3
theorem cg_cast (X : g_X Γ p s m args meth c cc nL own) {index a : Nat} {nm : String} {cs : List Nat} {F : Option (α × St)} (hcl : Cond.classLink own index nm ∈ lw_all) (hcs : ∀ ci ∈ cs, ∃ (C : String) (T : u_T) (N : Nat), cls[ci]? = some (C, T, N) ∧ (C = nm ∨ Cond.castable C nm ∈ lw_tbl)) (d : decode cc pc = .ok (.checkcast index, 3)) (kk : Wf Γ p l e fr lo s m args below meth c nL (g_ι z) vl rF tF (pc + 3) (lv) (.ref a :: rest) t F) : Wf Γ p l e fr lo s m args below meth c nL (g_ι z) vl rF tF (pc) (lv) (.ref a :: rest) t (ccast cs t a F) := by
  intro hF
  obtain ⟨fl, ci, fs, hs, h2, h3⟩ := ccast_inv hF
  refine ⟨(kk h3).1, fun H locs ls h1 g2 g3 g4 => ?_⟩
  obtain ⟨C, T, N, e1, e2⟩ := hcs ci h2
  have hr := g_rcv X.2.2.2.2.2.2.1.1 h1 hs e1
  rcases e2 with rfl | e2
  · exact va_castS X.1 X.2.1 X.2.2.2.1 (X.2.2.2.2.1 _ hcl) (X.2.2.2.2.2.2.1.1.1 ci _ e1).2 hr d ((kk h3).2 H locs ls h1 g2 g3 g4)
  · exact va_castY X.1 X.2.1 X.2.2.2.1 (X.2.2.2.2.1 _ hcl) (X.2.2.2.2.2.2.1.castable e2) hr d ((kk h3).2 H locs ls h1 g2 g3 g4)
theorem cg_acmp_ne (X : g_X Γ p s m args meth c cc nL own) {rx ry : Option Nat} {off : Int} (tgt : Nat) {F1 F2 : Option (α × St)} (d : decode cc pc = .ok (.if_acmp .ne off, 3)) (ht : (pc : Int) + off = (tgt : Int)) (kt : Wf Γ p l e fr lo s m args below meth c nL (g_ι z) vl rF tF (tgt) (lv) (rest) t F1) (kf : Wf Γ p l e fr lo s m args below meth c nL (g_ι z) vl rF tF (pc + 3) (lv) (rest) t F2) : Wf Γ p l e fr lo s m args below meth c nL (g_ι z) vl rF tF (pc) (lv) (va_rf ry :: va_rf rx :: rest) t (if rx = ry then F2 else F1) := g_if (fun _ _ _ _ _ _ _ k1 k2 => lv_acmp_ne X.1 X.2.1 d ht k2 k1) kf kt
theorem cg_acmp_eq (X : g_X Γ p s m args meth c cc nL own) {rx ry : Option Nat} {off : Int} (tgt : Nat) {F1 F2 : Option (α × St)} (d : decode cc pc = .ok (.if_acmp .eq off, 3)) (ht : (pc : Int) + off = (tgt : Int)) (kt : Wf Γ p l e fr lo s m args below meth c nL (g_ι z) vl rF tF (tgt) (lv) (rest) t F1) (kf : Wf Γ p l e fr lo s m args below meth c nL (g_ι z) vl rF tF (pc + 3) (lv) (rest) t F2) : Wf Γ p l e fr lo s m args below meth c nL (g_ι z) vl rF tF (pc) (lv) (va_rf ry :: va_rf rx :: rest) t (if rx = ry then F1 else F2) := g_if (fun _ _ _ _ _ _ _ k1 k2 => lv_acmp_eq X.1 X.2.1 d ht k1 k2) kt kf
/-- a reference or null, asked -/
def cnn {β : Type} (r : Option Nat) (F1 : Nat → Option β) (F2 : Option β) : Option β := match r with
  | some a => F1 a
  | none => F2
theorem cg_ifnonnull (X : g_X Γ p s m args meth c cc nL own) {r : Option Nat} {off : Int} (tgt : Nat) {F1 : Nat → Option (α × St)} {F2 : Option (α × St)} (d : decode cc pc = .ok (.ifnonnull off, 3)) (ht : (pc : Int) + off = (tgt : Int)) (kt : ∀ a, r = some a → Wf Γ p l e fr lo s m args below meth c nL (g_ι z) vl rF tF (tgt) (lv) (rest) t (F1 a)) (kf : r = none → Wf Γ p l e fr lo s m args below meth c nL (g_ι z) vl rF tF (pc + 3) (lv) (rest) t F2) : Wf Γ p l e fr lo s m args below meth c nL (g_ι z) vl rF tF (pc) (lv) (va_rf r :: rest) t (cnn r F1 F2) := by
  cases r with
  | none => exact g_liftS (fun _ _ _ _ _ _ _ _ k => lv_ifnonnullN X.1 X.2.1 d k) (kf rfl)
  | some a => exact g_liftS (fun _ _ _ _ _ _ _ _ k => lv_ifnonnull X.1 X.2.1 d ht k) (kt a rfl)
theorem cg_gets (X : g_X Γ p s m args meth c cc nL own) {index : Nat} {C n d0 : String} {v : Value} {F : Option (α × St)} (h1 : Cond.laysStatic C n d0 ∈ lw_tbl) (h2 : Cond.initialized C ∈ lw_all) (hl : Cond.fieldLink own index C n d0 ∈ lw_all) (hv : ∀ s0 : State, (Jvm.Cond.and given_1 narrow_1).before #[Value.ref Γ.2.2.2.1] s0 = true → (∀ i, Γ.2.2.2.2 i = exOf Γ.2.2.2.1 s0 i) → (Term.static C n d0).eval #[Value.ref Γ.2.2.2.1] s0 none [] s0 = some v) (d : decode cc pc = .ok (.getstatic index, 3)) (kk : Wf Γ p l e fr lo s m args below meth c nL (g_ι z) vl rF tF (pc + 3) (lv) (v :: rest) t F) : Wf Γ p l e fr lo s m args below meth c nL (g_ι z) vl rF tF (pc) (lv) (rest) t F :=
  fun hF => ⟨(kk hF).1, fun H locs ls g1 g2 g3 g4 => va_gets X.1 X.2.1 (X.2.2.2.2.2.2.1.zval h1 (lw_all_tbl h2) hv X.2.2.2.2.2.2.2) g3 X.2.2.2.1 (X.2.2.2.2.1 _ hl) (fun _ h => h) d ((kk hF).2 H locs ls g1 g2 g3 g4)⟩
theorem g_bD_i {index n b : Nat} {cs : List Nat} (X : g_X Γ p s m args meth c cc nL own) {fc : Option (Int32 × St)} {k : Int32 → St → Option (α × St)} (d : decode cc pc = .ok (.invokevirtual index, 3)) (hn : As.length = n) (hst : st = As.reverse ++ .ref b :: rest) (hW : (rest.map fun v => v.category).sum ≤ 8) (hcv : ∀ (fl : Bool) (ci : Nat) (fs : List Value), t.1 b = some (fl, .inr (ci, fs)) → ci ∈ cs → ∀ r u, fc = some (r, u) → ∃ (C : String) (T : u_T) (N : Nat) (y : MethodName) (cc' : ByteArray) (nL' : Nat) (ret : Option FieldType) (fr' lo' : Nat), cls[ci]? = some (C, T, N) ∧ g_C Γ l y cc' nL' ret fr' lo' (.ref b :: As) t.1 (z + t.2.1) v_i r (g_ι (z + t.2.1) u) ∧ g_cv (g_R fr lo (g_ι z tF)) s args own index C y cc' nL' ret (g_R fr' lo' (g_ι (z + t.2.1) u)) u.2.1 u.2.2 n) (kk : ∀ r u, Wf Γ p l e fr lo s m args below meth c nL (g_ι z) vl rF tF (pc + 3) (lv) (.int r :: rest) u (k r u)) : Wf Γ p l e fr lo s m args below meth c nL (g_ι z) vl rF tF (pc) (lv) (st) t (ccast cs t b (gb fc t k)) := by
  intro hF
  obtain ⟨fl, ci, fs, hs, hci, hF⟩ := ccast_inv hF
  cases hfc : fc with
  | none => rw [hfc] at hF; cases hF
  | some ru =>
    obtain ⟨r, u⟩ := ru
    rw [hfc] at hF
    have k1 := kk r (u.1, t.2.1 + u.2.1, t.2.2 + u.2.2) hF
    have ht : g_ι z (u.1, t.2.1 + u.2.1, t.2.2 + u.2.2) = ((g_ι (z + t.2.1) u).1, (g_ι (z + t.2.1) u).2.1, (g_ι z t).2.2.1 + (g_ι (z + t.2.1) u).2.2.1, (g_ι z t).2.2.2 + (g_ι (z + t.2.1) u).2.2.2) := by
      simp only [g_ι, Nat.add_assoc]
    have hf : (g_ι z t).2.2.1 + (g_ι (z + t.2.1) u).2.2.1 ≤ (g_ι z tF).2.2.1 ∧ (g_ι z t).2.2.2 + (g_ι (z + t.2.1) u).2.2.2 ≤ (g_ι z tF).2.2.2 := k1.1
    refine ⟨⟨Nat.le_trans (Nat.le_add_right _ _) hf.1, Nat.le_trans (Nat.le_add_right _ _) hf.2⟩, fun H locs ls h1 h2 h3 h4 => ?_⟩
    obtain ⟨C, T, N, y, cc', nL', ret, fr', lo', hc, hM, cw⟩ := hcv fl ci fs hs hci r u hfc
    have hr := g_rcv X.2.2.2.2.2.2.1.1 h1 hs hc
    rcases cw with cw | ⟨owner, x, cw⟩ | ⟨host, cw⟩
    · exact g_back (t := t) (t1 := (u.1, t.2.1 + u.2.1, t.2.2 + u.2.2)) (q := (g_ι (z + t.2.1) u)) (vl' := v_i) (ι := (g_ι z)) ht h3 h4 (va_runV ⟨X.1, X.2.1, X.2.2.1, X.2.2.2.1, X.2.2.2.2.1⟩ hM cw ⟨g_blind, hr, g_pre X h1 h2 h3⟩ rfl hn h4.1 hst (lv_room hW) d hf) (fun H locs ls h1 h2 h3 h4 => k1.2 H locs ls h1 h2 h3 h4)
    · exact g_back (t := t) (t1 := (u.1, t.2.1 + u.2.1, t.2.2 + u.2.2)) (q := (g_ι (z + t.2.1) u)) (vl' := v_i) (ι := (g_ι z)) ht h3 h4 (va_runU ⟨X.1, X.2.1, X.2.2.1, X.2.2.2.1, X.2.2.2.2.1⟩ hM cw ⟨g_blind, hr, g_pre X h1 h2 h3⟩ rfl hn h4.1 hst (lv_room hW) d hf) (fun H locs ls h1 h2 h3 h4 => k1.2 H locs ls h1 h2 h3 h4)
    · exact g_back (t := t) (t1 := (u.1, t.2.1 + u.2.1, t.2.2 + u.2.2)) (q := (g_ι (z + t.2.1) u)) (vl' := v_i) (ι := (g_ι z)) ht h3 h4 (va_runVN ⟨X.1, X.2.1, X.2.2.1, X.2.2.2.1, X.2.2.2.2.1⟩ hM cw ⟨g_blind, hr, g_pre X h1 h2 h3⟩ rfl hn h4.1 hst (lv_room hW) d hf) (fun H locs ls h1 h2 h3 h4 => k1.2 H locs ls h1 h2 h3 h4)
theorem g_bDF_i {index n b : Nat} {count : Nat} {cs : List Nat} (X : g_X Γ p s m args meth c cc nL own) {fc : Option (Int32 × St)} {k : Int32 → St → Option (α × St)} (d : decode cc pc = .ok (.invokeinterface index count, 5)) (hn : As.length = n) (hst : st = As.reverse ++ .ref b :: rest) (hW : (rest.map fun v => v.category).sum ≤ 8) (hcv : ∀ (fl : Bool) (ci : Nat) (fs : List Value), t.1 b = some (fl, .inr (ci, fs)) → ci ∈ cs → ∀ r u, fc = some (r, u) → ∃ (C : String) (T : u_T) (N : Nat) (y : MethodName) (cc' : ByteArray) (nL' : Nat) (ret : Option FieldType) (fr' lo' : Nat), cls[ci]? = some (C, T, N) ∧ g_C Γ l y cc' nL' ret fr' lo' (.ref b :: As) t.1 (z + t.2.1) v_i r (g_ι (z + t.2.1) u) ∧ ∃ x : MethodName, va_CI (g_R fr lo (g_ι z tF)) s args own C index x y cc' nL' ret (ws_ y cc' nL' ret) (g_R fr' lo' (g_ι (z + t.2.1) u)) u.2.1 u.2.2 n) (kk : ∀ r u, Wf Γ p l e fr lo s m args below meth c nL (g_ι z) vl rF tF (pc + 5) (lv) (.int r :: rest) u (k r u)) : Wf Γ p l e fr lo s m args below meth c nL (g_ι z) vl rF tF (pc) (lv) (st) t (ccast cs t b (gb fc t k)) := by
  intro hF
  obtain ⟨fl, ci, fs, hs, hci, hF⟩ := ccast_inv hF
  cases hfc : fc with
  | none => rw [hfc] at hF; cases hF
  | some ru =>
    obtain ⟨r, u⟩ := ru
    rw [hfc] at hF
    have k1 := kk r (u.1, t.2.1 + u.2.1, t.2.2 + u.2.2) hF
    have ht : g_ι z (u.1, t.2.1 + u.2.1, t.2.2 + u.2.2) = ((g_ι (z + t.2.1) u).1, (g_ι (z + t.2.1) u).2.1, (g_ι z t).2.2.1 + (g_ι (z + t.2.1) u).2.2.1, (g_ι z t).2.2.2 + (g_ι (z + t.2.1) u).2.2.2) := by
      simp only [g_ι, Nat.add_assoc]
    have hf : (g_ι z t).2.2.1 + (g_ι (z + t.2.1) u).2.2.1 ≤ (g_ι z tF).2.2.1 ∧ (g_ι z t).2.2.2 + (g_ι (z + t.2.1) u).2.2.2 ≤ (g_ι z tF).2.2.2 := k1.1
    refine ⟨⟨Nat.le_trans (Nat.le_add_right _ _) hf.1, Nat.le_trans (Nat.le_add_right _ _) hf.2⟩, fun H locs ls h1 h2 h3 h4 => ?_⟩
    obtain ⟨C, T, N, y, cc', nL', ret, fr', lo', hc, hM, cw⟩ := hcv fl ci fs hs hci r u hfc
    have hr := g_rcv X.2.2.2.2.2.2.1.1 h1 hs hc
    obtain ⟨x, cw⟩ := cw
    exact g_back5 (t := t) (t1 := (u.1, t.2.1 + u.2.1, t.2.2 + u.2.2)) (q := (g_ι (z + t.2.1) u)) (vl' := v_i) (ι := (g_ι z)) ht h3 h4 (va_runF (X.2.2.2.2.2.2.1.1.1 ci _ hc).2 ⟨X.1, X.2.1, X.2.2.1, X.2.2.2.1, X.2.2.2.2.1⟩ hM cw ⟨g_blind, hr, g_pre X h1 h2 h3⟩ rfl hn h4.1 hst (lv_room hW) d hf) (fun H locs ls h1 h2 h3 h4 => k1.2 H locs ls h1 h2 h3 h4)
theorem g_bD_l {index n b : Nat} {cs : List Nat} (X : g_X Γ p s m args meth c cc nL own) {fc : Option (Int64 × St)} {k : Int64 → St → Option (α × St)} (d : decode cc pc = .ok (.invokevirtual index, 3)) (hn : As.length = n) (hst : st = As.reverse ++ .ref b :: rest) (hW : (rest.map fun v => v.category).sum ≤ 8) (hcv : ∀ (fl : Bool) (ci : Nat) (fs : List Value), t.1 b = some (fl, .inr (ci, fs)) → ci ∈ cs → ∀ r u, fc = some (r, u) → ∃ (C : String) (T : u_T) (N : Nat) (y : MethodName) (cc' : ByteArray) (nL' : Nat) (ret : Option FieldType) (fr' lo' : Nat), cls[ci]? = some (C, T, N) ∧ g_C Γ l y cc' nL' ret fr' lo' (.ref b :: As) t.1 (z + t.2.1) v_l r (g_ι (z + t.2.1) u) ∧ g_cv (g_R fr lo (g_ι z tF)) s args own index C y cc' nL' ret (g_R fr' lo' (g_ι (z + t.2.1) u)) u.2.1 u.2.2 n) (kk : ∀ r u, Wf Γ p l e fr lo s m args below meth c nL (g_ι z) vl rF tF (pc + 3) (lv) (.long r :: rest) u (k r u)) : Wf Γ p l e fr lo s m args below meth c nL (g_ι z) vl rF tF (pc) (lv) (st) t (ccast cs t b (gb fc t k)) := by
  intro hF
  obtain ⟨fl, ci, fs, hs, hci, hF⟩ := ccast_inv hF
  cases hfc : fc with
  | none => rw [hfc] at hF; cases hF
  | some ru =>
    obtain ⟨r, u⟩ := ru
    rw [hfc] at hF
    have k1 := kk r (u.1, t.2.1 + u.2.1, t.2.2 + u.2.2) hF
    have ht : g_ι z (u.1, t.2.1 + u.2.1, t.2.2 + u.2.2) = ((g_ι (z + t.2.1) u).1, (g_ι (z + t.2.1) u).2.1, (g_ι z t).2.2.1 + (g_ι (z + t.2.1) u).2.2.1, (g_ι z t).2.2.2 + (g_ι (z + t.2.1) u).2.2.2) := by
      simp only [g_ι, Nat.add_assoc]
    have hf : (g_ι z t).2.2.1 + (g_ι (z + t.2.1) u).2.2.1 ≤ (g_ι z tF).2.2.1 ∧ (g_ι z t).2.2.2 + (g_ι (z + t.2.1) u).2.2.2 ≤ (g_ι z tF).2.2.2 := k1.1
    refine ⟨⟨Nat.le_trans (Nat.le_add_right _ _) hf.1, Nat.le_trans (Nat.le_add_right _ _) hf.2⟩, fun H locs ls h1 h2 h3 h4 => ?_⟩
    obtain ⟨C, T, N, y, cc', nL', ret, fr', lo', hc, hM, cw⟩ := hcv fl ci fs hs hci r u hfc
    have hr := g_rcv X.2.2.2.2.2.2.1.1 h1 hs hc
    rcases cw with cw | ⟨owner, x, cw⟩ | ⟨host, cw⟩
    · exact g_back (t := t) (t1 := (u.1, t.2.1 + u.2.1, t.2.2 + u.2.2)) (q := (g_ι (z + t.2.1) u)) (vl' := v_l) (ι := (g_ι z)) ht h3 h4 (va_runV ⟨X.1, X.2.1, X.2.2.1, X.2.2.2.1, X.2.2.2.2.1⟩ hM cw ⟨g_blind, hr, g_pre X h1 h2 h3⟩ rfl hn h4.1 hst (lv_room hW) d hf) (fun H locs ls h1 h2 h3 h4 => k1.2 H locs ls h1 h2 h3 h4)
    · exact g_back (t := t) (t1 := (u.1, t.2.1 + u.2.1, t.2.2 + u.2.2)) (q := (g_ι (z + t.2.1) u)) (vl' := v_l) (ι := (g_ι z)) ht h3 h4 (va_runU ⟨X.1, X.2.1, X.2.2.1, X.2.2.2.1, X.2.2.2.2.1⟩ hM cw ⟨g_blind, hr, g_pre X h1 h2 h3⟩ rfl hn h4.1 hst (lv_room hW) d hf) (fun H locs ls h1 h2 h3 h4 => k1.2 H locs ls h1 h2 h3 h4)
    · exact g_back (t := t) (t1 := (u.1, t.2.1 + u.2.1, t.2.2 + u.2.2)) (q := (g_ι (z + t.2.1) u)) (vl' := v_l) (ι := (g_ι z)) ht h3 h4 (va_runVN ⟨X.1, X.2.1, X.2.2.1, X.2.2.2.1, X.2.2.2.2.1⟩ hM cw ⟨g_blind, hr, g_pre X h1 h2 h3⟩ rfl hn h4.1 hst (lv_room hW) d hf) (fun H locs ls h1 h2 h3 h4 => k1.2 H locs ls h1 h2 h3 h4)
theorem g_bDF_l {index n b : Nat} {count : Nat} {cs : List Nat} (X : g_X Γ p s m args meth c cc nL own) {fc : Option (Int64 × St)} {k : Int64 → St → Option (α × St)} (d : decode cc pc = .ok (.invokeinterface index count, 5)) (hn : As.length = n) (hst : st = As.reverse ++ .ref b :: rest) (hW : (rest.map fun v => v.category).sum ≤ 8) (hcv : ∀ (fl : Bool) (ci : Nat) (fs : List Value), t.1 b = some (fl, .inr (ci, fs)) → ci ∈ cs → ∀ r u, fc = some (r, u) → ∃ (C : String) (T : u_T) (N : Nat) (y : MethodName) (cc' : ByteArray) (nL' : Nat) (ret : Option FieldType) (fr' lo' : Nat), cls[ci]? = some (C, T, N) ∧ g_C Γ l y cc' nL' ret fr' lo' (.ref b :: As) t.1 (z + t.2.1) v_l r (g_ι (z + t.2.1) u) ∧ ∃ x : MethodName, va_CI (g_R fr lo (g_ι z tF)) s args own C index x y cc' nL' ret (ws_ y cc' nL' ret) (g_R fr' lo' (g_ι (z + t.2.1) u)) u.2.1 u.2.2 n) (kk : ∀ r u, Wf Γ p l e fr lo s m args below meth c nL (g_ι z) vl rF tF (pc + 5) (lv) (.long r :: rest) u (k r u)) : Wf Γ p l e fr lo s m args below meth c nL (g_ι z) vl rF tF (pc) (lv) (st) t (ccast cs t b (gb fc t k)) := by
  intro hF
  obtain ⟨fl, ci, fs, hs, hci, hF⟩ := ccast_inv hF
  cases hfc : fc with
  | none => rw [hfc] at hF; cases hF
  | some ru =>
    obtain ⟨r, u⟩ := ru
    rw [hfc] at hF
    have k1 := kk r (u.1, t.2.1 + u.2.1, t.2.2 + u.2.2) hF
    have ht : g_ι z (u.1, t.2.1 + u.2.1, t.2.2 + u.2.2) = ((g_ι (z + t.2.1) u).1, (g_ι (z + t.2.1) u).2.1, (g_ι z t).2.2.1 + (g_ι (z + t.2.1) u).2.2.1, (g_ι z t).2.2.2 + (g_ι (z + t.2.1) u).2.2.2) := by
      simp only [g_ι, Nat.add_assoc]
    have hf : (g_ι z t).2.2.1 + (g_ι (z + t.2.1) u).2.2.1 ≤ (g_ι z tF).2.2.1 ∧ (g_ι z t).2.2.2 + (g_ι (z + t.2.1) u).2.2.2 ≤ (g_ι z tF).2.2.2 := k1.1
    refine ⟨⟨Nat.le_trans (Nat.le_add_right _ _) hf.1, Nat.le_trans (Nat.le_add_right _ _) hf.2⟩, fun H locs ls h1 h2 h3 h4 => ?_⟩
    obtain ⟨C, T, N, y, cc', nL', ret, fr', lo', hc, hM, cw⟩ := hcv fl ci fs hs hci r u hfc
    have hr := g_rcv X.2.2.2.2.2.2.1.1 h1 hs hc
    obtain ⟨x, cw⟩ := cw
    exact g_back5 (t := t) (t1 := (u.1, t.2.1 + u.2.1, t.2.2 + u.2.2)) (q := (g_ι (z + t.2.1) u)) (vl' := v_l) (ι := (g_ι z)) ht h3 h4 (va_runF (X.2.2.2.2.2.2.1.1.1 ci _ hc).2 ⟨X.1, X.2.1, X.2.2.1, X.2.2.2.1, X.2.2.2.2.1⟩ hM cw ⟨g_blind, hr, g_pre X h1 h2 h3⟩ rfl hn h4.1 hst (lv_room hW) d hf) (fun H locs ls h1 h2 h3 h4 => k1.2 H locs ls h1 h2 h3 h4)
theorem g_bD_v {index n b : Nat} {cs : List Nat} (X : g_X Γ p s m args meth c cc nL own) {fc : Option (Unit × St)} {k : Unit → St → Option (α × St)} (d : decode cc pc = .ok (.invokevirtual index, 3)) (hn : As.length = n) (hst : st = As.reverse ++ .ref b :: rest) (hW : (rest.map fun v => v.category).sum ≤ 8) (hcv : ∀ (fl : Bool) (ci : Nat) (fs : List Value), t.1 b = some (fl, .inr (ci, fs)) → ci ∈ cs → ∀ r u, fc = some (r, u) → ∃ (C : String) (T : u_T) (N : Nat) (y : MethodName) (cc' : ByteArray) (nL' : Nat) (ret : Option FieldType) (fr' lo' : Nat), cls[ci]? = some (C, T, N) ∧ g_C Γ l y cc' nL' ret fr' lo' (.ref b :: As) t.1 (z + t.2.1) v_v r (g_ι (z + t.2.1) u) ∧ g_cv (g_R fr lo (g_ι z tF)) s args own index C y cc' nL' ret (g_R fr' lo' (g_ι (z + t.2.1) u)) u.2.1 u.2.2 n) (kk : ∀ r u, Wf Γ p l e fr lo s m args below meth c nL (g_ι z) vl rF tF (pc + 3) (lv) (rest) u (k r u)) : Wf Γ p l e fr lo s m args below meth c nL (g_ι z) vl rF tF (pc) (lv) (st) t (ccast cs t b (gb fc t k)) := by
  intro hF
  obtain ⟨fl, ci, fs, hs, hci, hF⟩ := ccast_inv hF
  cases hfc : fc with
  | none => rw [hfc] at hF; cases hF
  | some ru =>
    obtain ⟨r, u⟩ := ru
    rw [hfc] at hF
    have k1 := kk r (u.1, t.2.1 + u.2.1, t.2.2 + u.2.2) hF
    have ht : g_ι z (u.1, t.2.1 + u.2.1, t.2.2 + u.2.2) = ((g_ι (z + t.2.1) u).1, (g_ι (z + t.2.1) u).2.1, (g_ι z t).2.2.1 + (g_ι (z + t.2.1) u).2.2.1, (g_ι z t).2.2.2 + (g_ι (z + t.2.1) u).2.2.2) := by
      simp only [g_ι, Nat.add_assoc]
    have hf : (g_ι z t).2.2.1 + (g_ι (z + t.2.1) u).2.2.1 ≤ (g_ι z tF).2.2.1 ∧ (g_ι z t).2.2.2 + (g_ι (z + t.2.1) u).2.2.2 ≤ (g_ι z tF).2.2.2 := k1.1
    refine ⟨⟨Nat.le_trans (Nat.le_add_right _ _) hf.1, Nat.le_trans (Nat.le_add_right _ _) hf.2⟩, fun H locs ls h1 h2 h3 h4 => ?_⟩
    obtain ⟨C, T, N, y, cc', nL', ret, fr', lo', hc, hM, cw⟩ := hcv fl ci fs hs hci r u hfc
    have hr := g_rcv X.2.2.2.2.2.2.1.1 h1 hs hc
    rcases cw with cw | ⟨owner, x, cw⟩ | ⟨host, cw⟩
    · exact g_back (t := t) (t1 := (u.1, t.2.1 + u.2.1, t.2.2 + u.2.2)) (q := (g_ι (z + t.2.1) u)) (vl' := v_v) (ι := (g_ι z)) ht h3 h4 (va_runV ⟨X.1, X.2.1, X.2.2.1, X.2.2.2.1, X.2.2.2.2.1⟩ hM cw ⟨g_blind, hr, g_pre X h1 h2 h3⟩ rfl hn h4.1 hst (lv_room hW) d hf) (fun H locs ls h1 h2 h3 h4 => k1.2 H locs ls h1 h2 h3 h4)
    · exact g_back (t := t) (t1 := (u.1, t.2.1 + u.2.1, t.2.2 + u.2.2)) (q := (g_ι (z + t.2.1) u)) (vl' := v_v) (ι := (g_ι z)) ht h3 h4 (va_runU ⟨X.1, X.2.1, X.2.2.1, X.2.2.2.1, X.2.2.2.2.1⟩ hM cw ⟨g_blind, hr, g_pre X h1 h2 h3⟩ rfl hn h4.1 hst (lv_room hW) d hf) (fun H locs ls h1 h2 h3 h4 => k1.2 H locs ls h1 h2 h3 h4)
    · exact g_back (t := t) (t1 := (u.1, t.2.1 + u.2.1, t.2.2 + u.2.2)) (q := (g_ι (z + t.2.1) u)) (vl' := v_v) (ι := (g_ι z)) ht h3 h4 (va_runVN ⟨X.1, X.2.1, X.2.2.1, X.2.2.2.1, X.2.2.2.2.1⟩ hM cw ⟨g_blind, hr, g_pre X h1 h2 h3⟩ rfl hn h4.1 hst (lv_room hW) d hf) (fun H locs ls h1 h2 h3 h4 => k1.2 H locs ls h1 h2 h3 h4)
theorem g_bDF_v {index n b : Nat} {count : Nat} {cs : List Nat} (X : g_X Γ p s m args meth c cc nL own) {fc : Option (Unit × St)} {k : Unit → St → Option (α × St)} (d : decode cc pc = .ok (.invokeinterface index count, 5)) (hn : As.length = n) (hst : st = As.reverse ++ .ref b :: rest) (hW : (rest.map fun v => v.category).sum ≤ 8) (hcv : ∀ (fl : Bool) (ci : Nat) (fs : List Value), t.1 b = some (fl, .inr (ci, fs)) → ci ∈ cs → ∀ r u, fc = some (r, u) → ∃ (C : String) (T : u_T) (N : Nat) (y : MethodName) (cc' : ByteArray) (nL' : Nat) (ret : Option FieldType) (fr' lo' : Nat), cls[ci]? = some (C, T, N) ∧ g_C Γ l y cc' nL' ret fr' lo' (.ref b :: As) t.1 (z + t.2.1) v_v r (g_ι (z + t.2.1) u) ∧ ∃ x : MethodName, va_CI (g_R fr lo (g_ι z tF)) s args own C index x y cc' nL' ret (ws_ y cc' nL' ret) (g_R fr' lo' (g_ι (z + t.2.1) u)) u.2.1 u.2.2 n) (kk : ∀ r u, Wf Γ p l e fr lo s m args below meth c nL (g_ι z) vl rF tF (pc + 5) (lv) (rest) u (k r u)) : Wf Γ p l e fr lo s m args below meth c nL (g_ι z) vl rF tF (pc) (lv) (st) t (ccast cs t b (gb fc t k)) := by
  intro hF
  obtain ⟨fl, ci, fs, hs, hci, hF⟩ := ccast_inv hF
  cases hfc : fc with
  | none => rw [hfc] at hF; cases hF
  | some ru =>
    obtain ⟨r, u⟩ := ru
    rw [hfc] at hF
    have k1 := kk r (u.1, t.2.1 + u.2.1, t.2.2 + u.2.2) hF
    have ht : g_ι z (u.1, t.2.1 + u.2.1, t.2.2 + u.2.2) = ((g_ι (z + t.2.1) u).1, (g_ι (z + t.2.1) u).2.1, (g_ι z t).2.2.1 + (g_ι (z + t.2.1) u).2.2.1, (g_ι z t).2.2.2 + (g_ι (z + t.2.1) u).2.2.2) := by
      simp only [g_ι, Nat.add_assoc]
    have hf : (g_ι z t).2.2.1 + (g_ι (z + t.2.1) u).2.2.1 ≤ (g_ι z tF).2.2.1 ∧ (g_ι z t).2.2.2 + (g_ι (z + t.2.1) u).2.2.2 ≤ (g_ι z tF).2.2.2 := k1.1
    refine ⟨⟨Nat.le_trans (Nat.le_add_right _ _) hf.1, Nat.le_trans (Nat.le_add_right _ _) hf.2⟩, fun H locs ls h1 h2 h3 h4 => ?_⟩
    obtain ⟨C, T, N, y, cc', nL', ret, fr', lo', hc, hM, cw⟩ := hcv fl ci fs hs hci r u hfc
    have hr := g_rcv X.2.2.2.2.2.2.1.1 h1 hs hc
    obtain ⟨x, cw⟩ := cw
    exact g_back5 (t := t) (t1 := (u.1, t.2.1 + u.2.1, t.2.2 + u.2.2)) (q := (g_ι (z + t.2.1) u)) (vl' := v_v) (ι := (g_ι z)) ht h3 h4 (va_runF (X.2.2.2.2.2.2.1.1.1 ci _ hc).2 ⟨X.1, X.2.1, X.2.2.1, X.2.2.2.1, X.2.2.2.2.1⟩ hM cw ⟨g_blind, hr, g_pre X h1 h2 h3⟩ rfl hn h4.1 hst (lv_room hW) d hf) (fun H locs ls h1 h2 h3 h4 => k1.2 H locs ls h1 h2 h3 h4)
theorem g_bD_a {index n b : Nat} {cs : List Nat} (X : g_X Γ p s m args meth c cc nL own) {fc : Option (Nat × St)} {k : Nat → St → Option (α × St)} (d : decode cc pc = .ok (.invokevirtual index, 3)) (hn : As.length = n) (hst : st = As.reverse ++ .ref b :: rest) (hW : (rest.map fun v => v.category).sum ≤ 8) (hcv : ∀ (fl : Bool) (ci : Nat) (fs : List Value), t.1 b = some (fl, .inr (ci, fs)) → ci ∈ cs → ∀ r u, fc = some (r, u) → ∃ (C : String) (T : u_T) (N : Nat) (y : MethodName) (cc' : ByteArray) (nL' : Nat) (ret : Option FieldType) (fr' lo' : Nat), cls[ci]? = some (C, T, N) ∧ g_C Γ l y cc' nL' ret fr' lo' (.ref b :: As) t.1 (z + t.2.1) v_a r (g_ι (z + t.2.1) u) ∧ g_cv (g_R fr lo (g_ι z tF)) s args own index C y cc' nL' ret (g_R fr' lo' (g_ι (z + t.2.1) u)) u.2.1 u.2.2 n) (kk : ∀ r u, Wf Γ p l e fr lo s m args below meth c nL (g_ι z) vl rF tF (pc + 3) (lv) (.ref r :: rest) u (k r u)) : Wf Γ p l e fr lo s m args below meth c nL (g_ι z) vl rF tF (pc) (lv) (st) t (ccast cs t b (gb fc t k)) := by
  intro hF
  obtain ⟨fl, ci, fs, hs, hci, hF⟩ := ccast_inv hF
  cases hfc : fc with
  | none => rw [hfc] at hF; cases hF
  | some ru =>
    obtain ⟨r, u⟩ := ru
    rw [hfc] at hF
    have k1 := kk r (u.1, t.2.1 + u.2.1, t.2.2 + u.2.2) hF
    have ht : g_ι z (u.1, t.2.1 + u.2.1, t.2.2 + u.2.2) = ((g_ι (z + t.2.1) u).1, (g_ι (z + t.2.1) u).2.1, (g_ι z t).2.2.1 + (g_ι (z + t.2.1) u).2.2.1, (g_ι z t).2.2.2 + (g_ι (z + t.2.1) u).2.2.2) := by
      simp only [g_ι, Nat.add_assoc]
    have hf : (g_ι z t).2.2.1 + (g_ι (z + t.2.1) u).2.2.1 ≤ (g_ι z tF).2.2.1 ∧ (g_ι z t).2.2.2 + (g_ι (z + t.2.1) u).2.2.2 ≤ (g_ι z tF).2.2.2 := k1.1
    refine ⟨⟨Nat.le_trans (Nat.le_add_right _ _) hf.1, Nat.le_trans (Nat.le_add_right _ _) hf.2⟩, fun H locs ls h1 h2 h3 h4 => ?_⟩
    obtain ⟨C, T, N, y, cc', nL', ret, fr', lo', hc, hM, cw⟩ := hcv fl ci fs hs hci r u hfc
    have hr := g_rcv X.2.2.2.2.2.2.1.1 h1 hs hc
    rcases cw with cw | ⟨owner, x, cw⟩ | ⟨host, cw⟩
    · exact g_back (t := t) (t1 := (u.1, t.2.1 + u.2.1, t.2.2 + u.2.2)) (q := (g_ι (z + t.2.1) u)) (vl' := v_a) (ι := (g_ι z)) ht h3 h4 (va_runV ⟨X.1, X.2.1, X.2.2.1, X.2.2.2.1, X.2.2.2.2.1⟩ hM cw ⟨g_blind, hr, g_pre X h1 h2 h3⟩ rfl hn h4.1 hst (lv_room hW) d hf) (fun H locs ls h1 h2 h3 h4 => k1.2 H locs ls h1 h2 h3 h4)
    · exact g_back (t := t) (t1 := (u.1, t.2.1 + u.2.1, t.2.2 + u.2.2)) (q := (g_ι (z + t.2.1) u)) (vl' := v_a) (ι := (g_ι z)) ht h3 h4 (va_runU ⟨X.1, X.2.1, X.2.2.1, X.2.2.2.1, X.2.2.2.2.1⟩ hM cw ⟨g_blind, hr, g_pre X h1 h2 h3⟩ rfl hn h4.1 hst (lv_room hW) d hf) (fun H locs ls h1 h2 h3 h4 => k1.2 H locs ls h1 h2 h3 h4)
    · exact g_back (t := t) (t1 := (u.1, t.2.1 + u.2.1, t.2.2 + u.2.2)) (q := (g_ι (z + t.2.1) u)) (vl' := v_a) (ι := (g_ι z)) ht h3 h4 (va_runVN ⟨X.1, X.2.1, X.2.2.1, X.2.2.2.1, X.2.2.2.2.1⟩ hM cw ⟨g_blind, hr, g_pre X h1 h2 h3⟩ rfl hn h4.1 hst (lv_room hW) d hf) (fun H locs ls h1 h2 h3 h4 => k1.2 H locs ls h1 h2 h3 h4)
theorem g_bDF_a {index n b : Nat} {count : Nat} {cs : List Nat} (X : g_X Γ p s m args meth c cc nL own) {fc : Option (Nat × St)} {k : Nat → St → Option (α × St)} (d : decode cc pc = .ok (.invokeinterface index count, 5)) (hn : As.length = n) (hst : st = As.reverse ++ .ref b :: rest) (hW : (rest.map fun v => v.category).sum ≤ 8) (hcv : ∀ (fl : Bool) (ci : Nat) (fs : List Value), t.1 b = some (fl, .inr (ci, fs)) → ci ∈ cs → ∀ r u, fc = some (r, u) → ∃ (C : String) (T : u_T) (N : Nat) (y : MethodName) (cc' : ByteArray) (nL' : Nat) (ret : Option FieldType) (fr' lo' : Nat), cls[ci]? = some (C, T, N) ∧ g_C Γ l y cc' nL' ret fr' lo' (.ref b :: As) t.1 (z + t.2.1) v_a r (g_ι (z + t.2.1) u) ∧ ∃ x : MethodName, va_CI (g_R fr lo (g_ι z tF)) s args own C index x y cc' nL' ret (ws_ y cc' nL' ret) (g_R fr' lo' (g_ι (z + t.2.1) u)) u.2.1 u.2.2 n) (kk : ∀ r u, Wf Γ p l e fr lo s m args below meth c nL (g_ι z) vl rF tF (pc + 5) (lv) (.ref r :: rest) u (k r u)) : Wf Γ p l e fr lo s m args below meth c nL (g_ι z) vl rF tF (pc) (lv) (st) t (ccast cs t b (gb fc t k)) := by
  intro hF
  obtain ⟨fl, ci, fs, hs, hci, hF⟩ := ccast_inv hF
  cases hfc : fc with
  | none => rw [hfc] at hF; cases hF
  | some ru =>
    obtain ⟨r, u⟩ := ru
    rw [hfc] at hF
    have k1 := kk r (u.1, t.2.1 + u.2.1, t.2.2 + u.2.2) hF
    have ht : g_ι z (u.1, t.2.1 + u.2.1, t.2.2 + u.2.2) = ((g_ι (z + t.2.1) u).1, (g_ι (z + t.2.1) u).2.1, (g_ι z t).2.2.1 + (g_ι (z + t.2.1) u).2.2.1, (g_ι z t).2.2.2 + (g_ι (z + t.2.1) u).2.2.2) := by
      simp only [g_ι, Nat.add_assoc]
    have hf : (g_ι z t).2.2.1 + (g_ι (z + t.2.1) u).2.2.1 ≤ (g_ι z tF).2.2.1 ∧ (g_ι z t).2.2.2 + (g_ι (z + t.2.1) u).2.2.2 ≤ (g_ι z tF).2.2.2 := k1.1
    refine ⟨⟨Nat.le_trans (Nat.le_add_right _ _) hf.1, Nat.le_trans (Nat.le_add_right _ _) hf.2⟩, fun H locs ls h1 h2 h3 h4 => ?_⟩
    obtain ⟨C, T, N, y, cc', nL', ret, fr', lo', hc, hM, cw⟩ := hcv fl ci fs hs hci r u hfc
    have hr := g_rcv X.2.2.2.2.2.2.1.1 h1 hs hc
    obtain ⟨x, cw⟩ := cw
    exact g_back5 (t := t) (t1 := (u.1, t.2.1 + u.2.1, t.2.2 + u.2.2)) (q := (g_ι (z + t.2.1) u)) (vl' := v_a) (ι := (g_ι z)) ht h3 h4 (va_runF (X.2.2.2.2.2.2.1.1.1 ci _ hc).2 ⟨X.1, X.2.1, X.2.2.1, X.2.2.2.1, X.2.2.2.2.1⟩ hM cw ⟨g_blind, hr, g_pre X h1 h2 h3⟩ rfl hn h4.1 hst (lv_room hW) d hf) (fun H locs ls h1 h2 h3 h4 => k1.2 H locs ls h1 h2 h3 h4)
def ccopyI {β : Type} (j : Nat) (ty : FieldType) (t : St) (a0 : Nat) (sp : Int32) (a : Nat) (dp n : Int32) (K : St → Option β) : Option β := match t.1 a0, t.1 a with
  | some (_, .inl (j0, n0, .inl f)), some (true, .inl (j1, n1, .inl g)) => if (j0 = j ∧ j1 = j ∧ ¬ sp < 0 ∧ ¬ dp < 0 ∧ ¬ n < 0 ∧ sp.toNatClampNeg + n.toNatClampNeg ≤ n0 ∧ dp.toNatClampNeg + n.toNatClampNeg ≤ n1 ∧ (List.range n.toNatClampNeg).all (fun i => fits ty (.int (f (sp.toNatClampNeg + i)))) = true) then K (g_u t.1 a (true, .inl (j, n1, .inl (va_cpy f g sp.toNatClampNeg dp.toNatClampNeg n.toNatClampNeg))), t.2) else none
  | _, _ => none
def ccopyL {β : Type} (j : Nat) (t : St) (a0 : Nat) (sp : Int32) (a : Nat) (dp n : Int32) (K : St → Option β) : Option β := match t.1 a0, t.1 a with
  | some (_, .inl (j0, n0, .inr (.inl f))), some (true, .inl (j1, n1, .inr (.inl g))) => if (j0 = j ∧ j1 = j ∧ ¬ sp < 0 ∧ ¬ dp < 0 ∧ ¬ n < 0 ∧ sp.toNatClampNeg + n.toNatClampNeg ≤ n0 ∧ dp.toNatClampNeg + n.toNatClampNeg ≤ n1 ∧ True) then K (g_u t.1 a (true, .inl (j, n1, .inr (.inl (va_cpy f g sp.toNatClampNeg dp.toNatClampNeg n.toNatClampNeg)))), t.2) else none
  | _, _ => none
def cisA (cs : List Nat) (t : St) (r : Option Nat) : Bool := match r with
  | none => true
  | some y => match t.1 y with
    | some (_, .inr q) => decide (q.1 ∈ cs)
    | _ => false
def ccopyQ {β : Type} (j : Nat) (cs : List Nat) (t : St) (a0 : Nat) (sp : Int32) (a : Nat) (dp n : Int32) (K : St → Option β) : Option β := match t.1 a0, t.1 a with
  | some (_, .inl (j0, n0, .inr (.inr (.inr (.inr f))))), some (true, .inl (j1, n1, .inr (.inr (.inr (.inr g))))) => if (j0 = j ∧ j1 = j ∧ ¬ sp < 0 ∧ ¬ dp < 0 ∧ ¬ n < 0 ∧ sp.toNatClampNeg + n.toNatClampNeg ≤ n0 ∧ dp.toNatClampNeg + n.toNatClampNeg ≤ n1 ∧ (List.range n.toNatClampNeg).all (fun i => cisA cs t (f (sp.toNatClampNeg + i))) = true) then K (g_u t.1 a (true, .inl (j, n1, .inr (.inr (.inr (.inr (va_cpy f g sp.toNatClampNeg dp.toNatClampNeg n.toNatClampNeg)))))), t.2) else none
  | _, _ => none
theorem g_nn (z : Int32) (hz : ¬ z < 0) : z.toInt = (z.toNatClampNeg : Int) := by
  have hz0 : (0 : Int) ≤ z.toInt := by
    have := Int32.not_lt.mp hz
    simpa using Int32.le_iff_toInt_le.mp this
  show z.toInt = ((z.toInt.toNat : Nat) : Int)
  omega
theorem cg_copyI (X : g_X Γ p s m args meth c cc nL own) {index a0 a j : Nat} (ty : FieldType) (hp : refKind ty = false) (hj0 : (g_tys Γ.2.1)[j]? = some (Γ.2.1 j, ty)) {sp dp n : Int32} {K : St → Option (α × St)} (d : decode cc pc = .ok (.invokestatic index, 3)) (hlink : Cond.methodLink own index arraycopyName ∈ lw_all) (hnat : Cond.native arraycopyName ∈ lw_all) (hstat : Cond.static arraycopyName ∈ lw_all) (hini : Cond.initialized "java/lang/System" ∈ lw_all) (hfr : 1 ≤ fr) (hlo : (rest.map fun v => v.category).sum + (nativeFrameWords "java/lang/System" "arraycopy" 5 + 11) ≤ lo) (kk : ∀ t', Wf Γ p l e fr lo s m args below meth c nL (g_ι z) vl rF tF (pc + 3) (lv) (rest) t' (K t')) : Wf Γ p l e fr lo s m args below meth c nL (g_ι z) vl rF tF (pc) (lv) (.int n :: .int dp :: .ref a :: .int sp :: .ref a0 :: rest) t (ccopyI j ty t a0 sp a dp n K) := by
  intro hF
  unfold ccopyI at hF
  split at hF
  · rename_i fl j0 n0 f j1 n1 g hs0 hs1
    split at hF
    · rename_i hc
      obtain ⟨w0, w1, c1, c2, c3, c4, c5, c6⟩ := hc
      rw [w0] at hs0
      rw [w1] at hs1
      refine ⟨(kk _ hF).1, fun H locs ls h1 h2 h3 h4 => ?_⟩
      intro T hT Y
      have hts := X.2.2.2.2.1
      have hK := X.2.2.2.2.2.2.1.1
      obtain ⟨cell0, hc0, p2, p3, p4, p5, p6, p7⟩ := g_wkA h1 hs0
      have p5' : n0 ≤ cell0.slots.size := p5
      have p8 : ∀ i, i < n.toNatClampNeg → cell0.slots.getD (sp.toNatClampNeg + i) .null = (vp_cell (Γ.2.1 j) (n0, .inl (f))).slots.getD (sp.toNatClampNeg + i) .null := fun i hi => by
        rw [Array.getD_eq_getD_getElem?, Array.getD_eq_getD_getElem?, p7 _ (show sp.toNatClampNeg + i < n0 by omega)]
      obtain ⟨-, k9, hk9, cm9, hkk9⟩ := g_isO X.2.2.2.2.2.2.1 hj0 p2 p3
      have hc1 : H[a]? = some (vp_cell (Γ.2.1 j) (n1, .inl (g))) := h1.ex hs1
      obtain ⟨-, k0, hk0, cm0, hkk0⟩ := (hK.2 j _ hj0).1 n0 (fun i => .int (f i))
      have hb := X.2.1
      obtain ⟨vm', Y', step⟩ := Y.arraycopy X.1 X.2.2.2.1 (hts _ hlink) (hts _ hnat) (hts _ hstat) (hts _ hini) (src := a0) (dst := a) (cs := cell0) (cd := (vp_cell (Γ.2.1 j) (n1, .inl (g)))) (srcPos := sp) (destPos := dp) (n := n) (by rw [hT]; exact hc0) (by rw [hT]; exact hc1)
        p3 (fun _ h => by cases h) p4 (fun h => by cases h) hk9 hk0 hkk9 hkk0 (by simp [hp]) c1 c2 c3
        (by rw [g_nn sp c1, g_nn n c3]; omega)
        (by rw [g_nn dp c2, g_nn n c3]; show ¬ _ > ((arrV (Γ.2.1 j) n1 _).slots.size : Int); rw [arrV_size]; omega)
        (fun vm₁ hal i hi => by
          have e0 : (vp_cell (Γ.2.1 j) (n0, .inl (f))).slots.getD (sp.toNatClampNeg + i) .null = .int (f (sp.toNatClampNeg + i)) := by
            show (arrV (Γ.2.1 j) n0 (fun i => .int (f i))).slots.getD _ _ = _
            rw [Array.getD_eq_getD_getElem?, arrV_read _ _ (by omega)]
            rfl
          rw [p8 i hi, e0]
          have h9 := List.all_eq_true.mp c6 i (List.mem_range.mpr hi)
          exact ⟨h9, trivial⟩)
        (g := F0 m pc ls (.int n :: .int dp :: .ref a :: .int sp :: .ref a0 :: rest)) rfl (by rw [X.2.2.1]; exact h4.1) (rest := rest) rfl (by rw [hb]; exact d) hfr (by show 2 * 0 + _ + _ ≤ _; rw [Nat.mul_zero, Nat.zero_add]; exact hlo)
      have e1 : copied (vp_cell (Γ.2.1 j) (n0, .inl (f))) (vp_cell (Γ.2.1 j) (n1, .inl (g))) sp dp n = (vp_cell (Γ.2.1 j) (n1, .inl (va_cpy f g sp.toNatClampNeg dp.toNatClampNeg n.toNatClampNeg))) := va_copied (fun z => .int (z)) (Γ.2.1 j) (Γ.2.1 j) f g c4
      have e9 : copied cell0 (vp_cell (Γ.2.1 j) (n1, .inl (g))) sp dp n = copied (vp_cell (Γ.2.1 j) (n0, .inl (f))) (vp_cell (Γ.2.1 j) (n1, .inl (g))) sp dp n := by
        show Cell.storeRun _ _ (Cell.stretch cell0 _ _) = Cell.storeRun _ _ (Cell.stretch _ _ _)
        unfold Cell.stretch
        rw [List.map_congr_left (fun i hi => p8 i (List.mem_range.mp hi))]
      rw [e9, e1] at Y' step
      have hl : a < H.size := (Array.getElem?_eq_some_iff.mp hc1).1
      have hheap : ((T.setVm vm').setCell a (vp_cell (Γ.2.1 j) (n1, .inl (va_cpy f g sp.toNatClampNeg dp.toNatClampNeg n.toNatClampNeg)))).heap = H.setIfInBounds a (vp_cell (Γ.2.1 j) (n1, .inl (va_cpy f g sp.toNatClampNeg dp.toNatClampNeg n.toNatClampNeg))) := by rw [← hT]; rfl
      have oq : ∀ q : Nat, q ≠ a → (H.setIfInBounds a (vp_cell (Γ.2.1 j) (n1, .inl (va_cpy f g sp.toNatClampNeg dp.toNatClampNeg n.toNatClampNeg))))[q]? = H[q]? := fun q hq => by simp [Array.getElem?_setIfInBounds, Ne.symm hq]
      have hA : Γ.2.2.1 ≤ a := (h1 a _ hs1).2 rfl
      obtain ⟨t9, a9, b9⟩ := (kk _ hF).2 (H.setIfInBounds a (vp_cell (Γ.2.1 j) (n1, .inl (va_cpy f g sp.toNatClampNeg dp.toNatClampNeg n.toNatClampNeg)))) _ ls (h1.set (y := (true, .inl (j, n1, .inl (va_cpy f g sp.toNatClampNeg dp.toNatClampNeg n.toNatClampNeg)))) hs1 rfl (show (H.setIfInBounds a _)[a]? = some _ by simp [Array.getElem?_setIfInBounds, hl]) oq) (by simp; exact h2) ⟨by simp; exact h3.1, fun q g1 g2 => by
          rw [oq q (fun e => g2 (by rw [e]; exact hA))]
          exact h3.2.1 q g1 g2, fun q hq => by
          rcases List.mem_append.mp hq with h | h
          · exact h3.2.2 q h
          · obtain ⟨z9, -, hz⟩ := List.mem_map.mp h
            rw [← hz]
            exact hA⟩ h4 _ hheap Y'
      exact ⟨t9, step t9 a9, b9⟩
    · cases hF
  · cases hF
theorem cg_copyQ (X : g_X Γ p s m args meth c cc nL own) {index a0 a j : Nat} {cs : List Nat} {E : String} (hj0 : (g_tys Γ.2.1)[j]? = some (Γ.2.1 j, .object E)) (hcs : ∀ ci ∈ cs, ∃ (C : String) (T : u_T) (N : Nat), cls[ci]? = some (C, T, N) ∧ (C = E ∨ Cond.castable C E ∈ lw_tbl)) {sp dp n : Int32} {K : St → Option (α × St)} (d : decode cc pc = .ok (.invokestatic index, 3)) (hlink : Cond.methodLink own index arraycopyName ∈ lw_all) (hnat : Cond.native arraycopyName ∈ lw_all) (hstat : Cond.static arraycopyName ∈ lw_all) (hini : Cond.initialized "java/lang/System" ∈ lw_all) (hfr : 1 ≤ fr) (hlo : (rest.map fun v => v.category).sum + (nativeFrameWords "java/lang/System" "arraycopy" 5 + 11) ≤ lo) (kk : ∀ t', Wf Γ p l e fr lo s m args below meth c nL (g_ι z) vl rF tF (pc + 3) (lv) (rest) t' (K t')) : Wf Γ p l e fr lo s m args below meth c nL (g_ι z) vl rF tF (pc) (lv) (.int n :: .int dp :: .ref a :: .int sp :: .ref a0 :: rest) t (ccopyQ j cs t a0 sp a dp n K) := by
  intro hF
  unfold ccopyQ at hF
  split at hF
  · rename_i fl j0 n0 f j1 n1 g hs0 hs1
    split at hF
    · rename_i hc
      obtain ⟨w0, w1, c1, c2, c3, c4, c5, c6⟩ := hc
      rw [w0] at hs0
      rw [w1] at hs1
      refine ⟨(kk _ hF).1, fun H locs ls h1 h2 h3 h4 => ?_⟩
      intro T hT Y
      have hts := X.2.2.2.2.1
      have hK := X.2.2.2.2.2.2.1.1
      obtain ⟨cell0, hc0, p2, p3, p4, p5, p6, p7⟩ := g_wkA h1 hs0
      have p5' : n0 ≤ cell0.slots.size := p5
      have p8 : ∀ i, i < n.toNatClampNeg → cell0.slots.getD (sp.toNatClampNeg + i) .null = (vp_cell (Γ.2.1 j) (n0, .inr (.inr (.inr (.inr (f)))))).slots.getD (sp.toNatClampNeg + i) .null := fun i hi => by
        rw [Array.getD_eq_getD_getElem?, Array.getD_eq_getD_getElem?, p7 _ (show sp.toNatClampNeg + i < n0 by omega)]
      obtain ⟨-, k9, hk9, cm9, hkk9⟩ := g_isO X.2.2.2.2.2.2.1 hj0 p2 p3
      have hc1 : H[a]? = some (vp_cell (Γ.2.1 j) (n1, .inr (.inr (.inr (.inr (g)))))) := h1.ex hs1
      obtain ⟨-, k0, hk0, cm0, hkk0⟩ := (hK.2 j _ hj0).1 n0 (fun i => va_rf (f i))
      have hb := X.2.1
      obtain ⟨vm', Y', step⟩ := Y.arraycopy X.1 X.2.2.2.1 (hts _ hlink) (hts _ hnat) (hts _ hstat) (hts _ hini) (src := a0) (dst := a) (cs := cell0) (cd := (vp_cell (Γ.2.1 j) (n1, .inr (.inr (.inr (.inr (g))))))) (srcPos := sp) (destPos := dp) (n := n) (by rw [hT]; exact hc0) (by rw [hT]; exact hc1)
        p3 (fun _ h => by cases h) p4 (fun h => by cases h) hk9 hk0 hkk9 hkk0 rfl c1 c2 c3
        (by rw [g_nn sp c1, g_nn n c3]; omega)
        (by rw [g_nn dp c2, g_nn n c3]; show ¬ _ > ((arrV (Γ.2.1 j) n1 _).slots.size : Int); rw [arrV_size]; omega)
        (fun vm₁ hal i hi => by
          have e0 : (vp_cell (Γ.2.1 j) (n0, .inr (.inr (.inr (.inr (f)))))).slots.getD (sp.toNatClampNeg + i) .null = va_rf (f (sp.toNatClampNeg + i)) := by
            show (arrV (Γ.2.1 j) n0 (fun i => va_rf (f i))).slots.getD _ _ = _
            rw [Array.getD_eq_getD_getElem?, arrV_read _ _ (by omega)]
            rfl
          rw [p8 i hi, e0]
          have h9 := List.all_eq_true.mp c6 i (List.mem_range.mpr hi)
          cases hy : f (sp.toNatClampNeg + i) with
          | none => exact ⟨rfl, trivial⟩
          | some y =>
            rw [hy] at h9
            simp only [cisA] at h9
            split at h9
            · rename_i fl9 q9 hq9
              obtain ⟨C, T9, N9, w1, w2⟩ := hcs _ (of_decide_eq_true h9)
              obtain ⟨cellV, g1, g2, ⟨kC, hkC⟩, hasg⟩ := g_any X.2.2.2.2.2.2.1 h1 hq9 w1 w2
              obtain ⟨kA, comp, r1, r2, r3, -⟩ := (hK.2 j _ hj0).2
              cases hk0.symm.trans r1
              cases hkk0.symm.trans r2
              obtain ⟨kE, hkE, -⟩ := Vm.findClass_spec r3
              obtain ⟨kC', hkC', -⟩ := hal.2.2 _ _ hkC
              obtain ⟨kE', hkE', -⟩ := hal.2.2 _ _ hkE
              refine ⟨rfl, cellV, (show T.heap[y]? = some cellV by rw [hT]; exact g1), (fun q h => by rw [h] at g2; cases g2), ⟨kC', hkC'⟩, ⟨kE', hkE'⟩, ?_⟩
              show vm₁.assignable _ _ = true
              rw [hal.assignable]
              exact hasg _ r3
            · cases h9)
        (g := F0 m pc ls (.int n :: .int dp :: .ref a :: .int sp :: .ref a0 :: rest)) rfl (by rw [X.2.2.1]; exact h4.1) (rest := rest) rfl (by rw [hb]; exact d) hfr (by show 2 * 0 + _ + _ ≤ _; rw [Nat.mul_zero, Nat.zero_add]; exact hlo)
      have e1 : copied (vp_cell (Γ.2.1 j) (n0, .inr (.inr (.inr (.inr (f)))))) (vp_cell (Γ.2.1 j) (n1, .inr (.inr (.inr (.inr (g)))))) sp dp n = (vp_cell (Γ.2.1 j) (n1, .inr (.inr (.inr (.inr (va_cpy f g sp.toNatClampNeg dp.toNatClampNeg n.toNatClampNeg)))))) := va_copied (fun z => va_rf (z)) (Γ.2.1 j) (Γ.2.1 j) f g c4
      have e9 : copied cell0 (vp_cell (Γ.2.1 j) (n1, .inr (.inr (.inr (.inr (g)))))) sp dp n = copied (vp_cell (Γ.2.1 j) (n0, .inr (.inr (.inr (.inr (f)))))) (vp_cell (Γ.2.1 j) (n1, .inr (.inr (.inr (.inr (g)))))) sp dp n := by
        show Cell.storeRun _ _ (Cell.stretch cell0 _ _) = Cell.storeRun _ _ (Cell.stretch _ _ _)
        unfold Cell.stretch
        rw [List.map_congr_left (fun i hi => p8 i (List.mem_range.mp hi))]
      rw [e9, e1] at Y' step
      have hl : a < H.size := (Array.getElem?_eq_some_iff.mp hc1).1
      have hheap : ((T.setVm vm').setCell a (vp_cell (Γ.2.1 j) (n1, .inr (.inr (.inr (.inr (va_cpy f g sp.toNatClampNeg dp.toNatClampNeg n.toNatClampNeg))))))).heap = H.setIfInBounds a (vp_cell (Γ.2.1 j) (n1, .inr (.inr (.inr (.inr (va_cpy f g sp.toNatClampNeg dp.toNatClampNeg n.toNatClampNeg)))))) := by rw [← hT]; rfl
      have oq : ∀ q : Nat, q ≠ a → (H.setIfInBounds a (vp_cell (Γ.2.1 j) (n1, .inr (.inr (.inr (.inr (va_cpy f g sp.toNatClampNeg dp.toNatClampNeg n.toNatClampNeg)))))))[q]? = H[q]? := fun q hq => by simp [Array.getElem?_setIfInBounds, Ne.symm hq]
      have hA : Γ.2.2.1 ≤ a := (h1 a _ hs1).2 rfl
      obtain ⟨t9, a9, b9⟩ := (kk _ hF).2 (H.setIfInBounds a (vp_cell (Γ.2.1 j) (n1, .inr (.inr (.inr (.inr (va_cpy f g sp.toNatClampNeg dp.toNatClampNeg n.toNatClampNeg))))))) _ ls (h1.set (y := (true, .inl (j, n1, .inr (.inr (.inr (.inr (va_cpy f g sp.toNatClampNeg dp.toNatClampNeg n.toNatClampNeg))))))) hs1 rfl (show (H.setIfInBounds a _)[a]? = some _ by simp [Array.getElem?_setIfInBounds, hl]) oq) (by simp; exact h2) ⟨by simp; exact h3.1, fun q g1 g2 => by
          rw [oq q (fun e => g2 (by rw [e]; exact hA))]
          exact h3.2.1 q g1 g2, fun q hq => by
          rcases List.mem_append.mp hq with h | h
          · exact h3.2.2 q h
          · obtain ⟨z9, -, hz⟩ := List.mem_map.mp h
            rw [← hz]
            exact hA⟩ h4 _ hheap Y'
      exact ⟨t9, step t9 a9, b9⟩
    · cases hF
  · cases hF
theorem cg_copyL (X : g_X Γ p s m args meth c cc nL own) {index a0 a j : Nat} (hj0 : (g_tys Γ.2.1)[j]? = some (Γ.2.1 j, .long)) {sp dp n : Int32} {K : St → Option (α × St)} (d : decode cc pc = .ok (.invokestatic index, 3)) (hlink : Cond.methodLink own index arraycopyName ∈ lw_all) (hnat : Cond.native arraycopyName ∈ lw_all) (hstat : Cond.static arraycopyName ∈ lw_all) (hini : Cond.initialized "java/lang/System" ∈ lw_all) (hfr : 1 ≤ fr) (hlo : (rest.map fun v => v.category).sum + (nativeFrameWords "java/lang/System" "arraycopy" 5 + 11) ≤ lo) (kk : ∀ t', Wf Γ p l e fr lo s m args below meth c nL (g_ι z) vl rF tF (pc + 3) (lv) (rest) t' (K t')) : Wf Γ p l e fr lo s m args below meth c nL (g_ι z) vl rF tF (pc) (lv) (.int n :: .int dp :: .ref a :: .int sp :: .ref a0 :: rest) t (ccopyL j t a0 sp a dp n K) := by
  intro hF
  unfold ccopyL at hF
  split at hF
  · rename_i fl j0 n0 f j1 n1 g hs0 hs1
    split at hF
    · rename_i hc
      obtain ⟨w0, w1, c1, c2, c3, c4, c5, c6⟩ := hc
      rw [w0] at hs0
      rw [w1] at hs1
      refine ⟨(kk _ hF).1, fun H locs ls h1 h2 h3 h4 => ?_⟩
      intro T hT Y
      have hts := X.2.2.2.2.1
      have hK := X.2.2.2.2.2.2.1.1
      obtain ⟨cell0, hc0, p2, p3, p4, p5, p6, p7⟩ := g_wkA h1 hs0
      have p5' : n0 ≤ cell0.slots.size := p5
      have p8 : ∀ i, i < n.toNatClampNeg → cell0.slots.getD (sp.toNatClampNeg + i) .null = (vp_cell (Γ.2.1 j) (n0, .inr (.inl (f)))).slots.getD (sp.toNatClampNeg + i) .null := fun i hi => by
        rw [Array.getD_eq_getD_getElem?, Array.getD_eq_getD_getElem?, p7 _ (show sp.toNatClampNeg + i < n0 by omega)]
      obtain ⟨-, k9, hk9, cm9, hkk9⟩ := g_isO X.2.2.2.2.2.2.1 hj0 p2 p3
      have hc1 : H[a]? = some (vp_cell (Γ.2.1 j) (n1, .inr (.inl (g)))) := h1.ex hs1
      obtain ⟨-, k0, hk0, cm0, hkk0⟩ := (hK.2 j _ hj0).1 n0 (fun i => .long (f i))
      have hb := X.2.1
      obtain ⟨vm', Y', step⟩ := Y.arraycopy X.1 X.2.2.2.1 (hts _ hlink) (hts _ hnat) (hts _ hstat) (hts _ hini) (src := a0) (dst := a) (cs := cell0) (cd := (vp_cell (Γ.2.1 j) (n1, .inr (.inl (g))))) (srcPos := sp) (destPos := dp) (n := n) (by rw [hT]; exact hc0) (by rw [hT]; exact hc1)
        p3 (fun _ h => by cases h) p4 (fun h => by cases h) hk9 hk0 hkk9 hkk0 rfl c1 c2 c3
        (by rw [g_nn sp c1, g_nn n c3]; omega)
        (by rw [g_nn dp c2, g_nn n c3]; show ¬ _ > ((arrV (Γ.2.1 j) n1 _).slots.size : Int); rw [arrV_size]; omega)
        (fun vm₁ hal i hi => by
          have e0 : (vp_cell (Γ.2.1 j) (n0, .inr (.inl (f)))).slots.getD (sp.toNatClampNeg + i) .null = .long (f (sp.toNatClampNeg + i)) := by
            show (arrV (Γ.2.1 j) n0 (fun i => .long (f i))).slots.getD _ _ = _
            rw [Array.getD_eq_getD_getElem?, arrV_read _ _ (by omega)]
            rfl
          rw [p8 i hi, e0]
          exact ⟨rfl, trivial⟩)
        (g := F0 m pc ls (.int n :: .int dp :: .ref a :: .int sp :: .ref a0 :: rest)) rfl (by rw [X.2.2.1]; exact h4.1) (rest := rest) rfl (by rw [hb]; exact d) hfr (by show 2 * 0 + _ + _ ≤ _; rw [Nat.mul_zero, Nat.zero_add]; exact hlo)
      have e1 : copied (vp_cell (Γ.2.1 j) (n0, .inr (.inl (f)))) (vp_cell (Γ.2.1 j) (n1, .inr (.inl (g)))) sp dp n = (vp_cell (Γ.2.1 j) (n1, .inr (.inl (va_cpy f g sp.toNatClampNeg dp.toNatClampNeg n.toNatClampNeg)))) := va_copied (fun z => .long (z)) (Γ.2.1 j) (Γ.2.1 j) f g c4
      have e9 : copied cell0 (vp_cell (Γ.2.1 j) (n1, .inr (.inl (g)))) sp dp n = copied (vp_cell (Γ.2.1 j) (n0, .inr (.inl (f)))) (vp_cell (Γ.2.1 j) (n1, .inr (.inl (g)))) sp dp n := by
        show Cell.storeRun _ _ (Cell.stretch cell0 _ _) = Cell.storeRun _ _ (Cell.stretch _ _ _)
        unfold Cell.stretch
        rw [List.map_congr_left (fun i hi => p8 i (List.mem_range.mp hi))]
      rw [e9, e1] at Y' step
      have hl : a < H.size := (Array.getElem?_eq_some_iff.mp hc1).1
      have hheap : ((T.setVm vm').setCell a (vp_cell (Γ.2.1 j) (n1, .inr (.inl (va_cpy f g sp.toNatClampNeg dp.toNatClampNeg n.toNatClampNeg))))).heap = H.setIfInBounds a (vp_cell (Γ.2.1 j) (n1, .inr (.inl (va_cpy f g sp.toNatClampNeg dp.toNatClampNeg n.toNatClampNeg)))) := by rw [← hT]; rfl
      have oq : ∀ q : Nat, q ≠ a → (H.setIfInBounds a (vp_cell (Γ.2.1 j) (n1, .inr (.inl (va_cpy f g sp.toNatClampNeg dp.toNatClampNeg n.toNatClampNeg)))))[q]? = H[q]? := fun q hq => by simp [Array.getElem?_setIfInBounds, Ne.symm hq]
      have hA : Γ.2.2.1 ≤ a := (h1 a _ hs1).2 rfl
      obtain ⟨t9, a9, b9⟩ := (kk _ hF).2 (H.setIfInBounds a (vp_cell (Γ.2.1 j) (n1, .inr (.inl (va_cpy f g sp.toNatClampNeg dp.toNatClampNeg n.toNatClampNeg))))) _ ls (h1.set (y := (true, .inl (j, n1, .inr (.inl (va_cpy f g sp.toNatClampNeg dp.toNatClampNeg n.toNatClampNeg))))) hs1 rfl (show (H.setIfInBounds a _)[a]? = some _ by simp [Array.getElem?_setIfInBounds, hl]) oq) (by simp; exact h2) ⟨by simp; exact h3.1, fun q g1 g2 => by
          rw [oq q (fun e => g2 (by rw [e]; exact hA))]
          exact h3.2.1 q g1 g2, fun q hq => by
          rcases List.mem_append.mp hq with h | h
          · exact h3.2.2 q h
          · obtain ⟨z9, -, hz⟩ := List.mem_map.mp h
            rw [← hz]
            exact hA⟩ h4 _ hheap Y'
      exact ⟨t9, step t9 a9, b9⟩
    · cases hF
  · cases hF
end CS
