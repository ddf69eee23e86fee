/-! rows of the walk: calls (printed by gen/calls.py) -/
set_option maxRecDepth 100000
/-- a callee's contract at a state of the walk -/
abbrev g_C (Γ : Gc) (l : Launch) (y : MethodName) (cc : ByteArray) (nL : Nat) (ret : Option FieldType) (fr lo : Nat) (avs : List Value) (σ : Sg) (sz : Nat) {β : Type} (vl : β → Option Value) (r : β) (q : Iv) : Prop := Met l y (ws_ y cc nL ret) (g_R fr lo q) (g_Pc Γ avs σ sz) (g_Q Γ vl r q) q.2.2.1 q.2.2.2 (g_A Γ.2.2.1)
section GK
variable {Γ : Gc} {p : Program} {l : Launch} {e : Env} {fr lo : Nat} {s : State} {m : MethodId} {args : Array Value} {below : List Frame} {meth : Method} {c : Code} {nL : Nat} {α β τ : Type} {ι : τ → Iv} {vl : α → Option Value} {rF : α} {pc index n fr' lo' nL' : Nat} {lv : List (Nat × Value)} {st rest As : List Value} {cc cc' : ByteArray} {own C owner host : String} {x y : MethodName} {ret : Option FieldType} {b ci : Nat} {fl : Bool} {fs : List Value}
theorem g_mV_i {tF t : τ} (X : g_X Γ p s m args meth c cc nL own) (cw : ∀ q : Iv, CallW (g_R fr lo (ι tF)) s args own C index y cc' nL' ret (ws_ y cc' nL' ret) (g_R fr' lo' q) q.2.2.1 q.2.2.2 n) (d : decode cc pc = .ok (.invokevirtual index, 3)) (hs : (ι t).1 b = some (fl, .inr (ci, fs))) (hc : ∃ (T : u_T) (N : Nat), cls[ci]? = some (C, T, N)) (hn : As.length = n) (hst : st = As.reverse ++ .ref b :: rest) (hW : (rest.map fun v => v.category).sum ≤ 8) (h0 : ∀ u, (ι u).2.2 = (0, 0)) {fc : Option (Int32 × τ)} {k : Int32 → τ → Option (α × τ)} (hM : ∀ r u, fc = some (r, u) → g_C Γ l y cc' nL' ret fr' lo' (.ref b :: As) (ι t).1 (ι t).2.1 v_i r (ι u)) (kk : ∀ r u, Wf Γ p l e fr lo s m args below meth c nL ι vl rF tF (pc + 3) lv (.int r :: rest) u (k r u)) : Wf Γ p l e fr lo s m args below meth c nL ι vl rF tF (pc) lv (st) t (gm fc k) := by
  intro hF
  cases hfc : fc with
  | none => rw [hfc] at hF; cases hF
  | some ru =>
    obtain ⟨r, u⟩ := ru
    rw [hfc] at hF
    have k1 := kk r u hF
    have e0 := h0 t
    have e1 := h0 u
    have ht : ι u = ((ι u).1, (ι u).2.1, (ι t).2.2.1 + (ι u).2.2.1, (ι t).2.2.2 + (ι u).2.2.2) := by
      rw [e0]
      show ι u = ((ι u).1, (ι u).2.1, 0 + (ι u).2.2.1, 0 + (ι u).2.2.2)
      rw [Nat.zero_add, Nat.zero_add]
    refine ⟨by rw [e0]; exact ⟨Nat.zero_le _, Nat.zero_le _⟩, fun H locs ls h1 h2 h3 h4 => ?_⟩
    have hf : (ι t).2.2.1 + (ι u).2.2.1 ≤ (ι tF).2.2.1 ∧ (ι t).2.2.2 + (ι u).2.2.2 ≤ (ι tF).2.2.2 := by
      rw [e0, e1]; exact ⟨Nat.zero_le _, Nat.zero_le _⟩
    obtain ⟨T0, N0, hc⟩ := hc
    exact g_back (t := t) (t1 := u) (q := (ι u)) (vl' := v_i) (ι := ι) ht h3 h4 (va_runV ⟨X.1, X.2.1, X.2.2.1, X.2.2.2.1, X.2.2.2.2.1⟩ (hM r u hfc) (cw _) ⟨g_blind, g_rcv X.2.2.2.2.2.2.1.1 h1 hs hc, g_pre X h1 h2 h3⟩ rfl hn h4.1 hst (lv_room hW) d hf) (fun H locs ls h1 h2 h3 h4 => k1.2 H locs ls h1 h2 h3 h4)
theorem g_bV_i {z : Nat} {tF t : St} (X : g_X Γ p s m args meth c cc nL own) (cw : ∀ q : Iv, CallW (g_R fr lo ((g_ι z) tF)) s args own C index y cc' nL' ret (ws_ y cc' nL' ret) (g_R fr' lo' q) q.2.2.1 q.2.2.2 n) (d : decode cc pc = .ok (.invokevirtual index, 3)) (hs : ((g_ι z) t).1 b = some (fl, .inr (ci, fs))) (hc : ∃ (T : u_T) (N : Nat), cls[ci]? = some (C, T, N)) (hn : As.length = n) (hst : st = As.reverse ++ .ref b :: rest) (hW : (rest.map fun v => v.category).sum ≤ 8) {fc : Option (Int32 × St)} {k : Int32 → St → Option (α × St)} (hM : ∀ r u, fc = some (r, u) → g_C Γ l y cc' nL' ret fr' lo' (.ref b :: As) ((g_ι z) t).1 ((g_ι z) t).2.1 v_i r (g_ι (z + t.2.1) u)) (kk : ∀ r u, Wf Γ p l e fr lo s m args below meth c nL (g_ι z) vl rF tF (pc + 3) lv (.int r :: rest) u (k r u)) : Wf Γ p l e fr lo s m args below meth c nL (g_ι z) vl rF tF (pc) lv (st) t (gb fc t k) := by
  intro hF
  cases hfc : fc with
  | none => rw [hfc] at hF; cases hF
  | some ru =>
    obtain ⟨r, u⟩ := ru
    rw [hfc] at hF
    have k1 := kk r (u.1, t.2.1 + u.2.1, t.2.2 + u.2.2) hF
    have ht : g_ι z (u.1, t.2.1 + u.2.1, t.2.2 + u.2.2) = ((g_ι (z + t.2.1) u).1, (g_ι (z + t.2.1) u).2.1, (g_ι z t).2.2.1 + (g_ι (z + t.2.1) u).2.2.1, (g_ι z t).2.2.2 + (g_ι (z + t.2.1) u).2.2.2) := by
      simp only [g_ι, Nat.add_assoc]
    have hf : (g_ι z t).2.2.1 + (g_ι (z + t.2.1) u).2.2.1 ≤ (g_ι z tF).2.2.1 ∧ (g_ι z t).2.2.2 + (g_ι (z + t.2.1) u).2.2.2 ≤ (g_ι z tF).2.2.2 := k1.1
    refine ⟨⟨Nat.le_trans (Nat.le_add_right _ _) hf.1, Nat.le_trans (Nat.le_add_right _ _) hf.2⟩, fun H locs ls h1 h2 h3 h4 => ?_⟩
    obtain ⟨T0, N0, hc⟩ := hc
    exact g_back (t := t) (t1 := (u.1, t.2.1 + u.2.1, t.2.2 + u.2.2)) (q := (g_ι (z + t.2.1) u)) (vl' := v_i) (ι := (g_ι z)) ht h3 h4 (va_runV ⟨X.1, X.2.1, X.2.2.1, X.2.2.2.1, X.2.2.2.2.1⟩ (hM r u hfc) (cw _) ⟨g_blind, g_rcv X.2.2.2.2.2.2.1.1 h1 hs hc, g_pre X h1 h2 h3⟩ rfl hn h4.1 hst (lv_room hW) d hf) (fun H locs ls h1 h2 h3 h4 => k1.2 H locs ls h1 h2 h3 h4)
theorem g_mV_l {tF t : τ} (X : g_X Γ p s m args meth c cc nL own) (cw : ∀ q : Iv, CallW (g_R fr lo (ι tF)) s args own C index y cc' nL' ret (ws_ y cc' nL' ret) (g_R fr' lo' q) q.2.2.1 q.2.2.2 n) (d : decode cc pc = .ok (.invokevirtual index, 3)) (hs : (ι t).1 b = some (fl, .inr (ci, fs))) (hc : ∃ (T : u_T) (N : Nat), cls[ci]? = some (C, T, N)) (hn : As.length = n) (hst : st = As.reverse ++ .ref b :: rest) (hW : (rest.map fun v => v.category).sum ≤ 8) (h0 : ∀ u, (ι u).2.2 = (0, 0)) {fc : Option (Int64 × τ)} {k : Int64 → τ → Option (α × τ)} (hM : ∀ r u, fc = some (r, u) → g_C Γ l y cc' nL' ret fr' lo' (.ref b :: As) (ι t).1 (ι t).2.1 v_l r (ι u)) (kk : ∀ r u, Wf Γ p l e fr lo s m args below meth c nL ι vl rF tF (pc + 3) lv (.long r :: rest) u (k r u)) : Wf Γ p l e fr lo s m args below meth c nL ι vl rF tF (pc) lv (st) t (gm fc k) := by
  intro hF
  cases hfc : fc with
  | none => rw [hfc] at hF; cases hF
  | some ru =>
    obtain ⟨r, u⟩ := ru
    rw [hfc] at hF
    have k1 := kk r u hF
    have e0 := h0 t
    have e1 := h0 u
    have ht : ι u = ((ι u).1, (ι u).2.1, (ι t).2.2.1 + (ι u).2.2.1, (ι t).2.2.2 + (ι u).2.2.2) := by
      rw [e0]
      show ι u = ((ι u).1, (ι u).2.1, 0 + (ι u).2.2.1, 0 + (ι u).2.2.2)
      rw [Nat.zero_add, Nat.zero_add]
    refine ⟨by rw [e0]; exact ⟨Nat.zero_le _, Nat.zero_le _⟩, fun H locs ls h1 h2 h3 h4 => ?_⟩
    have hf : (ι t).2.2.1 + (ι u).2.2.1 ≤ (ι tF).2.2.1 ∧ (ι t).2.2.2 + (ι u).2.2.2 ≤ (ι tF).2.2.2 := by
      rw [e0, e1]; exact ⟨Nat.zero_le _, Nat.zero_le _⟩
    obtain ⟨T0, N0, hc⟩ := hc
    exact g_back (t := t) (t1 := u) (q := (ι u)) (vl' := v_l) (ι := ι) ht h3 h4 (va_runV ⟨X.1, X.2.1, X.2.2.1, X.2.2.2.1, X.2.2.2.2.1⟩ (hM r u hfc) (cw _) ⟨g_blind, g_rcv X.2.2.2.2.2.2.1.1 h1 hs hc, g_pre X h1 h2 h3⟩ rfl hn h4.1 hst (lv_room hW) d hf) (fun H locs ls h1 h2 h3 h4 => k1.2 H locs ls h1 h2 h3 h4)
theorem g_bV_l {z : Nat} {tF t : St} (X : g_X Γ p s m args meth c cc nL own) (cw : ∀ q : Iv, CallW (g_R fr lo ((g_ι z) tF)) s args own C index y cc' nL' ret (ws_ y cc' nL' ret) (g_R fr' lo' q) q.2.2.1 q.2.2.2 n) (d : decode cc pc = .ok (.invokevirtual index, 3)) (hs : ((g_ι z) t).1 b = some (fl, .inr (ci, fs))) (hc : ∃ (T : u_T) (N : Nat), cls[ci]? = some (C, T, N)) (hn : As.length = n) (hst : st = As.reverse ++ .ref b :: rest) (hW : (rest.map fun v => v.category).sum ≤ 8) {fc : Option (Int64 × St)} {k : Int64 → St → Option (α × St)} (hM : ∀ r u, fc = some (r, u) → g_C Γ l y cc' nL' ret fr' lo' (.ref b :: As) ((g_ι z) t).1 ((g_ι z) t).2.1 v_l r (g_ι (z + t.2.1) u)) (kk : ∀ r u, Wf Γ p l e fr lo s m args below meth c nL (g_ι z) vl rF tF (pc + 3) lv (.long r :: rest) u (k r u)) : Wf Γ p l e fr lo s m args below meth c nL (g_ι z) vl rF tF (pc) lv (st) t (gb fc t k) := by
  intro hF
  cases hfc : fc with
  | none => rw [hfc] at hF; cases hF
  | some ru =>
    obtain ⟨r, u⟩ := ru
    rw [hfc] at hF
    have k1 := kk r (u.1, t.2.1 + u.2.1, t.2.2 + u.2.2) hF
    have ht : g_ι z (u.1, t.2.1 + u.2.1, t.2.2 + u.2.2) = ((g_ι (z + t.2.1) u).1, (g_ι (z + t.2.1) u).2.1, (g_ι z t).2.2.1 + (g_ι (z + t.2.1) u).2.2.1, (g_ι z t).2.2.2 + (g_ι (z + t.2.1) u).2.2.2) := by
      simp only [g_ι, Nat.add_assoc]
    have hf : (g_ι z t).2.2.1 + (g_ι (z + t.2.1) u).2.2.1 ≤ (g_ι z tF).2.2.1 ∧ (g_ι z t).2.2.2 + (g_ι (z + t.2.1) u).2.2.2 ≤ (g_ι z tF).2.2.2 := k1.1
    refine ⟨⟨Nat.le_trans (Nat.le_add_right _ _) hf.1, Nat.le_trans (Nat.le_add_right _ _) hf.2⟩, fun H locs ls h1 h2 h3 h4 => ?_⟩
    obtain ⟨T0, N0, hc⟩ := hc
    exact g_back (t := t) (t1 := (u.1, t.2.1 + u.2.1, t.2.2 + u.2.2)) (q := (g_ι (z + t.2.1) u)) (vl' := v_l) (ι := (g_ι z)) ht h3 h4 (va_runV ⟨X.1, X.2.1, X.2.2.1, X.2.2.2.1, X.2.2.2.2.1⟩ (hM r u hfc) (cw _) ⟨g_blind, g_rcv X.2.2.2.2.2.2.1.1 h1 hs hc, g_pre X h1 h2 h3⟩ rfl hn h4.1 hst (lv_room hW) d hf) (fun H locs ls h1 h2 h3 h4 => k1.2 H locs ls h1 h2 h3 h4)
theorem g_mV_v {tF t : τ} (X : g_X Γ p s m args meth c cc nL own) (cw : ∀ q : Iv, CallW (g_R fr lo (ι tF)) s args own C index y cc' nL' ret (ws_ y cc' nL' ret) (g_R fr' lo' q) q.2.2.1 q.2.2.2 n) (d : decode cc pc = .ok (.invokevirtual index, 3)) (hs : (ι t).1 b = some (fl, .inr (ci, fs))) (hc : ∃ (T : u_T) (N : Nat), cls[ci]? = some (C, T, N)) (hn : As.length = n) (hst : st = As.reverse ++ .ref b :: rest) (hW : (rest.map fun v => v.category).sum ≤ 8) (h0 : ∀ u, (ι u).2.2 = (0, 0)) {fc : Option (Unit × τ)} {k : Unit → τ → Option (α × τ)} (hM : ∀ r u, fc = some (r, u) → g_C Γ l y cc' nL' ret fr' lo' (.ref b :: As) (ι t).1 (ι t).2.1 v_v r (ι u)) (kk : ∀ r u, Wf Γ p l e fr lo s m args below meth c nL ι vl rF tF (pc + 3) lv (rest) u (k r u)) : Wf Γ p l e fr lo s m args below meth c nL ι vl rF tF (pc) lv (st) t (gm fc k) := by
  intro hF
  cases hfc : fc with
  | none => rw [hfc] at hF; cases hF
  | some ru =>
    obtain ⟨r, u⟩ := ru
    rw [hfc] at hF
    have k1 := kk r u hF
    have e0 := h0 t
    have e1 := h0 u
    have ht : ι u = ((ι u).1, (ι u).2.1, (ι t).2.2.1 + (ι u).2.2.1, (ι t).2.2.2 + (ι u).2.2.2) := by
      rw [e0]
      show ι u = ((ι u).1, (ι u).2.1, 0 + (ι u).2.2.1, 0 + (ι u).2.2.2)
      rw [Nat.zero_add, Nat.zero_add]
    refine ⟨by rw [e0]; exact ⟨Nat.zero_le _, Nat.zero_le _⟩, fun H locs ls h1 h2 h3 h4 => ?_⟩
    have hf : (ι t).2.2.1 + (ι u).2.2.1 ≤ (ι tF).2.2.1 ∧ (ι t).2.2.2 + (ι u).2.2.2 ≤ (ι tF).2.2.2 := by
      rw [e0, e1]; exact ⟨Nat.zero_le _, Nat.zero_le _⟩
    obtain ⟨T0, N0, hc⟩ := hc
    exact g_back (t := t) (t1 := u) (q := (ι u)) (vl' := v_v) (ι := ι) ht h3 h4 (va_runV ⟨X.1, X.2.1, X.2.2.1, X.2.2.2.1, X.2.2.2.2.1⟩ (hM r u hfc) (cw _) ⟨g_blind, g_rcv X.2.2.2.2.2.2.1.1 h1 hs hc, g_pre X h1 h2 h3⟩ rfl hn h4.1 hst (lv_room hW) d hf) (fun H locs ls h1 h2 h3 h4 => k1.2 H locs ls h1 h2 h3 h4)
theorem g_bV_v {z : Nat} {tF t : St} (X : g_X Γ p s m args meth c cc nL own) (cw : ∀ q : Iv, CallW (g_R fr lo ((g_ι z) tF)) s args own C index y cc' nL' ret (ws_ y cc' nL' ret) (g_R fr' lo' q) q.2.2.1 q.2.2.2 n) (d : decode cc pc = .ok (.invokevirtual index, 3)) (hs : ((g_ι z) t).1 b = some (fl, .inr (ci, fs))) (hc : ∃ (T : u_T) (N : Nat), cls[ci]? = some (C, T, N)) (hn : As.length = n) (hst : st = As.reverse ++ .ref b :: rest) (hW : (rest.map fun v => v.category).sum ≤ 8) {fc : Option (Unit × St)} {k : Unit → St → Option (α × St)} (hM : ∀ r u, fc = some (r, u) → g_C Γ l y cc' nL' ret fr' lo' (.ref b :: As) ((g_ι z) t).1 ((g_ι z) t).2.1 v_v r (g_ι (z + t.2.1) u)) (kk : ∀ r u, Wf Γ p l e fr lo s m args below meth c nL (g_ι z) vl rF tF (pc + 3) lv (rest) u (k r u)) : Wf Γ p l e fr lo s m args below meth c nL (g_ι z) vl rF tF (pc) lv (st) t (gb fc t k) := by
  intro hF
  cases hfc : fc with
  | none => rw [hfc] at hF; cases hF
  | some ru =>
    obtain ⟨r, u⟩ := ru
    rw [hfc] at hF
    have k1 := kk r (u.1, t.2.1 + u.2.1, t.2.2 + u.2.2) hF
    have ht : g_ι z (u.1, t.2.1 + u.2.1, t.2.2 + u.2.2) = ((g_ι (z + t.2.1) u).1, (g_ι (z + t.2.1) u).2.1, (g_ι z t).2.2.1 + (g_ι (z + t.2.1) u).2.2.1, (g_ι z t).2.2.2 + (g_ι (z + t.2.1) u).2.2.2) := by
      simp only [g_ι, Nat.add_assoc]
    have hf : (g_ι z t).2.2.1 + (g_ι (z + t.2.1) u).2.2.1 ≤ (g_ι z tF).2.2.1 ∧ (g_ι z t).2.2.2 + (g_ι (z + t.2.1) u).2.2.2 ≤ (g_ι z tF).2.2.2 := k1.1
    refine ⟨⟨Nat.le_trans (Nat.le_add_right _ _) hf.1, Nat.le_trans (Nat.le_add_right _ _) hf.2⟩, fun H locs ls h1 h2 h3 h4 => ?_⟩
    obtain ⟨T0, N0, hc⟩ := hc
    exact g_back (t := t) (t1 := (u.1, t.2.1 + u.2.1, t.2.2 + u.2.2)) (q := (g_ι (z + t.2.1) u)) (vl' := v_v) (ι := (g_ι z)) ht h3 h4 (va_runV ⟨X.1, X.2.1, X.2.2.1, X.2.2.2.1, X.2.2.2.2.1⟩ (hM r u hfc) (cw _) ⟨g_blind, g_rcv X.2.2.2.2.2.2.1.1 h1 hs hc, g_pre X h1 h2 h3⟩ rfl hn h4.1 hst (lv_room hW) d hf) (fun H locs ls h1 h2 h3 h4 => k1.2 H locs ls h1 h2 h3 h4)
theorem g_mV_a {tF t : τ} (X : g_X Γ p s m args meth c cc nL own) (cw : ∀ q : Iv, CallW (g_R fr lo (ι tF)) s args own C index y cc' nL' ret (ws_ y cc' nL' ret) (g_R fr' lo' q) q.2.2.1 q.2.2.2 n) (d : decode cc pc = .ok (.invokevirtual index, 3)) (hs : (ι t).1 b = some (fl, .inr (ci, fs))) (hc : ∃ (T : u_T) (N : Nat), cls[ci]? = some (C, T, N)) (hn : As.length = n) (hst : st = As.reverse ++ .ref b :: rest) (hW : (rest.map fun v => v.category).sum ≤ 8) (h0 : ∀ u, (ι u).2.2 = (0, 0)) {fc : Option (Nat × τ)} {k : Nat → τ → Option (α × τ)} (hM : ∀ r u, fc = some (r, u) → g_C Γ l y cc' nL' ret fr' lo' (.ref b :: As) (ι t).1 (ι t).2.1 v_a r (ι u)) (kk : ∀ r u, Wf Γ p l e fr lo s m args below meth c nL ι vl rF tF (pc + 3) lv (.ref r :: rest) u (k r u)) : Wf Γ p l e fr lo s m args below meth c nL ι vl rF tF (pc) lv (st) t (gm fc k) := by
  intro hF
  cases hfc : fc with
  | none => rw [hfc] at hF; cases hF
  | some ru =>
    obtain ⟨r, u⟩ := ru
    rw [hfc] at hF
    have k1 := kk r u hF
    have e0 := h0 t
    have e1 := h0 u
    have ht : ι u = ((ι u).1, (ι u).2.1, (ι t).2.2.1 + (ι u).2.2.1, (ι t).2.2.2 + (ι u).2.2.2) := by
      rw [e0]
      show ι u = ((ι u).1, (ι u).2.1, 0 + (ι u).2.2.1, 0 + (ι u).2.2.2)
      rw [Nat.zero_add, Nat.zero_add]
    refine ⟨by rw [e0]; exact ⟨Nat.zero_le _, Nat.zero_le _⟩, fun H locs ls h1 h2 h3 h4 => ?_⟩
    have hf : (ι t).2.2.1 + (ι u).2.2.1 ≤ (ι tF).2.2.1 ∧ (ι t).2.2.2 + (ι u).2.2.2 ≤ (ι tF).2.2.2 := by
      rw [e0, e1]; exact ⟨Nat.zero_le _, Nat.zero_le _⟩
    obtain ⟨T0, N0, hc⟩ := hc
    exact g_back (t := t) (t1 := u) (q := (ι u)) (vl' := v_a) (ι := ι) ht h3 h4 (va_runV ⟨X.1, X.2.1, X.2.2.1, X.2.2.2.1, X.2.2.2.2.1⟩ (hM r u hfc) (cw _) ⟨g_blind, g_rcv X.2.2.2.2.2.2.1.1 h1 hs hc, g_pre X h1 h2 h3⟩ rfl hn h4.1 hst (lv_room hW) d hf) (fun H locs ls h1 h2 h3 h4 => k1.2 H locs ls h1 h2 h3 h4)
theorem g_bV_a {z : Nat} {tF t : St} (X : g_X Γ p s m args meth c cc nL own) (cw : ∀ q : Iv, CallW (g_R fr lo ((g_ι z) tF)) s args own C index y cc' nL' ret (ws_ y cc' nL' ret) (g_R fr' lo' q) q.2.2.1 q.2.2.2 n) (d : decode cc pc = .ok (.invokevirtual index, 3)) (hs : ((g_ι z) t).1 b = some (fl, .inr (ci, fs))) (hc : ∃ (T : u_T) (N : Nat), cls[ci]? = some (C, T, N)) (hn : As.length = n) (hst : st = As.reverse ++ .ref b :: rest) (hW : (rest.map fun v => v.category).sum ≤ 8) {fc : Option (Nat × St)} {k : Nat → St → Option (α × St)} (hM : ∀ r u, fc = some (r, u) → g_C Γ l y cc' nL' ret fr' lo' (.ref b :: As) ((g_ι z) t).1 ((g_ι z) t).2.1 v_a r (g_ι (z + t.2.1) u)) (kk : ∀ r u, Wf Γ p l e fr lo s m args below meth c nL (g_ι z) vl rF tF (pc + 3) lv (.ref r :: rest) u (k r u)) : Wf Γ p l e fr lo s m args below meth c nL (g_ι z) vl rF tF (pc) lv (st) t (gb fc t k) := by
  intro hF
  cases hfc : fc with
  | none => rw [hfc] at hF; cases hF
  | some ru =>
    obtain ⟨r, u⟩ := ru
    rw [hfc] at hF
    have k1 := kk r (u.1, t.2.1 + u.2.1, t.2.2 + u.2.2) hF
    have ht : g_ι z (u.1, t.2.1 + u.2.1, t.2.2 + u.2.2) = ((g_ι (z + t.2.1) u).1, (g_ι (z + t.2.1) u).2.1, (g_ι z t).2.2.1 + (g_ι (z + t.2.1) u).2.2.1, (g_ι z t).2.2.2 + (g_ι (z + t.2.1) u).2.2.2) := by
      simp only [g_ι, Nat.add_assoc]
    have hf : (g_ι z t).2.2.1 + (g_ι (z + t.2.1) u).2.2.1 ≤ (g_ι z tF).2.2.1 ∧ (g_ι z t).2.2.2 + (g_ι (z + t.2.1) u).2.2.2 ≤ (g_ι z tF).2.2.2 := k1.1
    refine ⟨⟨Nat.le_trans (Nat.le_add_right _ _) hf.1, Nat.le_trans (Nat.le_add_right _ _) hf.2⟩, fun H locs ls h1 h2 h3 h4 => ?_⟩
    obtain ⟨T0, N0, hc⟩ := hc
    exact g_back (t := t) (t1 := (u.1, t.2.1 + u.2.1, t.2.2 + u.2.2)) (q := (g_ι (z + t.2.1) u)) (vl' := v_a) (ι := (g_ι z)) ht h3 h4 (va_runV ⟨X.1, X.2.1, X.2.2.1, X.2.2.2.1, X.2.2.2.2.1⟩ (hM r u hfc) (cw _) ⟨g_blind, g_rcv X.2.2.2.2.2.2.1.1 h1 hs hc, g_pre X h1 h2 h3⟩ rfl hn h4.1 hst (lv_room hW) d hf) (fun H locs ls h1 h2 h3 h4 => k1.2 H locs ls h1 h2 h3 h4)
theorem g_mS_i {tF t : τ} (X : g_X Γ p s m args meth c cc nL own) (cw : ∀ q : Iv, CallB (g_R fr lo (ι tF)) s args own index y cc' nL' ret (ws_ y cc' nL' ret) (g_R fr' lo' q) q.2.2.1 q.2.2.2 n ∧ (Cond.static y).before args s = true) (d : decode cc pc = .ok (.invokestatic index, 3)) (hn : As.length = n) (hst : st = As.reverse ++ rest) (hW : (rest.map fun v => v.category).sum ≤ 8) (h0 : ∀ u, (ι u).2.2 = (0, 0)) {fc : Option (Int32 × τ)} {k : Int32 → τ → Option (α × τ)} (hM : ∀ r u, fc = some (r, u) → g_C Γ l y cc' nL' ret fr' lo' As (ι t).1 (ι t).2.1 v_i r (ι u)) (kk : ∀ r u, Wf Γ p l e fr lo s m args below meth c nL ι vl rF tF (pc + 3) lv (.int r :: rest) u (k r u)) : Wf Γ p l e fr lo s m args below meth c nL ι vl rF tF (pc) lv (st) t (gm fc k) := by
  intro hF
  cases hfc : fc with
  | none => rw [hfc] at hF; cases hF
  | some ru =>
    obtain ⟨r, u⟩ := ru
    rw [hfc] at hF
    have k1 := kk r u hF
    have e0 := h0 t
    have e1 := h0 u
    have ht : ι u = ((ι u).1, (ι u).2.1, (ι t).2.2.1 + (ι u).2.2.1, (ι t).2.2.2 + (ι u).2.2.2) := by
      rw [e0]
      show ι u = ((ι u).1, (ι u).2.1, 0 + (ι u).2.2.1, 0 + (ι u).2.2.2)
      rw [Nat.zero_add, Nat.zero_add]
    refine ⟨by rw [e0]; exact ⟨Nat.zero_le _, Nat.zero_le _⟩, fun H locs ls h1 h2 h3 h4 => ?_⟩
    have hf : (ι t).2.2.1 + (ι u).2.2.1 ≤ (ι tF).2.2.1 ∧ (ι t).2.2.2 + (ι u).2.2.2 ≤ (ι tF).2.2.2 := by
      rw [e0, e1]; exact ⟨Nat.zero_le _, Nat.zero_le _⟩
    exact g_back (t := t) (t1 := u) (q := (ι u)) (vl' := v_i) (ι := ι) ht h3 h4 (va_runS ⟨X.1, X.2.1, X.2.2.1, X.2.2.2.1, X.2.2.2.2.1⟩ (hM r u hfc) (cw _) ⟨g_blind, g_pre X h1 h2 h3⟩ rfl hn h4.1 hst (lv_room hW) d hf) (fun H locs ls h1 h2 h3 h4 => k1.2 H locs ls h1 h2 h3 h4)
theorem g_bS_i {z : Nat} {tF t : St} (X : g_X Γ p s m args meth c cc nL own) (cw : ∀ q : Iv, CallB (g_R fr lo ((g_ι z) tF)) s args own index y cc' nL' ret (ws_ y cc' nL' ret) (g_R fr' lo' q) q.2.2.1 q.2.2.2 n ∧ (Cond.static y).before args s = true) (d : decode cc pc = .ok (.invokestatic index, 3)) (hn : As.length = n) (hst : st = As.reverse ++ rest) (hW : (rest.map fun v => v.category).sum ≤ 8) {fc : Option (Int32 × St)} {k : Int32 → St → Option (α × St)} (hM : ∀ r u, fc = some (r, u) → g_C Γ l y cc' nL' ret fr' lo' As ((g_ι z) t).1 ((g_ι z) t).2.1 v_i r (g_ι (z + t.2.1) u)) (kk : ∀ r u, Wf Γ p l e fr lo s m args below meth c nL (g_ι z) vl rF tF (pc + 3) lv (.int r :: rest) u (k r u)) : Wf Γ p l e fr lo s m args below meth c nL (g_ι z) vl rF tF (pc) lv (st) t (gb fc t k) := by
  intro hF
  cases hfc : fc with
  | none => rw [hfc] at hF; cases hF
  | some ru =>
    obtain ⟨r, u⟩ := ru
    rw [hfc] at hF
    have k1 := kk r (u.1, t.2.1 + u.2.1, t.2.2 + u.2.2) hF
    have ht : g_ι z (u.1, t.2.1 + u.2.1, t.2.2 + u.2.2) = ((g_ι (z + t.2.1) u).1, (g_ι (z + t.2.1) u).2.1, (g_ι z t).2.2.1 + (g_ι (z + t.2.1) u).2.2.1, (g_ι z t).2.2.2 + (g_ι (z + t.2.1) u).2.2.2) := by
      simp only [g_ι, Nat.add_assoc]
    have hf : (g_ι z t).2.2.1 + (g_ι (z + t.2.1) u).2.2.1 ≤ (g_ι z tF).2.2.1 ∧ (g_ι z t).2.2.2 + (g_ι (z + t.2.1) u).2.2.2 ≤ (g_ι z tF).2.2.2 := k1.1
    refine ⟨⟨Nat.le_trans (Nat.le_add_right _ _) hf.1, Nat.le_trans (Nat.le_add_right _ _) hf.2⟩, fun H locs ls h1 h2 h3 h4 => ?_⟩
    exact g_back (t := t) (t1 := (u.1, t.2.1 + u.2.1, t.2.2 + u.2.2)) (q := (g_ι (z + t.2.1) u)) (vl' := v_i) (ι := (g_ι z)) ht h3 h4 (va_runS ⟨X.1, X.2.1, X.2.2.1, X.2.2.2.1, X.2.2.2.2.1⟩ (hM r u hfc) (cw _) ⟨g_blind, g_pre X h1 h2 h3⟩ rfl hn h4.1 hst (lv_room hW) d hf) (fun H locs ls h1 h2 h3 h4 => k1.2 H locs ls h1 h2 h3 h4)
theorem g_mS_l {tF t : τ} (X : g_X Γ p s m args meth c cc nL own) (cw : ∀ q : Iv, CallB (g_R fr lo (ι tF)) s args own index y cc' nL' ret (ws_ y cc' nL' ret) (g_R fr' lo' q) q.2.2.1 q.2.2.2 n ∧ (Cond.static y).before args s = true) (d : decode cc pc = .ok (.invokestatic index, 3)) (hn : As.length = n) (hst : st = As.reverse ++ rest) (hW : (rest.map fun v => v.category).sum ≤ 8) (h0 : ∀ u, (ι u).2.2 = (0, 0)) {fc : Option (Int64 × τ)} {k : Int64 → τ → Option (α × τ)} (hM : ∀ r u, fc = some (r, u) → g_C Γ l y cc' nL' ret fr' lo' As (ι t).1 (ι t).2.1 v_l r (ι u)) (kk : ∀ r u, Wf Γ p l e fr lo s m args below meth c nL ι vl rF tF (pc + 3) lv (.long r :: rest) u (k r u)) : Wf Γ p l e fr lo s m args below meth c nL ι vl rF tF (pc) lv (st) t (gm fc k) := by
  intro hF
  cases hfc : fc with
  | none => rw [hfc] at hF; cases hF
  | some ru =>
    obtain ⟨r, u⟩ := ru
    rw [hfc] at hF
    have k1 := kk r u hF
    have e0 := h0 t
    have e1 := h0 u
    have ht : ι u = ((ι u).1, (ι u).2.1, (ι t).2.2.1 + (ι u).2.2.1, (ι t).2.2.2 + (ι u).2.2.2) := by
      rw [e0]
      show ι u = ((ι u).1, (ι u).2.1, 0 + (ι u).2.2.1, 0 + (ι u).2.2.2)
      rw [Nat.zero_add, Nat.zero_add]
    refine ⟨by rw [e0]; exact ⟨Nat.zero_le _, Nat.zero_le _⟩, fun H locs ls h1 h2 h3 h4 => ?_⟩
    have hf : (ι t).2.2.1 + (ι u).2.2.1 ≤ (ι tF).2.2.1 ∧ (ι t).2.2.2 + (ι u).2.2.2 ≤ (ι tF).2.2.2 := by
      rw [e0, e1]; exact ⟨Nat.zero_le _, Nat.zero_le _⟩
    exact g_back (t := t) (t1 := u) (q := (ι u)) (vl' := v_l) (ι := ι) ht h3 h4 (va_runS ⟨X.1, X.2.1, X.2.2.1, X.2.2.2.1, X.2.2.2.2.1⟩ (hM r u hfc) (cw _) ⟨g_blind, g_pre X h1 h2 h3⟩ rfl hn h4.1 hst (lv_room hW) d hf) (fun H locs ls h1 h2 h3 h4 => k1.2 H locs ls h1 h2 h3 h4)
theorem g_bS_l {z : Nat} {tF t : St} (X : g_X Γ p s m args meth c cc nL own) (cw : ∀ q : Iv, CallB (g_R fr lo ((g_ι z) tF)) s args own index y cc' nL' ret (ws_ y cc' nL' ret) (g_R fr' lo' q) q.2.2.1 q.2.2.2 n ∧ (Cond.static y).before args s = true) (d : decode cc pc = .ok (.invokestatic index, 3)) (hn : As.length = n) (hst : st = As.reverse ++ rest) (hW : (rest.map fun v => v.category).sum ≤ 8) {fc : Option (Int64 × St)} {k : Int64 → St → Option (α × St)} (hM : ∀ r u, fc = some (r, u) → g_C Γ l y cc' nL' ret fr' lo' As ((g_ι z) t).1 ((g_ι z) t).2.1 v_l r (g_ι (z + t.2.1) u)) (kk : ∀ r u, Wf Γ p l e fr lo s m args below meth c nL (g_ι z) vl rF tF (pc + 3) lv (.long r :: rest) u (k r u)) : Wf Γ p l e fr lo s m args below meth c nL (g_ι z) vl rF tF (pc) lv (st) t (gb fc t k) := by
  intro hF
  cases hfc : fc with
  | none => rw [hfc] at hF; cases hF
  | some ru =>
    obtain ⟨r, u⟩ := ru
    rw [hfc] at hF
    have k1 := kk r (u.1, t.2.1 + u.2.1, t.2.2 + u.2.2) hF
    have ht : g_ι z (u.1, t.2.1 + u.2.1, t.2.2 + u.2.2) = ((g_ι (z + t.2.1) u).1, (g_ι (z + t.2.1) u).2.1, (g_ι z t).2.2.1 + (g_ι (z + t.2.1) u).2.2.1, (g_ι z t).2.2.2 + (g_ι (z + t.2.1) u).2.2.2) := by
      simp only [g_ι, Nat.add_assoc]
    have hf : (g_ι z t).2.2.1 + (g_ι (z + t.2.1) u).2.2.1 ≤ (g_ι z tF).2.2.1 ∧ (g_ι z t).2.2.2 + (g_ι (z + t.2.1) u).2.2.2 ≤ (g_ι z tF).2.2.2 := k1.1
    refine ⟨⟨Nat.le_trans (Nat.le_add_right _ _) hf.1, Nat.le_trans (Nat.le_add_right _ _) hf.2⟩, fun H locs ls h1 h2 h3 h4 => ?_⟩
    exact g_back (t := t) (t1 := (u.1, t.2.1 + u.2.1, t.2.2 + u.2.2)) (q := (g_ι (z + t.2.1) u)) (vl' := v_l) (ι := (g_ι z)) ht h3 h4 (va_runS ⟨X.1, X.2.1, X.2.2.1, X.2.2.2.1, X.2.2.2.2.1⟩ (hM r u hfc) (cw _) ⟨g_blind, g_pre X h1 h2 h3⟩ rfl hn h4.1 hst (lv_room hW) d hf) (fun H locs ls h1 h2 h3 h4 => k1.2 H locs ls h1 h2 h3 h4)
theorem g_mS_v {tF t : τ} (X : g_X Γ p s m args meth c cc nL own) (cw : ∀ q : Iv, CallB (g_R fr lo (ι tF)) s args own index y cc' nL' ret (ws_ y cc' nL' ret) (g_R fr' lo' q) q.2.2.1 q.2.2.2 n ∧ (Cond.static y).before args s = true) (d : decode cc pc = .ok (.invokestatic index, 3)) (hn : As.length = n) (hst : st = As.reverse ++ rest) (hW : (rest.map fun v => v.category).sum ≤ 8) (h0 : ∀ u, (ι u).2.2 = (0, 0)) {fc : Option (Unit × τ)} {k : Unit → τ → Option (α × τ)} (hM : ∀ r u, fc = some (r, u) → g_C Γ l y cc' nL' ret fr' lo' As (ι t).1 (ι t).2.1 v_v r (ι u)) (kk : ∀ r u, Wf Γ p l e fr lo s m args below meth c nL ι vl rF tF (pc + 3) lv (rest) u (k r u)) : Wf Γ p l e fr lo s m args below meth c nL ι vl rF tF (pc) lv (st) t (gm fc k) := by
  intro hF
  cases hfc : fc with
  | none => rw [hfc] at hF; cases hF
  | some ru =>
    obtain ⟨r, u⟩ := ru
    rw [hfc] at hF
    have k1 := kk r u hF
    have e0 := h0 t
    have e1 := h0 u
    have ht : ι u = ((ι u).1, (ι u).2.1, (ι t).2.2.1 + (ι u).2.2.1, (ι t).2.2.2 + (ι u).2.2.2) := by
      rw [e0]
      show ι u = ((ι u).1, (ι u).2.1, 0 + (ι u).2.2.1, 0 + (ι u).2.2.2)
      rw [Nat.zero_add, Nat.zero_add]
    refine ⟨by rw [e0]; exact ⟨Nat.zero_le _, Nat.zero_le _⟩, fun H locs ls h1 h2 h3 h4 => ?_⟩
    have hf : (ι t).2.2.1 + (ι u).2.2.1 ≤ (ι tF).2.2.1 ∧ (ι t).2.2.2 + (ι u).2.2.2 ≤ (ι tF).2.2.2 := by
      rw [e0, e1]; exact ⟨Nat.zero_le _, Nat.zero_le _⟩
    exact g_back (t := t) (t1 := u) (q := (ι u)) (vl' := v_v) (ι := ι) ht h3 h4 (va_runS ⟨X.1, X.2.1, X.2.2.1, X.2.2.2.1, X.2.2.2.2.1⟩ (hM r u hfc) (cw _) ⟨g_blind, g_pre X h1 h2 h3⟩ rfl hn h4.1 hst (lv_room hW) d hf) (fun H locs ls h1 h2 h3 h4 => k1.2 H locs ls h1 h2 h3 h4)
theorem g_bS_v {z : Nat} {tF t : St} (X : g_X Γ p s m args meth c cc nL own) (cw : ∀ q : Iv, CallB (g_R fr lo ((g_ι z) tF)) s args own index y cc' nL' ret (ws_ y cc' nL' ret) (g_R fr' lo' q) q.2.2.1 q.2.2.2 n ∧ (Cond.static y).before args s = true) (d : decode cc pc = .ok (.invokestatic index, 3)) (hn : As.length = n) (hst : st = As.reverse ++ rest) (hW : (rest.map fun v => v.category).sum ≤ 8) {fc : Option (Unit × St)} {k : Unit → St → Option (α × St)} (hM : ∀ r u, fc = some (r, u) → g_C Γ l y cc' nL' ret fr' lo' As ((g_ι z) t).1 ((g_ι z) t).2.1 v_v r (g_ι (z + t.2.1) u)) (kk : ∀ r u, Wf Γ p l e fr lo s m args below meth c nL (g_ι z) vl rF tF (pc + 3) lv (rest) u (k r u)) : Wf Γ p l e fr lo s m args below meth c nL (g_ι z) vl rF tF (pc) lv (st) t (gb fc t k) := by
  intro hF
  cases hfc : fc with
  | none => rw [hfc] at hF; cases hF
  | some ru =>
    obtain ⟨r, u⟩ := ru
    rw [hfc] at hF
    have k1 := kk r (u.1, t.2.1 + u.2.1, t.2.2 + u.2.2) hF
    have ht : g_ι z (u.1, t.2.1 + u.2.1, t.2.2 + u.2.2) = ((g_ι (z + t.2.1) u).1, (g_ι (z + t.2.1) u).2.1, (g_ι z t).2.2.1 + (g_ι (z + t.2.1) u).2.2.1, (g_ι z t).2.2.2 + (g_ι (z + t.2.1) u).2.2.2) := by
      simp only [g_ι, Nat.add_assoc]
    have hf : (g_ι z t).2.2.1 + (g_ι (z + t.2.1) u).2.2.1 ≤ (g_ι z tF).2.2.1 ∧ (g_ι z t).2.2.2 + (g_ι (z + t.2.1) u).2.2.2 ≤ (g_ι z tF).2.2.2 := k1.1
    refine ⟨⟨Nat.le_trans (Nat.le_add_right _ _) hf.1, Nat.le_trans (Nat.le_add_right _ _) hf.2⟩, fun H locs ls h1 h2 h3 h4 => ?_⟩
    exact g_back (t := t) (t1 := (u.1, t.2.1 + u.2.1, t.2.2 + u.2.2)) (q := (g_ι (z + t.2.1) u)) (vl' := v_v) (ι := (g_ι z)) ht h3 h4 (va_runS ⟨X.1, X.2.1, X.2.2.1, X.2.2.2.1, X.2.2.2.2.1⟩ (hM r u hfc) (cw _) ⟨g_blind, g_pre X h1 h2 h3⟩ rfl hn h4.1 hst (lv_room hW) d hf) (fun H locs ls h1 h2 h3 h4 => k1.2 H locs ls h1 h2 h3 h4)
theorem g_mS_a {tF t : τ} (X : g_X Γ p s m args meth c cc nL own) (cw : ∀ q : Iv, CallB (g_R fr lo (ι tF)) s args own index y cc' nL' ret (ws_ y cc' nL' ret) (g_R fr' lo' q) q.2.2.1 q.2.2.2 n ∧ (Cond.static y).before args s = true) (d : decode cc pc = .ok (.invokestatic index, 3)) (hn : As.length = n) (hst : st = As.reverse ++ rest) (hW : (rest.map fun v => v.category).sum ≤ 8) (h0 : ∀ u, (ι u).2.2 = (0, 0)) {fc : Option (Nat × τ)} {k : Nat → τ → Option (α × τ)} (hM : ∀ r u, fc = some (r, u) → g_C Γ l y cc' nL' ret fr' lo' As (ι t).1 (ι t).2.1 v_a r (ι u)) (kk : ∀ r u, Wf Γ p l e fr lo s m args below meth c nL ι vl rF tF (pc + 3) lv (.ref r :: rest) u (k r u)) : Wf Γ p l e fr lo s m args below meth c nL ι vl rF tF (pc) lv (st) t (gm fc k) := by
  intro hF
  cases hfc : fc with
  | none => rw [hfc] at hF; cases hF
  | some ru =>
    obtain ⟨r, u⟩ := ru
    rw [hfc] at hF
    have k1 := kk r u hF
    have e0 := h0 t
    have e1 := h0 u
    have ht : ι u = ((ι u).1, (ι u).2.1, (ι t).2.2.1 + (ι u).2.2.1, (ι t).2.2.2 + (ι u).2.2.2) := by
      rw [e0]
      show ι u = ((ι u).1, (ι u).2.1, 0 + (ι u).2.2.1, 0 + (ι u).2.2.2)
      rw [Nat.zero_add, Nat.zero_add]
    refine ⟨by rw [e0]; exact ⟨Nat.zero_le _, Nat.zero_le _⟩, fun H locs ls h1 h2 h3 h4 => ?_⟩
    have hf : (ι t).2.2.1 + (ι u).2.2.1 ≤ (ι tF).2.2.1 ∧ (ι t).2.2.2 + (ι u).2.2.2 ≤ (ι tF).2.2.2 := by
      rw [e0, e1]; exact ⟨Nat.zero_le _, Nat.zero_le _⟩
    exact g_back (t := t) (t1 := u) (q := (ι u)) (vl' := v_a) (ι := ι) ht h3 h4 (va_runS ⟨X.1, X.2.1, X.2.2.1, X.2.2.2.1, X.2.2.2.2.1⟩ (hM r u hfc) (cw _) ⟨g_blind, g_pre X h1 h2 h3⟩ rfl hn h4.1 hst (lv_room hW) d hf) (fun H locs ls h1 h2 h3 h4 => k1.2 H locs ls h1 h2 h3 h4)
theorem g_bS_a {z : Nat} {tF t : St} (X : g_X Γ p s m args meth c cc nL own) (cw : ∀ q : Iv, CallB (g_R fr lo ((g_ι z) tF)) s args own index y cc' nL' ret (ws_ y cc' nL' ret) (g_R fr' lo' q) q.2.2.1 q.2.2.2 n ∧ (Cond.static y).before args s = true) (d : decode cc pc = .ok (.invokestatic index, 3)) (hn : As.length = n) (hst : st = As.reverse ++ rest) (hW : (rest.map fun v => v.category).sum ≤ 8) {fc : Option (Nat × St)} {k : Nat → St → Option (α × St)} (hM : ∀ r u, fc = some (r, u) → g_C Γ l y cc' nL' ret fr' lo' As ((g_ι z) t).1 ((g_ι z) t).2.1 v_a r (g_ι (z + t.2.1) u)) (kk : ∀ r u, Wf Γ p l e fr lo s m args below meth c nL (g_ι z) vl rF tF (pc + 3) lv (.ref r :: rest) u (k r u)) : Wf Γ p l e fr lo s m args below meth c nL (g_ι z) vl rF tF (pc) lv (st) t (gb fc t k) := by
  intro hF
  cases hfc : fc with
  | none => rw [hfc] at hF; cases hF
  | some ru =>
    obtain ⟨r, u⟩ := ru
    rw [hfc] at hF
    have k1 := kk r (u.1, t.2.1 + u.2.1, t.2.2 + u.2.2) hF
    have ht : g_ι z (u.1, t.2.1 + u.2.1, t.2.2 + u.2.2) = ((g_ι (z + t.2.1) u).1, (g_ι (z + t.2.1) u).2.1, (g_ι z t).2.2.1 + (g_ι (z + t.2.1) u).2.2.1, (g_ι z t).2.2.2 + (g_ι (z + t.2.1) u).2.2.2) := by
      simp only [g_ι, Nat.add_assoc]
    have hf : (g_ι z t).2.2.1 + (g_ι (z + t.2.1) u).2.2.1 ≤ (g_ι z tF).2.2.1 ∧ (g_ι z t).2.2.2 + (g_ι (z + t.2.1) u).2.2.2 ≤ (g_ι z tF).2.2.2 := k1.1
    refine ⟨⟨Nat.le_trans (Nat.le_add_right _ _) hf.1, Nat.le_trans (Nat.le_add_right _ _) hf.2⟩, fun H locs ls h1 h2 h3 h4 => ?_⟩
    exact g_back (t := t) (t1 := (u.1, t.2.1 + u.2.1, t.2.2 + u.2.2)) (q := (g_ι (z + t.2.1) u)) (vl' := v_a) (ι := (g_ι z)) ht h3 h4 (va_runS ⟨X.1, X.2.1, X.2.2.1, X.2.2.2.1, X.2.2.2.2.1⟩ (hM r u hfc) (cw _) ⟨g_blind, g_pre X h1 h2 h3⟩ rfl hn h4.1 hst (lv_room hW) d hf) (fun H locs ls h1 h2 h3 h4 => k1.2 H locs ls h1 h2 h3 h4)
theorem g_bI_v {z : Nat} {tF t : St} (X : g_X Γ p s m args meth c cc nL own) (cw : ∀ q : Iv, CallB (g_R fr lo ((g_ι z) tF)) s args own index y cc' nL' none (ws_ y cc' nL' none) (g_R fr' lo' q) q.2.2.1 q.2.2.2 n ∧ y.name = "<init>" ∧ (Cond.instanceMethod y).before args s = true) (d : decode cc pc = .ok (.invokespecial index, 3)) (hn : As.length = n) (hst : st = As.reverse ++ .ref b :: rest) (hW : (rest.map fun v => v.category).sum ≤ 8) {fc : Option (Unit × St)} {k : Unit → St → Option (α × St)} (hM : ∀ r u, fc = some (r, u) → g_C Γ l y cc' nL' none fr' lo' (.ref b :: As) ((g_ι z) t).1 ((g_ι z) t).2.1 v_v r (g_ι (z + t.2.1) u)) (kk : ∀ r u, Wf Γ p l e fr lo s m args below meth c nL (g_ι z) vl rF tF (pc + 3) lv (rest) u (k r u)) : Wf Γ p l e fr lo s m args below meth c nL (g_ι z) vl rF tF (pc) lv (st) t (gb fc t k) := by
  intro hF
  cases hfc : fc with
  | none => rw [hfc] at hF; cases hF
  | some ru =>
    obtain ⟨r, u⟩ := ru
    rw [hfc] at hF
    have k1 := kk r (u.1, t.2.1 + u.2.1, t.2.2 + u.2.2) hF
    have ht : g_ι z (u.1, t.2.1 + u.2.1, t.2.2 + u.2.2) = ((g_ι (z + t.2.1) u).1, (g_ι (z + t.2.1) u).2.1, (g_ι z t).2.2.1 + (g_ι (z + t.2.1) u).2.2.1, (g_ι z t).2.2.2 + (g_ι (z + t.2.1) u).2.2.2) := by
      simp only [g_ι, Nat.add_assoc]
    have hf : (g_ι z t).2.2.1 + (g_ι (z + t.2.1) u).2.2.1 ≤ (g_ι z tF).2.2.1 ∧ (g_ι z t).2.2.2 + (g_ι (z + t.2.1) u).2.2.2 ≤ (g_ι z tF).2.2.2 := k1.1
    refine ⟨⟨Nat.le_trans (Nat.le_add_right _ _) hf.1, Nat.le_trans (Nat.le_add_right _ _) hf.2⟩, fun H locs ls h1 h2 h3 h4 => ?_⟩
    exact g_back (t := t) (t1 := (u.1, t.2.1 + u.2.1, t.2.2 + u.2.2)) (q := (g_ι (z + t.2.1) u)) (vl' := v_v) (ι := (g_ι z)) ht h3 h4 (va_runI ⟨X.1, X.2.1, X.2.2.1, X.2.2.2.1, X.2.2.2.2.1⟩ (hM r u hfc) (cw _) ⟨g_blind, g_pre X h1 h2 h3⟩ rfl hn h4.1 hst (lv_room hW) d hf) (fun H locs ls h1 h2 h3 h4 => k1.2 H locs ls h1 h2 h3 h4)
theorem g_bVN_i {z : Nat} {tF t : St} (X : g_X Γ p s m args meth c cc nL own) (cw : ∀ q : Iv, va_CN (g_R fr lo ((g_ι z) tF)) s args own index y host cc' nL' ret (ws_ y cc' nL' ret) (g_R fr' lo' q) q.2.2.1 q.2.2.2 n ∧ (Cond.instanceMethod y).before args s = true ∧ (Cond.selects C y y).before args s = true) (d : decode cc pc = .ok (.invokevirtual index, 3)) (hs : ((g_ι z) t).1 b = some (fl, .inr (ci, fs))) (hc : ∃ (T : u_T) (N : Nat), cls[ci]? = some (C, T, N)) (hn : As.length = n) (hst : st = As.reverse ++ .ref b :: rest) (hW : (rest.map fun v => v.category).sum ≤ 8) {fc : Option (Int32 × St)} {k : Int32 → St → Option (α × St)} (hM : ∀ r u, fc = some (r, u) → g_C Γ l y cc' nL' ret fr' lo' (.ref b :: As) ((g_ι z) t).1 ((g_ι z) t).2.1 v_i r (g_ι (z + t.2.1) u)) (kk : ∀ r u, Wf Γ p l e fr lo s m args below meth c nL (g_ι z) vl rF tF (pc + 3) lv (.int r :: rest) u (k r u)) : Wf Γ p l e fr lo s m args below meth c nL (g_ι z) vl rF tF (pc) lv (st) t (gb fc t k) := by
  intro hF
  cases hfc : fc with
  | none => rw [hfc] at hF; cases hF
  | some ru =>
    obtain ⟨r, u⟩ := ru
    rw [hfc] at hF
    have k1 := kk r (u.1, t.2.1 + u.2.1, t.2.2 + u.2.2) hF
    have ht : g_ι z (u.1, t.2.1 + u.2.1, t.2.2 + u.2.2) = ((g_ι (z + t.2.1) u).1, (g_ι (z + t.2.1) u).2.1, (g_ι z t).2.2.1 + (g_ι (z + t.2.1) u).2.2.1, (g_ι z t).2.2.2 + (g_ι (z + t.2.1) u).2.2.2) := by
      simp only [g_ι, Nat.add_assoc]
    have hf : (g_ι z t).2.2.1 + (g_ι (z + t.2.1) u).2.2.1 ≤ (g_ι z tF).2.2.1 ∧ (g_ι z t).2.2.2 + (g_ι (z + t.2.1) u).2.2.2 ≤ (g_ι z tF).2.2.2 := k1.1
    refine ⟨⟨Nat.le_trans (Nat.le_add_right _ _) hf.1, Nat.le_trans (Nat.le_add_right _ _) hf.2⟩, fun H locs ls h1 h2 h3 h4 => ?_⟩
    obtain ⟨T0, N0, hc⟩ := hc
    exact g_back (t := t) (t1 := (u.1, t.2.1 + u.2.1, t.2.2 + u.2.2)) (q := (g_ι (z + t.2.1) u)) (vl' := v_i) (ι := (g_ι z)) ht h3 h4 (va_runVN ⟨X.1, X.2.1, X.2.2.1, X.2.2.2.1, X.2.2.2.2.1⟩ (hM r u hfc) (cw _) ⟨g_blind, g_rcv X.2.2.2.2.2.2.1.1 h1 hs hc, g_pre X h1 h2 h3⟩ rfl hn h4.1 hst (lv_room hW) d hf) (fun H locs ls h1 h2 h3 h4 => k1.2 H locs ls h1 h2 h3 h4)
theorem g_bVN_l {z : Nat} {tF t : St} (X : g_X Γ p s m args meth c cc nL own) (cw : ∀ q : Iv, va_CN (g_R fr lo ((g_ι z) tF)) s args own index y host cc' nL' ret (ws_ y cc' nL' ret) (g_R fr' lo' q) q.2.2.1 q.2.2.2 n ∧ (Cond.instanceMethod y).before args s = true ∧ (Cond.selects C y y).before args s = true) (d : decode cc pc = .ok (.invokevirtual index, 3)) (hs : ((g_ι z) t).1 b = some (fl, .inr (ci, fs))) (hc : ∃ (T : u_T) (N : Nat), cls[ci]? = some (C, T, N)) (hn : As.length = n) (hst : st = As.reverse ++ .ref b :: rest) (hW : (rest.map fun v => v.category).sum ≤ 8) {fc : Option (Int64 × St)} {k : Int64 → St → Option (α × St)} (hM : ∀ r u, fc = some (r, u) → g_C Γ l y cc' nL' ret fr' lo' (.ref b :: As) ((g_ι z) t).1 ((g_ι z) t).2.1 v_l r (g_ι (z + t.2.1) u)) (kk : ∀ r u, Wf Γ p l e fr lo s m args below meth c nL (g_ι z) vl rF tF (pc + 3) lv (.long r :: rest) u (k r u)) : Wf Γ p l e fr lo s m args below meth c nL (g_ι z) vl rF tF (pc) lv (st) t (gb fc t k) := by
  intro hF
  cases hfc : fc with
  | none => rw [hfc] at hF; cases hF
  | some ru =>
    obtain ⟨r, u⟩ := ru
    rw [hfc] at hF
    have k1 := kk r (u.1, t.2.1 + u.2.1, t.2.2 + u.2.2) hF
    have ht : g_ι z (u.1, t.2.1 + u.2.1, t.2.2 + u.2.2) = ((g_ι (z + t.2.1) u).1, (g_ι (z + t.2.1) u).2.1, (g_ι z t).2.2.1 + (g_ι (z + t.2.1) u).2.2.1, (g_ι z t).2.2.2 + (g_ι (z + t.2.1) u).2.2.2) := by
      simp only [g_ι, Nat.add_assoc]
    have hf : (g_ι z t).2.2.1 + (g_ι (z + t.2.1) u).2.2.1 ≤ (g_ι z tF).2.2.1 ∧ (g_ι z t).2.2.2 + (g_ι (z + t.2.1) u).2.2.2 ≤ (g_ι z tF).2.2.2 := k1.1
    refine ⟨⟨Nat.le_trans (Nat.le_add_right _ _) hf.1, Nat.le_trans (Nat.le_add_right _ _) hf.2⟩, fun H locs ls h1 h2 h3 h4 => ?_⟩
    obtain ⟨T0, N0, hc⟩ := hc
    exact g_back (t := t) (t1 := (u.1, t.2.1 + u.2.1, t.2.2 + u.2.2)) (q := (g_ι (z + t.2.1) u)) (vl' := v_l) (ι := (g_ι z)) ht h3 h4 (va_runVN ⟨X.1, X.2.1, X.2.2.1, X.2.2.2.1, X.2.2.2.2.1⟩ (hM r u hfc) (cw _) ⟨g_blind, g_rcv X.2.2.2.2.2.2.1.1 h1 hs hc, g_pre X h1 h2 h3⟩ rfl hn h4.1 hst (lv_room hW) d hf) (fun H locs ls h1 h2 h3 h4 => k1.2 H locs ls h1 h2 h3 h4)
theorem g_bVN_v {z : Nat} {tF t : St} (X : g_X Γ p s m args meth c cc nL own) (cw : ∀ q : Iv, va_CN (g_R fr lo ((g_ι z) tF)) s args own index y host cc' nL' ret (ws_ y cc' nL' ret) (g_R fr' lo' q) q.2.2.1 q.2.2.2 n ∧ (Cond.instanceMethod y).before args s = true ∧ (Cond.selects C y y).before args s = true) (d : decode cc pc = .ok (.invokevirtual index, 3)) (hs : ((g_ι z) t).1 b = some (fl, .inr (ci, fs))) (hc : ∃ (T : u_T) (N : Nat), cls[ci]? = some (C, T, N)) (hn : As.length = n) (hst : st = As.reverse ++ .ref b :: rest) (hW : (rest.map fun v => v.category).sum ≤ 8) {fc : Option (Unit × St)} {k : Unit → St → Option (α × St)} (hM : ∀ r u, fc = some (r, u) → g_C Γ l y cc' nL' ret fr' lo' (.ref b :: As) ((g_ι z) t).1 ((g_ι z) t).2.1 v_v r (g_ι (z + t.2.1) u)) (kk : ∀ r u, Wf Γ p l e fr lo s m args below meth c nL (g_ι z) vl rF tF (pc + 3) lv (rest) u (k r u)) : Wf Γ p l e fr lo s m args below meth c nL (g_ι z) vl rF tF (pc) lv (st) t (gb fc t k) := by
  intro hF
  cases hfc : fc with
  | none => rw [hfc] at hF; cases hF
  | some ru =>
    obtain ⟨r, u⟩ := ru
    rw [hfc] at hF
    have k1 := kk r (u.1, t.2.1 + u.2.1, t.2.2 + u.2.2) hF
    have ht : g_ι z (u.1, t.2.1 + u.2.1, t.2.2 + u.2.2) = ((g_ι (z + t.2.1) u).1, (g_ι (z + t.2.1) u).2.1, (g_ι z t).2.2.1 + (g_ι (z + t.2.1) u).2.2.1, (g_ι z t).2.2.2 + (g_ι (z + t.2.1) u).2.2.2) := by
      simp only [g_ι, Nat.add_assoc]
    have hf : (g_ι z t).2.2.1 + (g_ι (z + t.2.1) u).2.2.1 ≤ (g_ι z tF).2.2.1 ∧ (g_ι z t).2.2.2 + (g_ι (z + t.2.1) u).2.2.2 ≤ (g_ι z tF).2.2.2 := k1.1
    refine ⟨⟨Nat.le_trans (Nat.le_add_right _ _) hf.1, Nat.le_trans (Nat.le_add_right _ _) hf.2⟩, fun H locs ls h1 h2 h3 h4 => ?_⟩
    obtain ⟨T0, N0, hc⟩ := hc
    exact g_back (t := t) (t1 := (u.1, t.2.1 + u.2.1, t.2.2 + u.2.2)) (q := (g_ι (z + t.2.1) u)) (vl' := v_v) (ι := (g_ι z)) ht h3 h4 (va_runVN ⟨X.1, X.2.1, X.2.2.1, X.2.2.2.1, X.2.2.2.2.1⟩ (hM r u hfc) (cw _) ⟨g_blind, g_rcv X.2.2.2.2.2.2.1.1 h1 hs hc, g_pre X h1 h2 h3⟩ rfl hn h4.1 hst (lv_room hW) d hf) (fun H locs ls h1 h2 h3 h4 => k1.2 H locs ls h1 h2 h3 h4)
theorem g_bVN_a {z : Nat} {tF t : St} (X : g_X Γ p s m args meth c cc nL own) (cw : ∀ q : Iv, va_CN (g_R fr lo ((g_ι z) tF)) s args own index y host cc' nL' ret (ws_ y cc' nL' ret) (g_R fr' lo' q) q.2.2.1 q.2.2.2 n ∧ (Cond.instanceMethod y).before args s = true ∧ (Cond.selects C y y).before args s = true) (d : decode cc pc = .ok (.invokevirtual index, 3)) (hs : ((g_ι z) t).1 b = some (fl, .inr (ci, fs))) (hc : ∃ (T : u_T) (N : Nat), cls[ci]? = some (C, T, N)) (hn : As.length = n) (hst : st = As.reverse ++ .ref b :: rest) (hW : (rest.map fun v => v.category).sum ≤ 8) {fc : Option (Nat × St)} {k : Nat → St → Option (α × St)} (hM : ∀ r u, fc = some (r, u) → g_C Γ l y cc' nL' ret fr' lo' (.ref b :: As) ((g_ι z) t).1 ((g_ι z) t).2.1 v_a r (g_ι (z + t.2.1) u)) (kk : ∀ r u, Wf Γ p l e fr lo s m args below meth c nL (g_ι z) vl rF tF (pc + 3) lv (.ref r :: rest) u (k r u)) : Wf Γ p l e fr lo s m args below meth c nL (g_ι z) vl rF tF (pc) lv (st) t (gb fc t k) := by
  intro hF
  cases hfc : fc with
  | none => rw [hfc] at hF; cases hF
  | some ru =>
    obtain ⟨r, u⟩ := ru
    rw [hfc] at hF
    have k1 := kk r (u.1, t.2.1 + u.2.1, t.2.2 + u.2.2) hF
    have ht : g_ι z (u.1, t.2.1 + u.2.1, t.2.2 + u.2.2) = ((g_ι (z + t.2.1) u).1, (g_ι (z + t.2.1) u).2.1, (g_ι z t).2.2.1 + (g_ι (z + t.2.1) u).2.2.1, (g_ι z t).2.2.2 + (g_ι (z + t.2.1) u).2.2.2) := by
      simp only [g_ι, Nat.add_assoc]
    have hf : (g_ι z t).2.2.1 + (g_ι (z + t.2.1) u).2.2.1 ≤ (g_ι z tF).2.2.1 ∧ (g_ι z t).2.2.2 + (g_ι (z + t.2.1) u).2.2.2 ≤ (g_ι z tF).2.2.2 := k1.1
    refine ⟨⟨Nat.le_trans (Nat.le_add_right _ _) hf.1, Nat.le_trans (Nat.le_add_right _ _) hf.2⟩, fun H locs ls h1 h2 h3 h4 => ?_⟩
    obtain ⟨T0, N0, hc⟩ := hc
    exact g_back (t := t) (t1 := (u.1, t.2.1 + u.2.1, t.2.2 + u.2.2)) (q := (g_ι (z + t.2.1) u)) (vl' := v_a) (ι := (g_ι z)) ht h3 h4 (va_runVN ⟨X.1, X.2.1, X.2.2.1, X.2.2.2.1, X.2.2.2.2.1⟩ (hM r u hfc) (cw _) ⟨g_blind, g_rcv X.2.2.2.2.2.2.1.1 h1 hs hc, g_pre X h1 h2 h3⟩ rfl hn h4.1 hst (lv_room hW) d hf) (fun H locs ls h1 h2 h3 h4 => k1.2 H locs ls h1 h2 h3 h4)
theorem g_bSN_i {z : Nat} {tF t : St} (X : g_X Γ p s m args meth c cc nL own) (cw : ∀ q : Iv, va_CN (g_R fr lo ((g_ι z) tF)) s args own index y host cc' nL' ret (ws_ y cc' nL' ret) (g_R fr' lo' q) q.2.2.1 q.2.2.2 n ∧ (Cond.static y).before args s = true ∧ True) (d : decode cc pc = .ok (.invokestatic index, 3)) (hn : As.length = n) (hst : st = As.reverse ++ rest) (hW : (rest.map fun v => v.category).sum ≤ 8) {fc : Option (Int32 × St)} {k : Int32 → St → Option (α × St)} (hM : ∀ r u, fc = some (r, u) → g_C Γ l y cc' nL' ret fr' lo' As ((g_ι z) t).1 ((g_ι z) t).2.1 v_i r (g_ι (z + t.2.1) u)) (kk : ∀ r u, Wf Γ p l e fr lo s m args below meth c nL (g_ι z) vl rF tF (pc + 3) lv (.int r :: rest) u (k r u)) : Wf Γ p l e fr lo s m args below meth c nL (g_ι z) vl rF tF (pc) lv (st) t (gb fc t k) := by
  intro hF
  cases hfc : fc with
  | none => rw [hfc] at hF; cases hF
  | some ru =>
    obtain ⟨r, u⟩ := ru
    rw [hfc] at hF
    have k1 := kk r (u.1, t.2.1 + u.2.1, t.2.2 + u.2.2) hF
    have ht : g_ι z (u.1, t.2.1 + u.2.1, t.2.2 + u.2.2) = ((g_ι (z + t.2.1) u).1, (g_ι (z + t.2.1) u).2.1, (g_ι z t).2.2.1 + (g_ι (z + t.2.1) u).2.2.1, (g_ι z t).2.2.2 + (g_ι (z + t.2.1) u).2.2.2) := by
      simp only [g_ι, Nat.add_assoc]
    have hf : (g_ι z t).2.2.1 + (g_ι (z + t.2.1) u).2.2.1 ≤ (g_ι z tF).2.2.1 ∧ (g_ι z t).2.2.2 + (g_ι (z + t.2.1) u).2.2.2 ≤ (g_ι z tF).2.2.2 := k1.1
    refine ⟨⟨Nat.le_trans (Nat.le_add_right _ _) hf.1, Nat.le_trans (Nat.le_add_right _ _) hf.2⟩, fun H locs ls h1 h2 h3 h4 => ?_⟩
    exact g_back (t := t) (t1 := (u.1, t.2.1 + u.2.1, t.2.2 + u.2.2)) (q := (g_ι (z + t.2.1) u)) (vl' := v_i) (ι := (g_ι z)) ht h3 h4 (va_runSN ⟨X.1, X.2.1, X.2.2.1, X.2.2.2.1, X.2.2.2.2.1⟩ (hM r u hfc) (cw _) ⟨g_blind, g_pre X h1 h2 h3⟩ rfl hn h4.1 hst (lv_room hW) d hf) (fun H locs ls h1 h2 h3 h4 => k1.2 H locs ls h1 h2 h3 h4)
theorem g_bSN_l {z : Nat} {tF t : St} (X : g_X Γ p s m args meth c cc nL own) (cw : ∀ q : Iv, va_CN (g_R fr lo ((g_ι z) tF)) s args own index y host cc' nL' ret (ws_ y cc' nL' ret) (g_R fr' lo' q) q.2.2.1 q.2.2.2 n ∧ (Cond.static y).before args s = true ∧ True) (d : decode cc pc = .ok (.invokestatic index, 3)) (hn : As.length = n) (hst : st = As.reverse ++ rest) (hW : (rest.map fun v => v.category).sum ≤ 8) {fc : Option (Int64 × St)} {k : Int64 → St → Option (α × St)} (hM : ∀ r u, fc = some (r, u) → g_C Γ l y cc' nL' ret fr' lo' As ((g_ι z) t).1 ((g_ι z) t).2.1 v_l r (g_ι (z + t.2.1) u)) (kk : ∀ r u, Wf Γ p l e fr lo s m args below meth c nL (g_ι z) vl rF tF (pc + 3) lv (.long r :: rest) u (k r u)) : Wf Γ p l e fr lo s m args below meth c nL (g_ι z) vl rF tF (pc) lv (st) t (gb fc t k) := by
  intro hF
  cases hfc : fc with
  | none => rw [hfc] at hF; cases hF
  | some ru =>
    obtain ⟨r, u⟩ := ru
    rw [hfc] at hF
    have k1 := kk r (u.1, t.2.1 + u.2.1, t.2.2 + u.2.2) hF
    have ht : g_ι z (u.1, t.2.1 + u.2.1, t.2.2 + u.2.2) = ((g_ι (z + t.2.1) u).1, (g_ι (z + t.2.1) u).2.1, (g_ι z t).2.2.1 + (g_ι (z + t.2.1) u).2.2.1, (g_ι z t).2.2.2 + (g_ι (z + t.2.1) u).2.2.2) := by
      simp only [g_ι, Nat.add_assoc]
    have hf : (g_ι z t).2.2.1 + (g_ι (z + t.2.1) u).2.2.1 ≤ (g_ι z tF).2.2.1 ∧ (g_ι z t).2.2.2 + (g_ι (z + t.2.1) u).2.2.2 ≤ (g_ι z tF).2.2.2 := k1.1
    refine ⟨⟨Nat.le_trans (Nat.le_add_right _ _) hf.1, Nat.le_trans (Nat.le_add_right _ _) hf.2⟩, fun H locs ls h1 h2 h3 h4 => ?_⟩
    exact g_back (t := t) (t1 := (u.1, t.2.1 + u.2.1, t.2.2 + u.2.2)) (q := (g_ι (z + t.2.1) u)) (vl' := v_l) (ι := (g_ι z)) ht h3 h4 (va_runSN ⟨X.1, X.2.1, X.2.2.1, X.2.2.2.1, X.2.2.2.2.1⟩ (hM r u hfc) (cw _) ⟨g_blind, g_pre X h1 h2 h3⟩ rfl hn h4.1 hst (lv_room hW) d hf) (fun H locs ls h1 h2 h3 h4 => k1.2 H locs ls h1 h2 h3 h4)
theorem g_bSN_v {z : Nat} {tF t : St} (X : g_X Γ p s m args meth c cc nL own) (cw : ∀ q : Iv, va_CN (g_R fr lo ((g_ι z) tF)) s args own index y host cc' nL' ret (ws_ y cc' nL' ret) (g_R fr' lo' q) q.2.2.1 q.2.2.2 n ∧ (Cond.static y).before args s = true ∧ True) (d : decode cc pc = .ok (.invokestatic index, 3)) (hn : As.length = n) (hst : st = As.reverse ++ rest) (hW : (rest.map fun v => v.category).sum ≤ 8) {fc : Option (Unit × St)} {k : Unit → St → Option (α × St)} (hM : ∀ r u, fc = some (r, u) → g_C Γ l y cc' nL' ret fr' lo' As ((g_ι z) t).1 ((g_ι z) t).2.1 v_v r (g_ι (z + t.2.1) u)) (kk : ∀ r u, Wf Γ p l e fr lo s m args below meth c nL (g_ι z) vl rF tF (pc + 3) lv (rest) u (k r u)) : Wf Γ p l e fr lo s m args below meth c nL (g_ι z) vl rF tF (pc) lv (st) t (gb fc t k) := by
  intro hF
  cases hfc : fc with
  | none => rw [hfc] at hF; cases hF
  | some ru =>
    obtain ⟨r, u⟩ := ru
    rw [hfc] at hF
    have k1 := kk r (u.1, t.2.1 + u.2.1, t.2.2 + u.2.2) hF
    have ht : g_ι z (u.1, t.2.1 + u.2.1, t.2.2 + u.2.2) = ((g_ι (z + t.2.1) u).1, (g_ι (z + t.2.1) u).2.1, (g_ι z t).2.2.1 + (g_ι (z + t.2.1) u).2.2.1, (g_ι z t).2.2.2 + (g_ι (z + t.2.1) u).2.2.2) := by
      simp only [g_ι, Nat.add_assoc]
    have hf : (g_ι z t).2.2.1 + (g_ι (z + t.2.1) u).2.2.1 ≤ (g_ι z tF).2.2.1 ∧ (g_ι z t).2.2.2 + (g_ι (z + t.2.1) u).2.2.2 ≤ (g_ι z tF).2.2.2 := k1.1
    refine ⟨⟨Nat.le_trans (Nat.le_add_right _ _) hf.1, Nat.le_trans (Nat.le_add_right _ _) hf.2⟩, fun H locs ls h1 h2 h3 h4 => ?_⟩
    exact g_back (t := t) (t1 := (u.1, t.2.1 + u.2.1, t.2.2 + u.2.2)) (q := (g_ι (z + t.2.1) u)) (vl' := v_v) (ι := (g_ι z)) ht h3 h4 (va_runSN ⟨X.1, X.2.1, X.2.2.1, X.2.2.2.1, X.2.2.2.2.1⟩ (hM r u hfc) (cw _) ⟨g_blind, g_pre X h1 h2 h3⟩ rfl hn h4.1 hst (lv_room hW) d hf) (fun H locs ls h1 h2 h3 h4 => k1.2 H locs ls h1 h2 h3 h4)
theorem g_bSN_a {z : Nat} {tF t : St} (X : g_X Γ p s m args meth c cc nL own) (cw : ∀ q : Iv, va_CN (g_R fr lo ((g_ι z) tF)) s args own index y host cc' nL' ret (ws_ y cc' nL' ret) (g_R fr' lo' q) q.2.2.1 q.2.2.2 n ∧ (Cond.static y).before args s = true ∧ True) (d : decode cc pc = .ok (.invokestatic index, 3)) (hn : As.length = n) (hst : st = As.reverse ++ rest) (hW : (rest.map fun v => v.category).sum ≤ 8) {fc : Option (Nat × St)} {k : Nat → St → Option (α × St)} (hM : ∀ r u, fc = some (r, u) → g_C Γ l y cc' nL' ret fr' lo' As ((g_ι z) t).1 ((g_ι z) t).2.1 v_a r (g_ι (z + t.2.1) u)) (kk : ∀ r u, Wf Γ p l e fr lo s m args below meth c nL (g_ι z) vl rF tF (pc + 3) lv (.ref r :: rest) u (k r u)) : Wf Γ p l e fr lo s m args below meth c nL (g_ι z) vl rF tF (pc) lv (st) t (gb fc t k) := by
  intro hF
  cases hfc : fc with
  | none => rw [hfc] at hF; cases hF
  | some ru =>
    obtain ⟨r, u⟩ := ru
    rw [hfc] at hF
    have k1 := kk r (u.1, t.2.1 + u.2.1, t.2.2 + u.2.2) hF
    have ht : g_ι z (u.1, t.2.1 + u.2.1, t.2.2 + u.2.2) = ((g_ι (z + t.2.1) u).1, (g_ι (z + t.2.1) u).2.1, (g_ι z t).2.2.1 + (g_ι (z + t.2.1) u).2.2.1, (g_ι z t).2.2.2 + (g_ι (z + t.2.1) u).2.2.2) := by
      simp only [g_ι, Nat.add_assoc]
    have hf : (g_ι z t).2.2.1 + (g_ι (z + t.2.1) u).2.2.1 ≤ (g_ι z tF).2.2.1 ∧ (g_ι z t).2.2.2 + (g_ι (z + t.2.1) u).2.2.2 ≤ (g_ι z tF).2.2.2 := k1.1
    refine ⟨⟨Nat.le_trans (Nat.le_add_right _ _) hf.1, Nat.le_trans (Nat.le_add_right _ _) hf.2⟩, fun H locs ls h1 h2 h3 h4 => ?_⟩
    exact g_back (t := t) (t1 := (u.1, t.2.1 + u.2.1, t.2.2 + u.2.2)) (q := (g_ι (z + t.2.1) u)) (vl' := v_a) (ι := (g_ι z)) ht h3 h4 (va_runSN ⟨X.1, X.2.1, X.2.2.1, X.2.2.2.1, X.2.2.2.2.1⟩ (hM r u hfc) (cw _) ⟨g_blind, g_pre X h1 h2 h3⟩ rfl hn h4.1 hst (lv_room hW) d hf) (fun H locs ls h1 h2 h3 h4 => k1.2 H locs ls h1 h2 h3 h4)
theorem g_bIN_v {z : Nat} {tF t : St} (X : g_X Γ p s m args meth c cc nL own) (cw : ∀ q : Iv, va_CN (g_R fr lo ((g_ι z) tF)) s args own index y host cc' nL' none (ws_ y cc' nL' none) (g_R fr' lo' q) q.2.2.1 q.2.2.2 n ∧ y.name = "<init>" ∧ (Cond.instanceMethod y).before args s = true) (d : decode cc pc = .ok (.invokespecial index, 3)) (hn : As.length = n) (hst : st = As.reverse ++ .ref b :: rest) (hW : (rest.map fun v => v.category).sum ≤ 8) {fc : Option (Unit × St)} {k : Unit → St → Option (α × St)} (hM : ∀ r u, fc = some (r, u) → g_C Γ l y cc' nL' none fr' lo' (.ref b :: As) ((g_ι z) t).1 ((g_ι z) t).2.1 v_v r (g_ι (z + t.2.1) u)) (kk : ∀ r u, Wf Γ p l e fr lo s m args below meth c nL (g_ι z) vl rF tF (pc + 3) lv (rest) u (k r u)) : Wf Γ p l e fr lo s m args below meth c nL (g_ι z) vl rF tF (pc) lv (st) t (gb fc t k) := by
  intro hF
  cases hfc : fc with
  | none => rw [hfc] at hF; cases hF
  | some ru =>
    obtain ⟨r, u⟩ := ru
    rw [hfc] at hF
    have k1 := kk r (u.1, t.2.1 + u.2.1, t.2.2 + u.2.2) hF
    have ht : g_ι z (u.1, t.2.1 + u.2.1, t.2.2 + u.2.2) = ((g_ι (z + t.2.1) u).1, (g_ι (z + t.2.1) u).2.1, (g_ι z t).2.2.1 + (g_ι (z + t.2.1) u).2.2.1, (g_ι z t).2.2.2 + (g_ι (z + t.2.1) u).2.2.2) := by
      simp only [g_ι, Nat.add_assoc]
    have hf : (g_ι z t).2.2.1 + (g_ι (z + t.2.1) u).2.2.1 ≤ (g_ι z tF).2.2.1 ∧ (g_ι z t).2.2.2 + (g_ι (z + t.2.1) u).2.2.2 ≤ (g_ι z tF).2.2.2 := k1.1
    refine ⟨⟨Nat.le_trans (Nat.le_add_right _ _) hf.1, Nat.le_trans (Nat.le_add_right _ _) hf.2⟩, fun H locs ls h1 h2 h3 h4 => ?_⟩
    exact g_back (t := t) (t1 := (u.1, t.2.1 + u.2.1, t.2.2 + u.2.2)) (q := (g_ι (z + t.2.1) u)) (vl' := v_v) (ι := (g_ι z)) ht h3 h4 (va_runIN ⟨X.1, X.2.1, X.2.2.1, X.2.2.2.1, X.2.2.2.2.1⟩ (hM r u hfc) (cw _) ⟨g_blind, g_pre X h1 h2 h3⟩ rfl hn h4.1 hst (lv_room hW) d hf) (fun H locs ls h1 h2 h3 h4 => k1.2 H locs ls h1 h2 h3 h4)
theorem g_bU_i {z : Nat} {tF t : St} (X : g_X Γ p s m args meth c cc nL own) (cw : ∀ q : Iv, va_CU (g_R fr lo ((g_ι z) tF)) s args own C owner index x y cc' nL' ret (ws_ y cc' nL' ret) (g_R fr' lo' q) q.2.2.1 q.2.2.2 n) (d : decode cc pc = .ok (.invokevirtual index, 3)) (hs : ((g_ι z) t).1 b = some (fl, .inr (ci, fs))) (hc : ∃ (T : u_T) (N : Nat), cls[ci]? = some (C, T, N)) (hn : As.length = n) (hst : st = As.reverse ++ .ref b :: rest) (hW : (rest.map fun v => v.category).sum ≤ 8) {fc : Option (Int32 × St)} {k : Int32 → St → Option (α × St)} (hM : ∀ r u, fc = some (r, u) → g_C Γ l y cc' nL' ret fr' lo' (.ref b :: As) ((g_ι z) t).1 ((g_ι z) t).2.1 v_i r (g_ι (z + t.2.1) u)) (kk : ∀ r u, Wf Γ p l e fr lo s m args below meth c nL (g_ι z) vl rF tF (pc + 3) lv (.int r :: rest) u (k r u)) : Wf Γ p l e fr lo s m args below meth c nL (g_ι z) vl rF tF (pc) lv (st) t (gb fc t k) := by
  intro hF
  cases hfc : fc with
  | none => rw [hfc] at hF; cases hF
  | some ru =>
    obtain ⟨r, u⟩ := ru
    rw [hfc] at hF
    have k1 := kk r (u.1, t.2.1 + u.2.1, t.2.2 + u.2.2) hF
    have ht : g_ι z (u.1, t.2.1 + u.2.1, t.2.2 + u.2.2) = ((g_ι (z + t.2.1) u).1, (g_ι (z + t.2.1) u).2.1, (g_ι z t).2.2.1 + (g_ι (z + t.2.1) u).2.2.1, (g_ι z t).2.2.2 + (g_ι (z + t.2.1) u).2.2.2) := by
      simp only [g_ι, Nat.add_assoc]
    have hf : (g_ι z t).2.2.1 + (g_ι (z + t.2.1) u).2.2.1 ≤ (g_ι z tF).2.2.1 ∧ (g_ι z t).2.2.2 + (g_ι (z + t.2.1) u).2.2.2 ≤ (g_ι z tF).2.2.2 := k1.1
    refine ⟨⟨Nat.le_trans (Nat.le_add_right _ _) hf.1, Nat.le_trans (Nat.le_add_right _ _) hf.2⟩, fun H locs ls h1 h2 h3 h4 => ?_⟩
    obtain ⟨T0, N0, hc⟩ := hc
    exact g_back (t := t) (t1 := (u.1, t.2.1 + u.2.1, t.2.2 + u.2.2)) (q := (g_ι (z + t.2.1) u)) (vl' := v_i) (ι := (g_ι z)) ht h3 h4 (va_runU ⟨X.1, X.2.1, X.2.2.1, X.2.2.2.1, X.2.2.2.2.1⟩ (hM r u hfc) (cw _) ⟨g_blind, g_rcv X.2.2.2.2.2.2.1.1 h1 hs hc, g_pre X h1 h2 h3⟩ rfl hn h4.1 hst (lv_room hW) d hf) (fun H locs ls h1 h2 h3 h4 => k1.2 H locs ls h1 h2 h3 h4)
theorem g_bU_l {z : Nat} {tF t : St} (X : g_X Γ p s m args meth c cc nL own) (cw : ∀ q : Iv, va_CU (g_R fr lo ((g_ι z) tF)) s args own C owner index x y cc' nL' ret (ws_ y cc' nL' ret) (g_R fr' lo' q) q.2.2.1 q.2.2.2 n) (d : decode cc pc = .ok (.invokevirtual index, 3)) (hs : ((g_ι z) t).1 b = some (fl, .inr (ci, fs))) (hc : ∃ (T : u_T) (N : Nat), cls[ci]? = some (C, T, N)) (hn : As.length = n) (hst : st = As.reverse ++ .ref b :: rest) (hW : (rest.map fun v => v.category).sum ≤ 8) {fc : Option (Int64 × St)} {k : Int64 → St → Option (α × St)} (hM : ∀ r u, fc = some (r, u) → g_C Γ l y cc' nL' ret fr' lo' (.ref b :: As) ((g_ι z) t).1 ((g_ι z) t).2.1 v_l r (g_ι (z + t.2.1) u)) (kk : ∀ r u, Wf Γ p l e fr lo s m args below meth c nL (g_ι z) vl rF tF (pc + 3) lv (.long r :: rest) u (k r u)) : Wf Γ p l e fr lo s m args below meth c nL (g_ι z) vl rF tF (pc) lv (st) t (gb fc t k) := by
  intro hF
  cases hfc : fc with
  | none => rw [hfc] at hF; cases hF
  | some ru =>
    obtain ⟨r, u⟩ := ru
    rw [hfc] at hF
    have k1 := kk r (u.1, t.2.1 + u.2.1, t.2.2 + u.2.2) hF
    have ht : g_ι z (u.1, t.2.1 + u.2.1, t.2.2 + u.2.2) = ((g_ι (z + t.2.1) u).1, (g_ι (z + t.2.1) u).2.1, (g_ι z t).2.2.1 + (g_ι (z + t.2.1) u).2.2.1, (g_ι z t).2.2.2 + (g_ι (z + t.2.1) u).2.2.2) := by
      simp only [g_ι, Nat.add_assoc]
    have hf : (g_ι z t).2.2.1 + (g_ι (z + t.2.1) u).2.2.1 ≤ (g_ι z tF).2.2.1 ∧ (g_ι z t).2.2.2 + (g_ι (z + t.2.1) u).2.2.2 ≤ (g_ι z tF).2.2.2 := k1.1
    refine ⟨⟨Nat.le_trans (Nat.le_add_right _ _) hf.1, Nat.le_trans (Nat.le_add_right _ _) hf.2⟩, fun H locs ls h1 h2 h3 h4 => ?_⟩
    obtain ⟨T0, N0, hc⟩ := hc
    exact g_back (t := t) (t1 := (u.1, t.2.1 + u.2.1, t.2.2 + u.2.2)) (q := (g_ι (z + t.2.1) u)) (vl' := v_l) (ι := (g_ι z)) ht h3 h4 (va_runU ⟨X.1, X.2.1, X.2.2.1, X.2.2.2.1, X.2.2.2.2.1⟩ (hM r u hfc) (cw _) ⟨g_blind, g_rcv X.2.2.2.2.2.2.1.1 h1 hs hc, g_pre X h1 h2 h3⟩ rfl hn h4.1 hst (lv_room hW) d hf) (fun H locs ls h1 h2 h3 h4 => k1.2 H locs ls h1 h2 h3 h4)
theorem g_bU_v {z : Nat} {tF t : St} (X : g_X Γ p s m args meth c cc nL own) (cw : ∀ q : Iv, va_CU (g_R fr lo ((g_ι z) tF)) s args own C owner index x y cc' nL' ret (ws_ y cc' nL' ret) (g_R fr' lo' q) q.2.2.1 q.2.2.2 n) (d : decode cc pc = .ok (.invokevirtual index, 3)) (hs : ((g_ι z) t).1 b = some (fl, .inr (ci, fs))) (hc : ∃ (T : u_T) (N : Nat), cls[ci]? = some (C, T, N)) (hn : As.length = n) (hst : st = As.reverse ++ .ref b :: rest) (hW : (rest.map fun v => v.category).sum ≤ 8) {fc : Option (Unit × St)} {k : Unit → St → Option (α × St)} (hM : ∀ r u, fc = some (r, u) → g_C Γ l y cc' nL' ret fr' lo' (.ref b :: As) ((g_ι z) t).1 ((g_ι z) t).2.1 v_v r (g_ι (z + t.2.1) u)) (kk : ∀ r u, Wf Γ p l e fr lo s m args below meth c nL (g_ι z) vl rF tF (pc + 3) lv (rest) u (k r u)) : Wf Γ p l e fr lo s m args below meth c nL (g_ι z) vl rF tF (pc) lv (st) t (gb fc t k) := by
  intro hF
  cases hfc : fc with
  | none => rw [hfc] at hF; cases hF
  | some ru =>
    obtain ⟨r, u⟩ := ru
    rw [hfc] at hF
    have k1 := kk r (u.1, t.2.1 + u.2.1, t.2.2 + u.2.2) hF
    have ht : g_ι z (u.1, t.2.1 + u.2.1, t.2.2 + u.2.2) = ((g_ι (z + t.2.1) u).1, (g_ι (z + t.2.1) u).2.1, (g_ι z t).2.2.1 + (g_ι (z + t.2.1) u).2.2.1, (g_ι z t).2.2.2 + (g_ι (z + t.2.1) u).2.2.2) := by
      simp only [g_ι, Nat.add_assoc]
    have hf : (g_ι z t).2.2.1 + (g_ι (z + t.2.1) u).2.2.1 ≤ (g_ι z tF).2.2.1 ∧ (g_ι z t).2.2.2 + (g_ι (z + t.2.1) u).2.2.2 ≤ (g_ι z tF).2.2.2 := k1.1
    refine ⟨⟨Nat.le_trans (Nat.le_add_right _ _) hf.1, Nat.le_trans (Nat.le_add_right _ _) hf.2⟩, fun H locs ls h1 h2 h3 h4 => ?_⟩
    obtain ⟨T0, N0, hc⟩ := hc
    exact g_back (t := t) (t1 := (u.1, t.2.1 + u.2.1, t.2.2 + u.2.2)) (q := (g_ι (z + t.2.1) u)) (vl' := v_v) (ι := (g_ι z)) ht h3 h4 (va_runU ⟨X.1, X.2.1, X.2.2.1, X.2.2.2.1, X.2.2.2.2.1⟩ (hM r u hfc) (cw _) ⟨g_blind, g_rcv X.2.2.2.2.2.2.1.1 h1 hs hc, g_pre X h1 h2 h3⟩ rfl hn h4.1 hst (lv_room hW) d hf) (fun H locs ls h1 h2 h3 h4 => k1.2 H locs ls h1 h2 h3 h4)
theorem g_bU_a {z : Nat} {tF t : St} (X : g_X Γ p s m args meth c cc nL own) (cw : ∀ q : Iv, va_CU (g_R fr lo ((g_ι z) tF)) s args own C owner index x y cc' nL' ret (ws_ y cc' nL' ret) (g_R fr' lo' q) q.2.2.1 q.2.2.2 n) (d : decode cc pc = .ok (.invokevirtual index, 3)) (hs : ((g_ι z) t).1 b = some (fl, .inr (ci, fs))) (hc : ∃ (T : u_T) (N : Nat), cls[ci]? = some (C, T, N)) (hn : As.length = n) (hst : st = As.reverse ++ .ref b :: rest) (hW : (rest.map fun v => v.category).sum ≤ 8) {fc : Option (Nat × St)} {k : Nat → St → Option (α × St)} (hM : ∀ r u, fc = some (r, u) → g_C Γ l y cc' nL' ret fr' lo' (.ref b :: As) ((g_ι z) t).1 ((g_ι z) t).2.1 v_a r (g_ι (z + t.2.1) u)) (kk : ∀ r u, Wf Γ p l e fr lo s m args below meth c nL (g_ι z) vl rF tF (pc + 3) lv (.ref r :: rest) u (k r u)) : Wf Γ p l e fr lo s m args below meth c nL (g_ι z) vl rF tF (pc) lv (st) t (gb fc t k) := by
  intro hF
  cases hfc : fc with
  | none => rw [hfc] at hF; cases hF
  | some ru =>
    obtain ⟨r, u⟩ := ru
    rw [hfc] at hF
    have k1 := kk r (u.1, t.2.1 + u.2.1, t.2.2 + u.2.2) hF
    have ht : g_ι z (u.1, t.2.1 + u.2.1, t.2.2 + u.2.2) = ((g_ι (z + t.2.1) u).1, (g_ι (z + t.2.1) u).2.1, (g_ι z t).2.2.1 + (g_ι (z + t.2.1) u).2.2.1, (g_ι z t).2.2.2 + (g_ι (z + t.2.1) u).2.2.2) := by
      simp only [g_ι, Nat.add_assoc]
    have hf : (g_ι z t).2.2.1 + (g_ι (z + t.2.1) u).2.2.1 ≤ (g_ι z tF).2.2.1 ∧ (g_ι z t).2.2.2 + (g_ι (z + t.2.1) u).2.2.2 ≤ (g_ι z tF).2.2.2 := k1.1
    refine ⟨⟨Nat.le_trans (Nat.le_add_right _ _) hf.1, Nat.le_trans (Nat.le_add_right _ _) hf.2⟩, fun H locs ls h1 h2 h3 h4 => ?_⟩
    obtain ⟨T0, N0, hc⟩ := hc
    exact g_back (t := t) (t1 := (u.1, t.2.1 + u.2.1, t.2.2 + u.2.2)) (q := (g_ι (z + t.2.1) u)) (vl' := v_a) (ι := (g_ι z)) ht h3 h4 (va_runU ⟨X.1, X.2.1, X.2.2.1, X.2.2.2.1, X.2.2.2.2.1⟩ (hM r u hfc) (cw _) ⟨g_blind, g_rcv X.2.2.2.2.2.2.1.1 h1 hs hc, g_pre X h1 h2 h3⟩ rfl hn h4.1 hst (lv_room hW) d hf) (fun H locs ls h1 h2 h3 h4 => k1.2 H locs ls h1 h2 h3 h4)
theorem g_bSU_i {z : Nat} {tF t : St} (X : g_X Γ p s m args meth c cc nL own) (cw : ∀ q : Iv, va_CS (g_R fr lo ((g_ι z) tF)) s args own index y cc' nL' ret (ws_ y cc' nL' ret) (g_R fr' lo' q) q.2.2.1 q.2.2.2 n) (d : decode cc pc = .ok (.invokespecial index, 3)) (hs : ((g_ι z) t).1 b = some (fl, .inr (ci, fs))) (hc : ∃ (T : u_T) (N : Nat), cls[ci]? = some (C, T, N)) (hn : As.length = n) (hst : st = As.reverse ++ .ref b :: rest) (hW : (rest.map fun v => v.category).sum ≤ 8) {fc : Option (Int32 × St)} {k : Int32 → St → Option (α × St)} (hM : ∀ r u, fc = some (r, u) → g_C Γ l y cc' nL' ret fr' lo' (.ref b :: As) ((g_ι z) t).1 ((g_ι z) t).2.1 v_i r (g_ι (z + t.2.1) u)) (kk : ∀ r u, Wf Γ p l e fr lo s m args below meth c nL (g_ι z) vl rF tF (pc + 3) lv (.int r :: rest) u (k r u)) : Wf Γ p l e fr lo s m args below meth c nL (g_ι z) vl rF tF (pc) lv (st) t (gb fc t k) := by
  intro hF
  cases hfc : fc with
  | none => rw [hfc] at hF; cases hF
  | some ru =>
    obtain ⟨r, u⟩ := ru
    rw [hfc] at hF
    have k1 := kk r (u.1, t.2.1 + u.2.1, t.2.2 + u.2.2) hF
    have ht : g_ι z (u.1, t.2.1 + u.2.1, t.2.2 + u.2.2) = ((g_ι (z + t.2.1) u).1, (g_ι (z + t.2.1) u).2.1, (g_ι z t).2.2.1 + (g_ι (z + t.2.1) u).2.2.1, (g_ι z t).2.2.2 + (g_ι (z + t.2.1) u).2.2.2) := by
      simp only [g_ι, Nat.add_assoc]
    have hf : (g_ι z t).2.2.1 + (g_ι (z + t.2.1) u).2.2.1 ≤ (g_ι z tF).2.2.1 ∧ (g_ι z t).2.2.2 + (g_ι (z + t.2.1) u).2.2.2 ≤ (g_ι z tF).2.2.2 := k1.1
    refine ⟨⟨Nat.le_trans (Nat.le_add_right _ _) hf.1, Nat.le_trans (Nat.le_add_right _ _) hf.2⟩, fun H locs ls h1 h2 h3 h4 => ?_⟩
    obtain ⟨T0, N0, hc⟩ := hc
    exact g_back (t := t) (t1 := (u.1, t.2.1 + u.2.1, t.2.2 + u.2.2)) (q := (g_ι (z + t.2.1) u)) (vl' := v_i) (ι := (g_ι z)) ht h3 h4 (va_runSU (X.2.2.2.2.2.2.1.1.1 ci _ hc).2 ⟨X.1, X.2.1, X.2.2.1, X.2.2.2.1, X.2.2.2.2.1⟩ (hM r u hfc) (cw _) ⟨g_blind, g_rcv X.2.2.2.2.2.2.1.1 h1 hs hc, g_pre X h1 h2 h3⟩ rfl hn h4.1 hst (lv_room hW) d hf) (fun H locs ls h1 h2 h3 h4 => k1.2 H locs ls h1 h2 h3 h4)
theorem g_bSU_l {z : Nat} {tF t : St} (X : g_X Γ p s m args meth c cc nL own) (cw : ∀ q : Iv, va_CS (g_R fr lo ((g_ι z) tF)) s args own index y cc' nL' ret (ws_ y cc' nL' ret) (g_R fr' lo' q) q.2.2.1 q.2.2.2 n) (d : decode cc pc = .ok (.invokespecial index, 3)) (hs : ((g_ι z) t).1 b = some (fl, .inr (ci, fs))) (hc : ∃ (T : u_T) (N : Nat), cls[ci]? = some (C, T, N)) (hn : As.length = n) (hst : st = As.reverse ++ .ref b :: rest) (hW : (rest.map fun v => v.category).sum ≤ 8) {fc : Option (Int64 × St)} {k : Int64 → St → Option (α × St)} (hM : ∀ r u, fc = some (r, u) → g_C Γ l y cc' nL' ret fr' lo' (.ref b :: As) ((g_ι z) t).1 ((g_ι z) t).2.1 v_l r (g_ι (z + t.2.1) u)) (kk : ∀ r u, Wf Γ p l e fr lo s m args below meth c nL (g_ι z) vl rF tF (pc + 3) lv (.long r :: rest) u (k r u)) : Wf Γ p l e fr lo s m args below meth c nL (g_ι z) vl rF tF (pc) lv (st) t (gb fc t k) := by
  intro hF
  cases hfc : fc with
  | none => rw [hfc] at hF; cases hF
  | some ru =>
    obtain ⟨r, u⟩ := ru
    rw [hfc] at hF
    have k1 := kk r (u.1, t.2.1 + u.2.1, t.2.2 + u.2.2) hF
    have ht : g_ι z (u.1, t.2.1 + u.2.1, t.2.2 + u.2.2) = ((g_ι (z + t.2.1) u).1, (g_ι (z + t.2.1) u).2.1, (g_ι z t).2.2.1 + (g_ι (z + t.2.1) u).2.2.1, (g_ι z t).2.2.2 + (g_ι (z + t.2.1) u).2.2.2) := by
      simp only [g_ι, Nat.add_assoc]
    have hf : (g_ι z t).2.2.1 + (g_ι (z + t.2.1) u).2.2.1 ≤ (g_ι z tF).2.2.1 ∧ (g_ι z t).2.2.2 + (g_ι (z + t.2.1) u).2.2.2 ≤ (g_ι z tF).2.2.2 := k1.1
    refine ⟨⟨Nat.le_trans (Nat.le_add_right _ _) hf.1, Nat.le_trans (Nat.le_add_right _ _) hf.2⟩, fun H locs ls h1 h2 h3 h4 => ?_⟩
    obtain ⟨T0, N0, hc⟩ := hc
    exact g_back (t := t) (t1 := (u.1, t.2.1 + u.2.1, t.2.2 + u.2.2)) (q := (g_ι (z + t.2.1) u)) (vl' := v_l) (ι := (g_ι z)) ht h3 h4 (va_runSU (X.2.2.2.2.2.2.1.1.1 ci _ hc).2 ⟨X.1, X.2.1, X.2.2.1, X.2.2.2.1, X.2.2.2.2.1⟩ (hM r u hfc) (cw _) ⟨g_blind, g_rcv X.2.2.2.2.2.2.1.1 h1 hs hc, g_pre X h1 h2 h3⟩ rfl hn h4.1 hst (lv_room hW) d hf) (fun H locs ls h1 h2 h3 h4 => k1.2 H locs ls h1 h2 h3 h4)
theorem g_bSU_v {z : Nat} {tF t : St} (X : g_X Γ p s m args meth c cc nL own) (cw : ∀ q : Iv, va_CS (g_R fr lo ((g_ι z) tF)) s args own index y cc' nL' ret (ws_ y cc' nL' ret) (g_R fr' lo' q) q.2.2.1 q.2.2.2 n) (d : decode cc pc = .ok (.invokespecial index, 3)) (hs : ((g_ι z) t).1 b = some (fl, .inr (ci, fs))) (hc : ∃ (T : u_T) (N : Nat), cls[ci]? = some (C, T, N)) (hn : As.length = n) (hst : st = As.reverse ++ .ref b :: rest) (hW : (rest.map fun v => v.category).sum ≤ 8) {fc : Option (Unit × St)} {k : Unit → St → Option (α × St)} (hM : ∀ r u, fc = some (r, u) → g_C Γ l y cc' nL' ret fr' lo' (.ref b :: As) ((g_ι z) t).1 ((g_ι z) t).2.1 v_v r (g_ι (z + t.2.1) u)) (kk : ∀ r u, Wf Γ p l e fr lo s m args below meth c nL (g_ι z) vl rF tF (pc + 3) lv (rest) u (k r u)) : Wf Γ p l e fr lo s m args below meth c nL (g_ι z) vl rF tF (pc) lv (st) t (gb fc t k) := by
  intro hF
  cases hfc : fc with
  | none => rw [hfc] at hF; cases hF
  | some ru =>
    obtain ⟨r, u⟩ := ru
    rw [hfc] at hF
    have k1 := kk r (u.1, t.2.1 + u.2.1, t.2.2 + u.2.2) hF
    have ht : g_ι z (u.1, t.2.1 + u.2.1, t.2.2 + u.2.2) = ((g_ι (z + t.2.1) u).1, (g_ι (z + t.2.1) u).2.1, (g_ι z t).2.2.1 + (g_ι (z + t.2.1) u).2.2.1, (g_ι z t).2.2.2 + (g_ι (z + t.2.1) u).2.2.2) := by
      simp only [g_ι, Nat.add_assoc]
    have hf : (g_ι z t).2.2.1 + (g_ι (z + t.2.1) u).2.2.1 ≤ (g_ι z tF).2.2.1 ∧ (g_ι z t).2.2.2 + (g_ι (z + t.2.1) u).2.2.2 ≤ (g_ι z tF).2.2.2 := k1.1
    refine ⟨⟨Nat.le_trans (Nat.le_add_right _ _) hf.1, Nat.le_trans (Nat.le_add_right _ _) hf.2⟩, fun H locs ls h1 h2 h3 h4 => ?_⟩
    obtain ⟨T0, N0, hc⟩ := hc
    exact g_back (t := t) (t1 := (u.1, t.2.1 + u.2.1, t.2.2 + u.2.2)) (q := (g_ι (z + t.2.1) u)) (vl' := v_v) (ι := (g_ι z)) ht h3 h4 (va_runSU (X.2.2.2.2.2.2.1.1.1 ci _ hc).2 ⟨X.1, X.2.1, X.2.2.1, X.2.2.2.1, X.2.2.2.2.1⟩ (hM r u hfc) (cw _) ⟨g_blind, g_rcv X.2.2.2.2.2.2.1.1 h1 hs hc, g_pre X h1 h2 h3⟩ rfl hn h4.1 hst (lv_room hW) d hf) (fun H locs ls h1 h2 h3 h4 => k1.2 H locs ls h1 h2 h3 h4)
theorem g_bSU_a {z : Nat} {tF t : St} (X : g_X Γ p s m args meth c cc nL own) (cw : ∀ q : Iv, va_CS (g_R fr lo ((g_ι z) tF)) s args own index y cc' nL' ret (ws_ y cc' nL' ret) (g_R fr' lo' q) q.2.2.1 q.2.2.2 n) (d : decode cc pc = .ok (.invokespecial index, 3)) (hs : ((g_ι z) t).1 b = some (fl, .inr (ci, fs))) (hc : ∃ (T : u_T) (N : Nat), cls[ci]? = some (C, T, N)) (hn : As.length = n) (hst : st = As.reverse ++ .ref b :: rest) (hW : (rest.map fun v => v.category).sum ≤ 8) {fc : Option (Nat × St)} {k : Nat → St → Option (α × St)} (hM : ∀ r u, fc = some (r, u) → g_C Γ l y cc' nL' ret fr' lo' (.ref b :: As) ((g_ι z) t).1 ((g_ι z) t).2.1 v_a r (g_ι (z + t.2.1) u)) (kk : ∀ r u, Wf Γ p l e fr lo s m args below meth c nL (g_ι z) vl rF tF (pc + 3) lv (.ref r :: rest) u (k r u)) : Wf Γ p l e fr lo s m args below meth c nL (g_ι z) vl rF tF (pc) lv (st) t (gb fc t k) := by
  intro hF
  cases hfc : fc with
  | none => rw [hfc] at hF; cases hF
  | some ru =>
    obtain ⟨r, u⟩ := ru
    rw [hfc] at hF
    have k1 := kk r (u.1, t.2.1 + u.2.1, t.2.2 + u.2.2) hF
    have ht : g_ι z (u.1, t.2.1 + u.2.1, t.2.2 + u.2.2) = ((g_ι (z + t.2.1) u).1, (g_ι (z + t.2.1) u).2.1, (g_ι z t).2.2.1 + (g_ι (z + t.2.1) u).2.2.1, (g_ι z t).2.2.2 + (g_ι (z + t.2.1) u).2.2.2) := by
      simp only [g_ι, Nat.add_assoc]
    have hf : (g_ι z t).2.2.1 + (g_ι (z + t.2.1) u).2.2.1 ≤ (g_ι z tF).2.2.1 ∧ (g_ι z t).2.2.2 + (g_ι (z + t.2.1) u).2.2.2 ≤ (g_ι z tF).2.2.2 := k1.1
    refine ⟨⟨Nat.le_trans (Nat.le_add_right _ _) hf.1, Nat.le_trans (Nat.le_add_right _ _) hf.2⟩, fun H locs ls h1 h2 h3 h4 => ?_⟩
    obtain ⟨T0, N0, hc⟩ := hc
    exact g_back (t := t) (t1 := (u.1, t.2.1 + u.2.1, t.2.2 + u.2.2)) (q := (g_ι (z + t.2.1) u)) (vl' := v_a) (ι := (g_ι z)) ht h3 h4 (va_runSU (X.2.2.2.2.2.2.1.1.1 ci _ hc).2 ⟨X.1, X.2.1, X.2.2.1, X.2.2.2.1, X.2.2.2.2.1⟩ (hM r u hfc) (cw _) ⟨g_blind, g_rcv X.2.2.2.2.2.2.1.1 h1 hs hc, g_pre X h1 h2 h3⟩ rfl hn h4.1 hst (lv_room hW) d hf) (fun H locs ls h1 h2 h3 h4 => k1.2 H locs ls h1 h2 h3 h4)
theorem g_bF_i {count : Nat} {z : Nat} {tF t : St} (X : g_X Γ p s m args meth c cc nL own) (cw : ∀ q : Iv, va_CI (g_R fr lo ((g_ι z) tF)) s args own C index x y cc' nL' ret (ws_ y cc' nL' ret) (g_R fr' lo' q) q.2.2.1 q.2.2.2 n) (d : decode cc pc = .ok (.invokeinterface index count, 5)) (hs : ((g_ι z) t).1 b = some (fl, .inr (ci, fs))) (hc : ∃ (T : u_T) (N : Nat), cls[ci]? = some (C, T, N)) (hn : As.length = n) (hst : st = As.reverse ++ .ref b :: rest) (hW : (rest.map fun v => v.category).sum ≤ 8) {fc : Option (Int32 × St)} {k : Int32 → St → Option (α × St)} (hM : ∀ r u, fc = some (r, u) → g_C Γ l y cc' nL' ret fr' lo' (.ref b :: As) ((g_ι z) t).1 ((g_ι z) t).2.1 v_i r (g_ι (z + t.2.1) u)) (kk : ∀ r u, Wf Γ p l e fr lo s m args below meth c nL (g_ι z) vl rF tF (pc + 5) lv (.int r :: rest) u (k r u)) : Wf Γ p l e fr lo s m args below meth c nL (g_ι z) vl rF tF (pc) lv (st) t (gb fc t k) := by
  intro hF
  cases hfc : fc with
  | none => rw [hfc] at hF; cases hF
  | some ru =>
    obtain ⟨r, u⟩ := ru
    rw [hfc] at hF
    have k1 := kk r (u.1, t.2.1 + u.2.1, t.2.2 + u.2.2) hF
    have ht : g_ι z (u.1, t.2.1 + u.2.1, t.2.2 + u.2.2) = ((g_ι (z + t.2.1) u).1, (g_ι (z + t.2.1) u).2.1, (g_ι z t).2.2.1 + (g_ι (z + t.2.1) u).2.2.1, (g_ι z t).2.2.2 + (g_ι (z + t.2.1) u).2.2.2) := by
      simp only [g_ι, Nat.add_assoc]
    have hf : (g_ι z t).2.2.1 + (g_ι (z + t.2.1) u).2.2.1 ≤ (g_ι z tF).2.2.1 ∧ (g_ι z t).2.2.2 + (g_ι (z + t.2.1) u).2.2.2 ≤ (g_ι z tF).2.2.2 := k1.1
    refine ⟨⟨Nat.le_trans (Nat.le_add_right _ _) hf.1, Nat.le_trans (Nat.le_add_right _ _) hf.2⟩, fun H locs ls h1 h2 h3 h4 => ?_⟩
    obtain ⟨T0, N0, hc⟩ := hc
    exact g_back5 (t := t) (t1 := (u.1, t.2.1 + u.2.1, t.2.2 + u.2.2)) (q := (g_ι (z + t.2.1) u)) (vl' := v_i) (ι := (g_ι z)) ht h3 h4 (va_runF (X.2.2.2.2.2.2.1.1.1 ci _ hc).2 ⟨X.1, X.2.1, X.2.2.1, X.2.2.2.1, X.2.2.2.2.1⟩ (hM r u hfc) (cw _) ⟨g_blind, g_rcv X.2.2.2.2.2.2.1.1 h1 hs hc, g_pre X h1 h2 h3⟩ rfl hn h4.1 hst (lv_room hW) d hf) (fun H locs ls h1 h2 h3 h4 => k1.2 H locs ls h1 h2 h3 h4)
theorem g_bF_l {count : Nat} {z : Nat} {tF t : St} (X : g_X Γ p s m args meth c cc nL own) (cw : ∀ q : Iv, va_CI (g_R fr lo ((g_ι z) tF)) s args own C index x y cc' nL' ret (ws_ y cc' nL' ret) (g_R fr' lo' q) q.2.2.1 q.2.2.2 n) (d : decode cc pc = .ok (.invokeinterface index count, 5)) (hs : ((g_ι z) t).1 b = some (fl, .inr (ci, fs))) (hc : ∃ (T : u_T) (N : Nat), cls[ci]? = some (C, T, N)) (hn : As.length = n) (hst : st = As.reverse ++ .ref b :: rest) (hW : (rest.map fun v => v.category).sum ≤ 8) {fc : Option (Int64 × St)} {k : Int64 → St → Option (α × St)} (hM : ∀ r u, fc = some (r, u) → g_C Γ l y cc' nL' ret fr' lo' (.ref b :: As) ((g_ι z) t).1 ((g_ι z) t).2.1 v_l r (g_ι (z + t.2.1) u)) (kk : ∀ r u, Wf Γ p l e fr lo s m args below meth c nL (g_ι z) vl rF tF (pc + 5) lv (.long r :: rest) u (k r u)) : Wf Γ p l e fr lo s m args below meth c nL (g_ι z) vl rF tF (pc) lv (st) t (gb fc t k) := by
  intro hF
  cases hfc : fc with
  | none => rw [hfc] at hF; cases hF
  | some ru =>
    obtain ⟨r, u⟩ := ru
    rw [hfc] at hF
    have k1 := kk r (u.1, t.2.1 + u.2.1, t.2.2 + u.2.2) hF
    have ht : g_ι z (u.1, t.2.1 + u.2.1, t.2.2 + u.2.2) = ((g_ι (z + t.2.1) u).1, (g_ι (z + t.2.1) u).2.1, (g_ι z t).2.2.1 + (g_ι (z + t.2.1) u).2.2.1, (g_ι z t).2.2.2 + (g_ι (z + t.2.1) u).2.2.2) := by
      simp only [g_ι, Nat.add_assoc]
    have hf : (g_ι z t).2.2.1 + (g_ι (z + t.2.1) u).2.2.1 ≤ (g_ι z tF).2.2.1 ∧ (g_ι z t).2.2.2 + (g_ι (z + t.2.1) u).2.2.2 ≤ (g_ι z tF).2.2.2 := k1.1
    refine ⟨⟨Nat.le_trans (Nat.le_add_right _ _) hf.1, Nat.le_trans (Nat.le_add_right _ _) hf.2⟩, fun H locs ls h1 h2 h3 h4 => ?_⟩
    obtain ⟨T0, N0, hc⟩ := hc
    exact g_back5 (t := t) (t1 := (u.1, t.2.1 + u.2.1, t.2.2 + u.2.2)) (q := (g_ι (z + t.2.1) u)) (vl' := v_l) (ι := (g_ι z)) ht h3 h4 (va_runF (X.2.2.2.2.2.2.1.1.1 ci _ hc).2 ⟨X.1, X.2.1, X.2.2.1, X.2.2.2.1, X.2.2.2.2.1⟩ (hM r u hfc) (cw _) ⟨g_blind, g_rcv X.2.2.2.2.2.2.1.1 h1 hs hc, g_pre X h1 h2 h3⟩ rfl hn h4.1 hst (lv_room hW) d hf) (fun H locs ls h1 h2 h3 h4 => k1.2 H locs ls h1 h2 h3 h4)
theorem g_bF_v {count : Nat} {z : Nat} {tF t : St} (X : g_X Γ p s m args meth c cc nL own) (cw : ∀ q : Iv, va_CI (g_R fr lo ((g_ι z) tF)) s args own C index x y cc' nL' ret (ws_ y cc' nL' ret) (g_R fr' lo' q) q.2.2.1 q.2.2.2 n) (d : decode cc pc = .ok (.invokeinterface index count, 5)) (hs : ((g_ι z) t).1 b = some (fl, .inr (ci, fs))) (hc : ∃ (T : u_T) (N : Nat), cls[ci]? = some (C, T, N)) (hn : As.length = n) (hst : st = As.reverse ++ .ref b :: rest) (hW : (rest.map fun v => v.category).sum ≤ 8) {fc : Option (Unit × St)} {k : Unit → St → Option (α × St)} (hM : ∀ r u, fc = some (r, u) → g_C Γ l y cc' nL' ret fr' lo' (.ref b :: As) ((g_ι z) t).1 ((g_ι z) t).2.1 v_v r (g_ι (z + t.2.1) u)) (kk : ∀ r u, Wf Γ p l e fr lo s m args below meth c nL (g_ι z) vl rF tF (pc + 5) lv (rest) u (k r u)) : Wf Γ p l e fr lo s m args below meth c nL (g_ι z) vl rF tF (pc) lv (st) t (gb fc t k) := by
  intro hF
  cases hfc : fc with
  | none => rw [hfc] at hF; cases hF
  | some ru =>
    obtain ⟨r, u⟩ := ru
    rw [hfc] at hF
    have k1 := kk r (u.1, t.2.1 + u.2.1, t.2.2 + u.2.2) hF
    have ht : g_ι z (u.1, t.2.1 + u.2.1, t.2.2 + u.2.2) = ((g_ι (z + t.2.1) u).1, (g_ι (z + t.2.1) u).2.1, (g_ι z t).2.2.1 + (g_ι (z + t.2.1) u).2.2.1, (g_ι z t).2.2.2 + (g_ι (z + t.2.1) u).2.2.2) := by
      simp only [g_ι, Nat.add_assoc]
    have hf : (g_ι z t).2.2.1 + (g_ι (z + t.2.1) u).2.2.1 ≤ (g_ι z tF).2.2.1 ∧ (g_ι z t).2.2.2 + (g_ι (z + t.2.1) u).2.2.2 ≤ (g_ι z tF).2.2.2 := k1.1
    refine ⟨⟨Nat.le_trans (Nat.le_add_right _ _) hf.1, Nat.le_trans (Nat.le_add_right _ _) hf.2⟩, fun H locs ls h1 h2 h3 h4 => ?_⟩
    obtain ⟨T0, N0, hc⟩ := hc
    exact g_back5 (t := t) (t1 := (u.1, t.2.1 + u.2.1, t.2.2 + u.2.2)) (q := (g_ι (z + t.2.1) u)) (vl' := v_v) (ι := (g_ι z)) ht h3 h4 (va_runF (X.2.2.2.2.2.2.1.1.1 ci _ hc).2 ⟨X.1, X.2.1, X.2.2.1, X.2.2.2.1, X.2.2.2.2.1⟩ (hM r u hfc) (cw _) ⟨g_blind, g_rcv X.2.2.2.2.2.2.1.1 h1 hs hc, g_pre X h1 h2 h3⟩ rfl hn h4.1 hst (lv_room hW) d hf) (fun H locs ls h1 h2 h3 h4 => k1.2 H locs ls h1 h2 h3 h4)
theorem g_bF_a {count : Nat} {z : Nat} {tF t : St} (X : g_X Γ p s m args meth c cc nL own) (cw : ∀ q : Iv, va_CI (g_R fr lo ((g_ι z) tF)) s args own C index x y cc' nL' ret (ws_ y cc' nL' ret) (g_R fr' lo' q) q.2.2.1 q.2.2.2 n) (d : decode cc pc = .ok (.invokeinterface index count, 5)) (hs : ((g_ι z) t).1 b = some (fl, .inr (ci, fs))) (hc : ∃ (T : u_T) (N : Nat), cls[ci]? = some (C, T, N)) (hn : As.length = n) (hst : st = As.reverse ++ .ref b :: rest) (hW : (rest.map fun v => v.category).sum ≤ 8) {fc : Option (Nat × St)} {k : Nat → St → Option (α × St)} (hM : ∀ r u, fc = some (r, u) → g_C Γ l y cc' nL' ret fr' lo' (.ref b :: As) ((g_ι z) t).1 ((g_ι z) t).2.1 v_a r (g_ι (z + t.2.1) u)) (kk : ∀ r u, Wf Γ p l e fr lo s m args below meth c nL (g_ι z) vl rF tF (pc + 5) lv (.ref r :: rest) u (k r u)) : Wf Γ p l e fr lo s m args below meth c nL (g_ι z) vl rF tF (pc) lv (st) t (gb fc t k) := by
  intro hF
  cases hfc : fc with
  | none => rw [hfc] at hF; cases hF
  | some ru =>
    obtain ⟨r, u⟩ := ru
    rw [hfc] at hF
    have k1 := kk r (u.1, t.2.1 + u.2.1, t.2.2 + u.2.2) hF
    have ht : g_ι z (u.1, t.2.1 + u.2.1, t.2.2 + u.2.2) = ((g_ι (z + t.2.1) u).1, (g_ι (z + t.2.1) u).2.1, (g_ι z t).2.2.1 + (g_ι (z + t.2.1) u).2.2.1, (g_ι z t).2.2.2 + (g_ι (z + t.2.1) u).2.2.2) := by
      simp only [g_ι, Nat.add_assoc]
    have hf : (g_ι z t).2.2.1 + (g_ι (z + t.2.1) u).2.2.1 ≤ (g_ι z tF).2.2.1 ∧ (g_ι z t).2.2.2 + (g_ι (z + t.2.1) u).2.2.2 ≤ (g_ι z tF).2.2.2 := k1.1
    refine ⟨⟨Nat.le_trans (Nat.le_add_right _ _) hf.1, Nat.le_trans (Nat.le_add_right _ _) hf.2⟩, fun H locs ls h1 h2 h3 h4 => ?_⟩
    obtain ⟨T0, N0, hc⟩ := hc
    exact g_back5 (t := t) (t1 := (u.1, t.2.1 + u.2.1, t.2.2 + u.2.2)) (q := (g_ι (z + t.2.1) u)) (vl' := v_a) (ι := (g_ι z)) ht h3 h4 (va_runF (X.2.2.2.2.2.2.1.1.1 ci _ hc).2 ⟨X.1, X.2.1, X.2.2.1, X.2.2.2.1, X.2.2.2.2.1⟩ (hM r u hfc) (cw _) ⟨g_blind, g_rcv X.2.2.2.2.2.2.1.1 h1 hs hc, g_pre X h1 h2 h3⟩ rfl hn h4.1 hst (lv_room hW) d hf) (fun H locs ls h1 h2 h3 h4 => k1.2 H locs ls h1 h2 h3 h4)
end GK
