/-! rows of the walk: the heap, by evidence about the store; returns; a method's entry; calls (printed by gen/heap.py) -/
set_option maxRecDepth 100000
abbrev v_i : Int32 → Option Value := fun x => some (.int x)
abbrev v_l : Int64 → Option Value := fun x => some (.long x)
abbrev v_v : Unit → Option Value := fun _ => none
abbrev v_a : Nat → Option Value := fun a => some (.ref a)
abbrev v_q : Option Nat → Option Value := fun a => some (va_rf a)
/-- one cell is written -/
theorem g_H.set {Γ : Gc} {σ : Sg} {H H1 : Heap} {a : Nat} {x y : Bool × va_E} (h : g_H Γ σ H) (hs : σ a = some x) (hy : y.1 = x.1) (he : va_at Γ.1 cls (a, g_e Γ.2.1 y.2) H1) (oq : ∀ q : Nat, q ≠ a → H1[q]? = H[q]?) : g_H Γ (g_u σ a y) H1 := by
  intro q z hz
  by_cases hq : q = a
  · subst hq
    rw [g_u_self] at hz
    cases hz
    exact ⟨g_at.of he, fun h9 => (h q x hs).2 (by rw [← hy]; exact h9)⟩
  · rw [g_u_ne _ _ hq] at hz
    exact ⟨(h q z hz).1.kept (oq q hq), (h q z hz).2⟩
/-- one cell is made -/
theorem g_H.push {Γ : Gc} {σ : Sg} {H H1 : Heap} {y : Bool × va_E} (h : g_H Γ σ H) (hb : Γ.2.2.1 ≤ H.size) (he : va_at Γ.1 cls (H.size, g_e Γ.2.1 y.2) H1) (oq : ∀ q : Nat, q < H.size → H1[q]? = H[q]?) : g_H Γ (g_u σ H.size y) H1 := by
  intro q z hz
  by_cases hq : q = H.size
  · subst hq
    rw [g_u_self] at hz
    cases hz
    exact ⟨g_at.of he, fun _ => hb⟩
  · rw [g_u_ne _ _ hq] at hz
    exact ⟨(h q z hz).1.kept (oq q (h q z hz).1.lt), (h q z hz).2⟩
/-- a field's link, read: for every class of cs it is the field k -/
def g_fo (own : String) (index : Nat) (cs : List Nat) (k : Nat) : Prop := ∃ ref nm ds : String, (Cond.fieldLink own index ref nm ds ∈ lw_all ∨ ∃ host, Cond.fieldLinkNest own index ref nm ds host ∈ lw_tbl) ∧
  ∀ ci ∈ cs, ∃ (C : String) (T : u_T) (N : Nat), cls[ci]? = some (C, T, N) ∧ k < N ∧ (T k).2.1 = nm ∧ (T k).2.2.1 = ds ∧ ((T k).1 = ref ∨ Cond.sameField ref (T k).1 nm ds ∈ lw_all) ∧ ∀ w ∈ u_ws C T N, w ∈ lw_all
/-- a field's link, written -/
def g_fp (own : String) (index : Nat) (cs : List Nat) (k : Nat) (ty : FieldType) (fin : Bool) : Prop := ∃ ref nm ds : String, (Cond.fieldLink own index ref nm ds ∈ lw_all ∨ (fin = false ∧ ∃ host, Cond.fieldLinkNest own index ref nm ds host ∈ lw_tbl)) ∧ parseFieldDescriptor ds = some ty ∧
  ∀ ci ∈ cs, ∃ (C : String) (T : u_T) (N : Nat) (ty0 : Nat → FieldType), cls[ci]? = some (C, T, N) ∧ k < N ∧ (T k).2.1 = nm ∧ (T k).2.2.1 = ds ∧ ((T k).1 = ref ∨ Cond.sameField ref (T k).1 nm ds ∈ lw_all) ∧ (∀ w ∈ u_ws C T N, w ∈ lw_all) ∧ (T k).2.2.2 = fin ∧ (fin = true → (T k).1 = own) ∧ (∀ j, j < N → parseFieldDescriptor (T j).2.2.1 = some (ty0 j)) ∧ ∀ j, j < N → j ≠ k → (T j).2.1 ≠ nm
theorem g_same {s : State} {args : Array Value} (hts : ∀ w ∈ lw_all, w.before args s = true) {O ref nm ds : String} (h : O = ref ∨ Cond.sameField ref O nm ds ∈ lw_all) : ∀ x, s.fieldFound? O nm ds = some x → s.fieldFound? ref nm ds = some x := by
  rcases h with h | h
  · subst h; exact fun x h => h
  · exact fun x hx => u_same (hts _ h) x hx
theorem g_set1 {cell : Cell} {N : Nat} {iS : Nat → Nat} {V : Nat → Value} (h : ∀ k, k < N → cell.slots[iS k]? = some (V k)) {k : Nat} (hk : k < N) (hap : ∀ j, j < N → j ≠ k → iS k ≠ iS j) (v : Value) : ∀ j, j < N → (cell.setSlot (iS k) v).slots[iS j]? = some (updV V k v j) := by
  intro j hj
  by_cases hjk : j = k
  · subst hjk
    rw [Cell.slots_setSlot_self _ (k2_hasslot (h j hj))]
    simp [updV]
  · rw [slot_ne _ _ (hap j hj hjk), h j hj]
    simp [updV, hjk]
section GH
variable {Γ : Gc} {p : Program} {l : Launch} {e : Env} {fr lo : Nat} {s : State} {m : MethodId} {args : Array Value} {below : List Frame} {meth : Method} {c : Code} {nL : Nat} {α τ : Type} {ι : τ → Iv} {vl : α → Option Value} {rF : α} {tF : τ} {pc : Nat} {lv lv' : List (Nat × Value)} {st rest : List Value} {t t' : τ} {F F1 F2 : Option (α × τ)} {cc : ByteArray} {own : String}
theorem g_iret (X : g_X Γ p s m args meth c cc nL own) (hr : meth.sig.returnType = some .int) {x : Int32} (d : decode cc pc = .ok (.ireturn, 1)) {rF : Int32} : Wf Γ p l e fr lo s m args below meth c nL ι v_i rF tF (pc) (lv) ([.int x]) t (some (x, t)) := by
  intro hF
  obtain ⟨rfl, rfl⟩ : x = rF ∧ t = tF := by simpa using hF
  exact ⟨⟨Nat.le_refl _, Nat.le_refl _⟩, fun H locs ls h1 h2 h3 h4 => g_mq (W.iret X.1 X.2.1 hr (fun u hu hW => ⟨rfl, by rw [hu]; exact h1, by rw [hu]; exact h2, h3.F hu⟩) h3.2.2 d X.2.2.2.2.2.1)⟩
theorem g_zret (X : g_X Γ p s m args meth c cc nL own) {ty : FieldType} (hr : meth.sig.returnType = some ty) {x : Int32} (hn : narrow ty (.int x) = .int x) (d : decode cc pc = .ok (.ireturn, 1)) {rF : Int32} : Wf Γ p l e fr lo s m args below meth c nL ι v_i rF tF (pc) (lv) ([.int x]) t (some (x, t)) := by
  intro hF
  obtain ⟨rfl, rfl⟩ : x = rF ∧ t = tF := by simpa using hF
  exact ⟨⟨Nat.le_refl _, Nat.le_refl _⟩, fun H locs ls h1 h2 h3 h4 => g_mq (W.zret X.1 X.2.1 hr hn (fun u hu hW => ⟨rfl, by rw [hu]; exact h1, by rw [hu]; exact h2, h3.F hu⟩) h3.2.2 d X.2.2.2.2.2.1)⟩
/-- a truth value is answered: F says so -/
theorem g_bret (X : g_X Γ p s m args meth c cc nL own) (hr : meth.sig.returnType = some .boolean) {x : Int32} (d : decode cc pc = .ok (.ireturn, 1)) {rF : Int32} : Wf Γ p l e fr lo s m args below meth c nL ι v_i rF tF (pc) (lv) ([.int x]) t (if x = 0 ∨ x = 1 then some (x, t) else none) := by
  intro hF
  by_cases h : x = 0 ∨ x = 1
  · rw [if_pos h] at hF
    exact g_zret X hr (by rcases h with h | h <;> subst h <;> rfl) d hF
  · rw [if_neg h] at hF; cases hF
theorem g_lret (X : g_X Γ p s m args meth c cc nL own) (hr : meth.sig.returnType = some .long) {x : Int64} (d : decode cc pc = .ok (.lreturn, 1)) {rF : Int64} : Wf Γ p l e fr lo s m args below meth c nL ι v_l rF tF (pc) (lv) ([.long x]) t (some (x, t)) := by
  intro hF
  obtain ⟨rfl, rfl⟩ : x = rF ∧ t = tF := by simpa using hF
  exact ⟨⟨Nat.le_refl _, Nat.le_refl _⟩, fun H locs ls h1 h2 h3 h4 => g_mq (W.lret X.1 X.2.1 hr (fun u hu hW => ⟨rfl, by rw [hu]; exact h1, by rw [hu]; exact h2, h3.F hu⟩) h3.2.2 d X.2.2.2.2.2.1)⟩
theorem g_vret (X : g_X Γ p s m args meth c cc nL own) (hr : meth.sig.returnType = none) (d : decode cc pc = .ok (.return_, 1)) {rF : Unit} : Wf Γ p l e fr lo s m args below meth c nL ι v_v rF tF (pc) (lv) ([]) t (some ((), t)) := by
  intro hF
  obtain rfl : t = tF := by simpa using hF
  exact ⟨⟨Nat.le_refl _, Nat.le_refl _⟩, fun H locs ls h1 h2 h3 h4 => g_mq (W.vret X.1 X.2.1 hr (fun u hu hW => ⟨rfl, by rw [hu]; exact h1, by rw [hu]; exact h2, h3.F hu⟩) h3.2.2 d X.2.2.2.2.2.1)⟩
theorem g_aret (X : g_X Γ p s m args meth c cc nL own) {rt : FieldType} (hr : meth.sig.returnType = some rt) (hrt : (∃ n, rt = .object n) ∨ ∃ t, rt = .array t) {x : Nat} (d : decode cc pc = .ok (.areturn, 1)) {rF : Nat} : Wf Γ p l e fr lo s m args below meth c nL ι v_a rF tF (pc) (lv) ([.ref x]) t (some (x, t)) := by
  intro hF
  obtain ⟨rfl, rfl⟩ : x = rF ∧ t = tF := by simpa using hF
  exact ⟨⟨Nat.le_refl _, Nat.le_refl _⟩, fun H locs ls h1 h2 h3 h4 => g_mq (W.aret X.1 X.2.1 hr hrt (Or.inr ⟨_, rfl⟩) (fun u hu hW => ⟨rfl, by rw [hu]; exact h1, by rw [hu]; exact h2, h3.F hu⟩) h3.2.2 d X.2.2.2.2.2.1)⟩
/-- getfield -/
theorem g_getE (X : g_X Γ p s m args meth c cc nL own) {index k : Nat} {cs : List Nat} (fo : g_fo own index cs k) {a ci : Nat} {fl : Bool} {fs : List Value} {v : Value} (d : decode cc pc = .ok (.getfield index, 3)) (hs : (ι t).1 a = some (fl, .inr (ci, fs))) (hci : ci ∈ cs) (hv : fs[k]? = some v) (kk : Wf Γ p l e fr lo s m args below meth c nL ι vl rF tF (pc + 3) (lv) (v :: rest) t F) : Wf Γ p l e fr lo s m args below meth c nL ι vl rF tF (pc) (lv) (.ref a :: rest) t F := by
  intro hF
  refine ⟨(kk hF).1, fun H locs ls h1 h2 h3 h4 => ?_⟩
  obtain ⟨ref, nm, ds, hl, hc⟩ := fo
  obtain ⟨C, T, N, e1, hk, e2, e3, e4, e5⟩ := hc ci hci
  subst e2 e3
  have hts := X.2.2.2.2.1
  obtain ⟨r, g1, cell, q1, q2, -, q3, q4⟩ := (h1 a _ hs).1.2
  have hr : r = (C, T, N) := Option.some.inj (g1.symm.trans e1)
  subst hr
  obtain ⟨hS, hfc, kC, hkC, hkind⟩ := X.2.2.2.2.2.2.1.1.1 ci _ e1
  obtain ⟨cf, kf, fi, f, hi, hsl⟩ := hS k hk
  have hvv : cell.slots[f.slot]? = some v := by
    rw [hsl, q4 k hk]
    simp [vp_V, hv]
  rcases hl with hl | ⟨host, hl⟩
  · exact W.getf X.1 X.2.1 X.2.2.2.1 (hts _ hl) (g_same hts e4 _ hi) (u_facts hfc hkC (u_lays hts e5 hk) hi).1 q1 q3 hvv rfl rfl d ((kk hF).2 H locs ls h1 h2 h3 h4)
  · exact va_Wgetf X.1 X.2.1 X.2.2.2.1 (X.2.2.2.2.2.2.1.nestF hl args) (g_same hts e4 _ hi) (u_facts hfc hkC (u_lays hts e5 hk) hi).1 q1 q3 hvv rfl rfl d ((kk hF).2 H locs ls h1 h2 h3 h4)
/-- putfield -/
theorem g_putE (X : g_X Γ p s m args meth c cc nL own) {index k : Nat} {cs : List Nat} {ty : FieldType} {fin : Bool} (fp : g_fp own index cs k ty fin) {a ci : Nat} {fs : List Value} {v : Value} (d : decode cc pc = .ok (.putfield index, 3)) (hin : fin = true → meth.name = "<init>") (hn : narrow ty v = v) (hfit : fits ty v = true) (hs : (ι t).1 a = some (true, .inr (ci, fs))) (hci : ci ∈ cs) (hlen : k < fs.length) (ht : ι t' = (g_u (ι t).1 a (true, .inr (ci, fs.set k v)), (ι t).2)) (kk : Wf Γ p l e fr lo s m args below meth c nL ι vl rF tF (pc + 3) (lv) (rest) t' F) : Wf Γ p l e fr lo s m args below meth c nL ι vl rF tF (pc) (lv) (v :: .ref a :: rest) t F := by
  intro hF
  have k1 := kk hF
  rw [ht] at k1
  refine ⟨k1.1, fun H locs ls h1 h2 h3 h4 => ?_⟩
  obtain ⟨ref, nm, ds, hl, hd, hc⟩ := fp
  obtain ⟨C, T, N, ty0, e1, hk, e2, e3, e4, e5, e6, e7, e8, e9⟩ := hc ci hci
  subst e2 e3
  have hts := X.2.2.2.2.1
  have hown := X.2.2.2.1
  have hK := X.2.2.2.2.2.2.1.1
  have hap : ∀ j, j < N → j ≠ k → (Γ.1.2 ci) k ≠ (Γ.1.2 ci) j := by
    intro j hj hjk
    obtain ⟨hS, -⟩ := hK.1 ci _ e1
    obtain ⟨_, _, _, fa, hia, ea⟩ := hS k hk
    obtain ⟨_, _, _, fb, hib, eb⟩ := hS j hj
    rw [← ea, ← eb]
    refine u_apart (u_lays hts e5 hk) (u_lays hts e5 hj) hia hib ?_
    rw [(State.fieldFound?_type hia (e8 k hk)).1, (State.fieldFound?_type hib (e8 j hj)).1]
    exact fun h => e9 j hj hjk h.symm
  obtain ⟨r, g1, cell, q1, q2, q3, q4⟩ := h1.ex hs
  have hr : r = (C, T, N) := Option.some.inj (g1.symm.trans e1)
  subst hr
  obtain ⟨hS, hfc, kC, hkC, hkind⟩ := hK.1 ci _ e1
  obtain ⟨cf, kf, fi, f, hi, hsl⟩ := hS k hk
  have hlay := hts _ (e5 _ (u_in_lay hk))
  have hst := (u_facts hfc hkC (u_lays hts e5 hk) hi).1
  have hA : Γ.2.2.1 ≤ a := (h1 a _ hs).2 rfl
  have fin1 : ∀ H' : Heap, H'[a]? = some (cell.setSlot f.slot v) → H'.size = H.size → (∀ q, q ≠ a → H'[q]? = H[q]?) → W p l e (g_R fr lo (ι tF)) s m args below meth c H' (locs ++ [⟨a, f.slot⟩]) (ι t).2.2.1 (ι t).2.2.2 (MZ Γ below vl rF (ι tF) args s) (F0 m (pc + 3) ls rest) := by
    intro H' f1 f2 f3
    rw [hsl] at f1 ⊢
    refine k1.2 H' _ ls (h1.set (y := (true, .inr (ci, fs.set k v))) hs rfl ⟨_, e1, t_OB.to (V := updV (vp_V fs) k v) ⟨_, f1, q2, q3, g_set1 q4 hk hap v⟩ (fun j _ => vp_updV_set hlen v j)⟩ f3) (f2.trans h2) (h3.put f2 f3 hA) h4
  unfold u_lay at hlay
  cases hfin : fin with
  | false =>
    rw [if_neg (by rw [e6, hfin]; decide)] at hlay
    have h6 := u_store hfc hkC hkind hlay hi hd hn hfit
    rcases hl with hl | ⟨-, host, hl⟩
    · exact W.putK X.1 X.2.1 (f := f) ⟨hown, hts _ hl, ⟨_, _, _, g_same hts e4 _ hi⟩, hst⟩ (by rw [q2]; exact h6) q1 q3 (by rw [hsl]; exact k2_hasslot (q4 k hk)) rfl rfl d fin1
    · exact va_WputK X.1 X.2.1 (f := f) hown (X.2.2.2.2.2.2.1.nestF hl args) (g_same hts e4 _ hi) hst (by rw [q2]; exact h6) q1 q3 (by rw [hsl]; exact k2_hasslot (q4 k hk)) rfl rfl d fin1
  | true =>
    rw [if_pos (by rw [e6, hfin])] at hlay
    have hcf : m.cls = cf := by
      obtain ⟨_, _, c', _, _, _, -, -, hf', -, -, -, hown2, -⟩ := Cond.laysFinal_spec hlay
      have g1 : c' = cf := by have := hi.symm.trans hf'; simp at this; exact this.1.symm
      rw [e7 hfin] at hown2
      rw [← g1]; exact Option.some.inj (hown.symm.trans hown2)
    have h6 := u_fits hfc hkC hkind (Or.inr hlay) hi hd hn hfit
    rcases hl with hl | ⟨h9, -⟩
    · exact W.putFinK X.1 X.2.1 hown (hts _ hl) (g_same hts e4 _ hi) hst hcf (hin hfin) (by rw [q2]; exact h6) q1 q3 (by rw [hsl]; exact k2_hasslot (q4 k hk)) rfl rfl d fin1
    · rw [hfin] at h9; cases h9
theorem g_ialdE (X : g_X Γ p s m args meth c cc nL own) {a n : Nat} {fl : Bool} {f : Nat → Int32} {i : Int32} (d : decode cc pc = .ok (.iaload, 1)) (hs : (ι t).1 a = some (fl, .inl (2, n, .inl f))) (hin : ¬ (i < 0 ∨ n ≤ i.toNatClampNeg)) (kk : Wf Γ p l e fr lo s m args below meth c nL ι vl rF tF (pc + 1) (lv) (.int (f i.toNatClampNeg) :: rest) t F) : Wf Γ p l e fr lo s m args below meth c nL ι vl rF tF (pc) (lv) (.int i :: .ref a :: rest) t F :=
  fun hF => ⟨(kk hF).1, fun H locs ls h1 h2 h3 h4 => by
    obtain ⟨cell, q1, q2, q3, q4, q5, q6, q7⟩ := g_wkA h1 hs
    have hlt : i.toNatClampNeg < n := Nat.not_le.mp fun q => hin (Or.inr q)
    exact W.iald (v := .int (f i.toNatClampNeg)) X.1 X.2.1 q1 (g_isO X.2.2.2.2.2.2.1 (j := 2) rfl q2 q3) q4 (fun h => hin (h.imp id (Nat.le_trans q5))) (by rw [q7 _ hlt]; show (arrV _ _ _).slots[_]? = _; rw [arrV_read _ _ hlt]) rfl rfl d ((kk hF).2 H locs ls h1 h2 h3 h4)⟩
theorem g_iastE (X : g_X Γ p s m args meth c cc nL own) {a n : Nat} {f : Nat → Int32} {i : Int32} {x : Int32} (d : decode cc pc = .ok (.iastore, 1)) (hs : (ι t).1 a = some (true, .inl (2, n, .inl f))) (hin : ¬ (i < 0 ∨ n ≤ i.toNatClampNeg)) (ht : ι t' = (g_u (ι t).1 a (true, .inl (2, n, .inl (upd f i.toNatClampNeg x))), (ι t).2)) (kk : Wf Γ p l e fr lo s m args below meth c nL ι vl rF tF (pc + 1) (lv) (rest) t' F) : Wf Γ p l e fr lo s m args below meth c nL ι vl rF tF (pc) (lv) (.int x :: .int i :: .ref a :: rest) t F := by
  intro hF
  have k1 := kk hF
  rw [ht] at k1
  refine ⟨k1.1, fun H locs ls h1 h2 h3 h4 => ?_⟩
  refine W.iast X.1 X.2.1 (h1.ex hs) ((X.2.2.2.2.2.2.1.1.2 2 _ rfl).1 n (fun j => .int (f j))) (fun q => by cases q) (by show ¬ (i < 0 ∨ (arrV _ _ _).slots.size ≤ _); rw [arrV_size]; exact hin) rfl rfl d fun H1 e1 z oq => ?_
  refine k1.2 H1 _ ls (h1.set hs rfl ?_ oq) (z.trans h2) (h3.put z oq ((h1 a _ hs).2 rfl)) h4
  show H1[a]? = some (vp_cell _ _)
  rw [e1]
  show some ((vp_cell _ (n, _)).setSlot _ _) = _
  rw [vp_cell_i, vp_cell_i, arrV_store]
  congr 2
  funext q
  by_cases hq : q = i.toNatClampNeg
  · subst hq
    simp [updV, upd, vp_nar]
    try rfl
  · simp [updV, upd, hq]
theorem g_baldE (X : g_X Γ p s m args meth c cc nL own) {a n : Nat} {fl : Bool} {f : Nat → Int32} {i : Int32} (d : decode cc pc = .ok (.baload, 1)) (hs : (ι t).1 a = some (fl, .inl (0, n, .inl f))) (hin : ¬ (i < 0 ∨ n ≤ i.toNatClampNeg)) (kk : Wf Γ p l e fr lo s m args below meth c nL ι vl rF tF (pc + 1) (lv) (.int (f i.toNatClampNeg) :: rest) t F) : Wf Γ p l e fr lo s m args below meth c nL ι vl rF tF (pc) (lv) (.int i :: .ref a :: rest) t F :=
  fun hF => ⟨(kk hF).1, fun H locs ls h1 h2 h3 h4 => by
    obtain ⟨cell, q1, q2, q3, q4, q5, q6, q7⟩ := g_wkA h1 hs
    have hlt : i.toNatClampNeg < n := Nat.not_le.mp fun q => hin (Or.inr q)
    exact W.bald (v := .int (f i.toNatClampNeg)) X.1 X.2.1 q1 (g_isO X.2.2.2.2.2.2.1 (j := 0) rfl q2 q3) q4 (fun h => hin (h.imp id (Nat.le_trans q5))) (by rw [q7 _ hlt]; show (arrV _ _ _).slots[_]? = _; rw [arrV_read _ _ hlt]) rfl rfl d ((kk hF).2 H locs ls h1 h2 h3 h4)⟩
theorem g_bastE (X : g_X Γ p s m args meth c cc nL own) {a n : Nat} {f : Nat → Int32} {i : Int32} {x : Int32} (d : decode cc pc = .ok (.bastore, 1)) (hs : (ι t).1 a = some (true, .inl (0, n, .inl f))) (hin : ¬ (i < 0 ∨ n ≤ i.toNatClampNeg)) (ht : ι t' = (g_u (ι t).1 a (true, .inl (0, n, .inl (upd f i.toNatClampNeg (vp_nar .byte x)))), (ι t).2)) (kk : Wf Γ p l e fr lo s m args below meth c nL ι vl rF tF (pc + 1) (lv) (rest) t' F) : Wf Γ p l e fr lo s m args below meth c nL ι vl rF tF (pc) (lv) (.int x :: .int i :: .ref a :: rest) t F := by
  intro hF
  have k1 := kk hF
  rw [ht] at k1
  refine ⟨k1.1, fun H locs ls h1 h2 h3 h4 => ?_⟩
  refine W.bast X.1 X.2.1 (h1.ex hs) ((X.2.2.2.2.2.2.1.1.2 0 _ rfl).1 n (fun j => .int (f j))) (fun q => by cases q) (by show ¬ (i < 0 ∨ (arrV _ _ _).slots.size ≤ _); rw [arrV_size]; exact hin) rfl rfl d fun H1 e1 z oq => ?_
  refine k1.2 H1 _ ls (h1.set hs rfl ?_ oq) (z.trans h2) (h3.put z oq ((h1 a _ hs).2 rfl)) h4
  show H1[a]? = some (vp_cell _ _)
  rw [e1]
  show some ((vp_cell _ (n, _)).setSlot _ _) = _
  rw [vp_cell_i, vp_cell_i, arrV_store]
  congr 2
  funext q
  by_cases hq : q = i.toNatClampNeg
  · subst hq
    simp [updV, upd, vp_nar]
    try rfl
  · simp [updV, upd, hq]
theorem g_saldE (X : g_X Γ p s m args meth c cc nL own) {a n : Nat} {fl : Bool} {f : Nat → Int32} {i : Int32} (d : decode cc pc = .ok (.saload, 1)) (hs : (ι t).1 a = some (fl, .inl (1, n, .inl f))) (hin : ¬ (i < 0 ∨ n ≤ i.toNatClampNeg)) (kk : Wf Γ p l e fr lo s m args below meth c nL ι vl rF tF (pc + 1) (lv) (.int (f i.toNatClampNeg) :: rest) t F) : Wf Γ p l e fr lo s m args below meth c nL ι vl rF tF (pc) (lv) (.int i :: .ref a :: rest) t F :=
  fun hF => ⟨(kk hF).1, fun H locs ls h1 h2 h3 h4 => by
    obtain ⟨cell, q1, q2, q3, q4, q5, q6, q7⟩ := g_wkA h1 hs
    have hlt : i.toNatClampNeg < n := Nat.not_le.mp fun q => hin (Or.inr q)
    exact W.sald (v := .int (f i.toNatClampNeg)) X.1 X.2.1 q1 (g_isO X.2.2.2.2.2.2.1 (j := 1) rfl q2 q3) q4 (fun h => hin (h.imp id (Nat.le_trans q5))) (by rw [q7 _ hlt]; show (arrV _ _ _).slots[_]? = _; rw [arrV_read _ _ hlt]) rfl rfl d ((kk hF).2 H locs ls h1 h2 h3 h4)⟩
theorem g_sastE (X : g_X Γ p s m args meth c cc nL own) {a n : Nat} {f : Nat → Int32} {i : Int32} {x : Int32} (d : decode cc pc = .ok (.sastore, 1)) (hs : (ι t).1 a = some (true, .inl (1, n, .inl f))) (hin : ¬ (i < 0 ∨ n ≤ i.toNatClampNeg)) (ht : ι t' = (g_u (ι t).1 a (true, .inl (1, n, .inl (upd f i.toNatClampNeg (vp_nar .short x)))), (ι t).2)) (kk : Wf Γ p l e fr lo s m args below meth c nL ι vl rF tF (pc + 1) (lv) (rest) t' F) : Wf Γ p l e fr lo s m args below meth c nL ι vl rF tF (pc) (lv) (.int x :: .int i :: .ref a :: rest) t F := by
  intro hF
  have k1 := kk hF
  rw [ht] at k1
  refine ⟨k1.1, fun H locs ls h1 h2 h3 h4 => ?_⟩
  refine W.sast X.1 X.2.1 (h1.ex hs) ((X.2.2.2.2.2.2.1.1.2 1 _ rfl).1 n (fun j => .int (f j))) (fun q => by cases q) (by show ¬ (i < 0 ∨ (arrV _ _ _).slots.size ≤ _); rw [arrV_size]; exact hin) rfl rfl d fun H1 e1 z oq => ?_
  refine k1.2 H1 _ ls (h1.set hs rfl ?_ oq) (z.trans h2) (h3.put z oq ((h1 a _ hs).2 rfl)) h4
  show H1[a]? = some (vp_cell _ _)
  rw [e1]
  show some ((vp_cell _ (n, _)).setSlot _ _) = _
  rw [vp_cell_i, vp_cell_i, arrV_store]
  congr 2
  funext q
  by_cases hq : q = i.toNatClampNeg
  · subst hq
    simp [updV, upd, vp_nar]
    try rfl
  · simp [updV, upd, hq]
theorem g_laldE (X : g_X Γ p s m args meth c cc nL own) {a n : Nat} {fl : Bool} {f : Nat → Int64} {i : Int32} (d : decode cc pc = .ok (.laload, 1)) (hs : (ι t).1 a = some (fl, .inl (3, n, .inr (.inl f)))) (hin : ¬ (i < 0 ∨ n ≤ i.toNatClampNeg)) (kk : Wf Γ p l e fr lo s m args below meth c nL ι vl rF tF (pc + 1) (lv) (.long (f i.toNatClampNeg) :: rest) t F) : Wf Γ p l e fr lo s m args below meth c nL ι vl rF tF (pc) (lv) (.int i :: .ref a :: rest) t F :=
  fun hF => ⟨(kk hF).1, fun H locs ls h1 h2 h3 h4 => by
    obtain ⟨cell, q1, q2, q3, q4, q5, q6, q7⟩ := g_wkA h1 hs
    have hlt : i.toNatClampNeg < n := Nat.not_le.mp fun q => hin (Or.inr q)
    exact W.lald (v := .long (f i.toNatClampNeg)) X.1 X.2.1 q1 (g_isO X.2.2.2.2.2.2.1 (j := 3) rfl q2 q3) q4 (fun h => hin (h.imp id (Nat.le_trans q5))) (by rw [q7 _ hlt]; show (arrV _ _ _).slots[_]? = _; rw [arrV_read _ _ hlt]) rfl rfl d ((kk hF).2 H locs ls h1 h2 h3 h4)⟩
theorem g_lastE (X : g_X Γ p s m args meth c cc nL own) {a n : Nat} {f : Nat → Int64} {i : Int32} {x : Int64} (d : decode cc pc = .ok (.lastore, 1)) (hs : (ι t).1 a = some (true, .inl (3, n, .inr (.inl f)))) (hin : ¬ (i < 0 ∨ n ≤ i.toNatClampNeg)) (ht : ι t' = (g_u (ι t).1 a (true, .inl (3, n, .inr (.inl (vp_updL f i.toNatClampNeg x)))), (ι t).2)) (kk : Wf Γ p l e fr lo s m args below meth c nL ι vl rF tF (pc + 1) (lv) (rest) t' F) : Wf Γ p l e fr lo s m args below meth c nL ι vl rF tF (pc) (lv) (.long x :: .int i :: .ref a :: rest) t F := by
  intro hF
  have k1 := kk hF
  rw [ht] at k1
  refine ⟨k1.1, fun H locs ls h1 h2 h3 h4 => ?_⟩
  refine W.last X.1 X.2.1 (h1.ex hs) ((X.2.2.2.2.2.2.1.1.2 3 _ rfl).1 n (fun j => .long (f j))) (fun q => by cases q) (by show ¬ (i < 0 ∨ (arrV _ _ _).slots.size ≤ _); rw [arrV_size]; exact hin) rfl rfl d fun H1 e1 z oq => ?_
  refine k1.2 H1 _ ls (h1.set hs rfl ?_ oq) (z.trans h2) (h3.put z oq ((h1 a _ hs).2 rfl)) h4
  show H1[a]? = some (vp_cell _ _)
  rw [e1]
  show some ((vp_cell _ (n, _)).setSlot _ _) = _
  rw [vp_cell_l, vp_cell_l, arrV_store]
  congr 2
  funext q
  by_cases hq : q = i.toNatClampNeg
  · subst hq
    simp [updV, vp_updL, vp_nar]
    try rfl
  · simp [updV, vp_updL, hq]
theorem g_alenE (X : g_X Γ p s m args meth c cc nL own) {a : Nat} {fl : Bool} {j : Nat} {x : vp_A} (hj : j < 7) (d : decode cc pc = .ok (.arraylength, 1)) (hs : (ι t).1 a = some (fl, .inl (j, x))) (kk : Wf Γ p l e fr lo s m args below meth c nL ι vl rF tF (pc + 1) (lv) (.int (Int32.ofNat x.1) :: rest) t F) : Wf Γ p l e fr lo s m args below meth c nL ι vl rF tF (pc) (lv) (.ref a :: rest) t F :=
  fun hF => ⟨(kk hF).1, fun H locs ls h1 h2 h3 h4 => by
    obtain ⟨ty, hty⟩ : ∃ ty, (g_tys Γ.2.1)[j]? = some (Γ.2.1 j, ty) := by
      match j, hj with
      | 0, _ => exact ⟨_, rfl⟩
      | 1, _ => exact ⟨_, rfl⟩
      | 2, _ => exact ⟨_, rfl⟩
      | 3, _ => exact ⟨_, rfl⟩
      | 4, _ => exact ⟨_, rfl⟩
      | 5, _ => exact ⟨_, rfl⟩
      | 6, _ => exact ⟨_, rfl⟩
    obtain ⟨cell, q1, q2, q3, q4, q5, q6, q7⟩ := g_wkA h1 hs
    exact W.alen (n := Int32.ofNat x.1) X.1 X.2.1 q1 (g_isO X.2.2.2.2.2.2.1 hty q2 q3) q6 rfl rfl d ((kk hF).2 H locs ls h1 h2 h3 h4)⟩
end GH
/-- a method's contract out of the walk of its body -/
theorem g_met {Γ : Gc} {l : Launch} {fr lo nL : Nat} {α τ : Type} {ι : τ → Iv} {vl : α → Option Value} {rF : α} {tF t : τ} {F : Option (α × τ)} {y : MethodName} {cc : ByteArray} {ret : Option FieldType} (avs : List Value) (hy : plainName y.cls = true) (hlen : (lg_sl avs).length ≤ nL) (hF : F = some (rF, tF)) (h0 : (ι t).2.2 = (0, 0))
    (body : ∀ (p : Program) (e : Env) (s : State) (m : MethodId) (args : Array Value) (below : List Frame) (meth : Method) (c : Code), g_X Γ p s m args meth c cc nL y.cls → meth.sig.returnType = ret → meth.name = y.name → Wf Γ p l e fr lo s m args below meth c nL ι vl rF tF 0 (lv_args 0 avs) [] t F) (hv : ∀ a, vl rF ≠ some (.retAddr a) := by intro a h; cases h) :
    Met l y (ws_ y cc nL ret) (g_R fr lo (ι tF)) (g_Pc Γ avs (ι t).1 (ι t).2.1) (g_Q Γ vl rF (ι tF)) (ι tF).2.2.1 (ι tF).2.2.2 (g_A Γ.2.2.1) := by
  refine Met.ofW (cc := cc) (maxL := nL) (ret := ret) hy rfl ?_
  intro p e s m args below meth c s₁ B hml hv
  obtain ⟨rfl, hH, hsz, hE, hbs⟩ := hv
  have hts := atoms_spec (ws := ws_ y cc nL ret) B.pre
  have hts : ∀ w ∈ lw_all, w.before _ s = true := fun w h => hts w (List.mem_cons_of_mem _ h)
  have hown : s.vm.findClass y.cls = some m.cls := findClass_of_methodNamed B.named
  have hl := lv_entry avs (n := nL) hlen
  have K := (body p e s m avs.toArray below meth c ⟨B.exec, B.bytes, hml, hown, hts, B.notSynchronized, hE, by rw [hsz]; exact hbs⟩ B.returns (name_of_methodNamed B.named B.method).1 hF).2 s.heap [] _ hH hsz va_S.rf hl
  rw [h0] at K
  rw [lg_entry_eq]
  exact g_qm hv K
theorem g_blind {Γ : Gc} {avs : List Value} {σ : Sg} {sz : Nat} : FrameBlind (g_Pc Γ avs σ sz) := by
  intro a U g mk q
  obtain ⟨q0, q1, q2, ⟨q3, s0, q4⟩, q5⟩ := q
  exact ⟨q0, q1, q2, ⟨va_K.moved (u := U) (U := U.calling g mk a) (Vm.Alike.refl U.vm) q3, s0, q4⟩, q5⟩
/-- a callee's start, at a state of the walk -/
theorem g_pre {Γ : Gc} {s : State} {p : Program} {m : MethodId} {args : Array Value} {meth : Method} {c : Code} {cc : ByteArray} {nL : Nat} {own : String} (X : g_X Γ p s m args meth c cc nL own) {σ : Sg} {sz : Nat} {H : Heap} {locs : List Loc} {avs : List Value} (h1 : g_H Γ σ H) (h2 : H.size = sz) (h3 : va_S (g_A Γ.2.2.1) s.heap H locs) : ∀ U : State, U.heap = H → s.WarmedH U.vm → g_Pc Γ avs σ sz avs.toArray U := by
  intro U hU hW
  obtain ⟨-, -, -, -, -, -, hE, hb⟩ := X
  refine ⟨rfl, by rw [hU]; exact h1, by rw [hU]; exact h2, hE.moved hW (fun q hq => ?_), by rw [← h2]; exact Nat.le_trans hb h3.1⟩
  rw [hU]
  exact h3.2.1 q (Nat.lt_of_lt_of_le hq hb) (fun h => absurd hq (Nat.not_lt.mpr h))
/-- what a call does: a function's answer, and the state behind it -/
def gb {α β : Type} (o : Option (α × St)) (t : St) (k : α → St → Option (β × St)) : Option (β × St) := match o with
  | none => none
  | some q => k q.1 (q.2.1, t.2.1 + q.2.2.1, t.2.2 + q.2.2.2)
theorem gb_some {α β : Type} {r : α} {u t : St} {k : α → St → Option (β × St)} : gb (some (r, u)) t k = k r (u.1, t.2.1 + u.2.1, t.2.2 + u.2.2) := rfl
/-- the same where nothing is made (the reference's own state) -/
def gm {α β τ : Type} (o : Option (α × τ)) (k : α → τ → Option (β × τ)) : Option (β × τ) := match o with
  | none => none
  | some q => k q.1 q.2
theorem gm_some {α β τ : Type} {r : α} {u : τ} {k : α → τ → Option (β × τ)} : gm (some (r, u)) k = k r u := rfl
section GC
variable {Γ : Gc} {p : Program} {l : Launch} {e : Env} {fr lo : Nat} {s : State} {m : MethodId} {args : Array Value} {below : List Frame} {meth : Method} {c : Code} {nL : Nat} {α β τ : Type} {ι : τ → Iv} {vl : α → Option Value} {vl' : β → Option Value} {rF : α} {tF : τ} {pc len : Nat} {lv : List (Nat × Value)} {st rest : List Value} {t t1 : τ} {F F1 : Option (α × τ)} {cc : ByteArray} {own : String}
/-- behind a call: its run, and the walk from there -/
theorem g_back {r : β} {q : Iv} {H : Heap} {locs : List Loc} {ls : Array Slot} {a : Array Value} (ht : ι t1 = (q.1, q.2.1, (ι t).2.2.1 + q.2.2.1, (ι t).2.2.2 + q.2.2.2)) (h3 : va_S (g_A Γ.2.2.1) s.heap H locs) (h4 : lv_has ls nL lv)
    (hr : va_Run p l e (g_R fr lo (ι tF)) s m args below meth c H locs (ι t).2.2.1 (ι t).2.2.2 q.2.2.1 q.2.2.2 (F0 m pc ls st) rest (g_Q Γ vl' r q a) (g_A Γ.2.2.1))
    (kk : ∀ (H : Heap) (locs : List Loc) (ls : Array Slot), g_H Γ (ι t1).1 H → H.size = (ι t1).2.1 → va_S (g_A Γ.2.2.1) s.heap H locs → lv_has ls nL lv → W p l e (g_R fr lo (ι tF)) s m args below meth c H locs (ι t1).2.2.1 (ι t1).2.2.2 (MZ Γ below vl rF (ι tF) args s) (F0 m (pc + 3) ls ((vl' r).toList ++ rest))) :
    W p l e (g_R fr lo (ι tF)) s m args below meth c H locs (ι t).2.2.1 (ι t).2.2.2 (MZ Γ below vl rF (ι tF) args s) (F0 m pc ls st) := by
  intro T hT X
  obtain ⟨v, st₀, u, T', L, h0, X', hL, e1, e2, ⟨hv, hg, hz, hf1, hf2⟩, stp⟩ := hr T hT X
  cases hv
  rw [h0] at hf1 hf2
  have k1 := kk T'.heap (locs ++ L) ls (by rw [ht, e1]; exact hg) (by rw [ht, e1]; exact hz) ⟨Nat.le_trans h3.1 (by rw [e1]; exact hf1), fun q1 g1 g2 => by rw [e1, hf2 q1 (Nat.lt_of_lt_of_le g1 h3.1) g2]; exact h3.2.1 q1 g1 g2, fun q1 hq => by
      rcases List.mem_append.mp hq with g | g
      · exact h3.2.2 q1 g
      · exact hL q1 g⟩ h4
  rw [ht] at k1
  obtain ⟨t2, a1, b1⟩ := k1 T' rfl X'
  exact ⟨t2, stp t2 a1, b1⟩
theorem g_back5 {r : β} {q : Iv} {H : Heap} {locs : List Loc} {ls : Array Slot} {a : Array Value} (ht : ι t1 = (q.1, q.2.1, (ι t).2.2.1 + q.2.2.1, (ι t).2.2.2 + q.2.2.2)) (h3 : va_S (g_A Γ.2.2.1) s.heap H locs) (h4 : lv_has ls nL lv)
    (hr : va_Run5 p l e (g_R fr lo (ι tF)) s m args below meth c H locs (ι t).2.2.1 (ι t).2.2.2 q.2.2.1 q.2.2.2 (F0 m pc ls st) rest (g_Q Γ vl' r q a) (g_A Γ.2.2.1))
    (kk : ∀ (H : Heap) (locs : List Loc) (ls : Array Slot), g_H Γ (ι t1).1 H → H.size = (ι t1).2.1 → va_S (g_A Γ.2.2.1) s.heap H locs → lv_has ls nL lv → W p l e (g_R fr lo (ι tF)) s m args below meth c H locs (ι t1).2.2.1 (ι t1).2.2.2 (MZ Γ below vl rF (ι tF) args s) (F0 m (pc + 5) ls ((vl' r).toList ++ rest))) :
    W p l e (g_R fr lo (ι tF)) s m args below meth c H locs (ι t).2.2.1 (ι t).2.2.2 (MZ Γ below vl rF (ι tF) args s) (F0 m pc ls st) := by
  intro T hT X
  obtain ⟨v, st₀, u, T', L, h0, X', hL, e1, e2, ⟨hv, hg, hz, hf1, hf2⟩, stp⟩ := hr T hT X
  cases hv
  rw [h0] at hf1 hf2
  have k1 := kk T'.heap (locs ++ L) ls (by rw [ht, e1]; exact hg) (by rw [ht, e1]; exact hz) ⟨Nat.le_trans h3.1 (by rw [e1]; exact hf1), fun q1 g1 g2 => by rw [e1, hf2 q1 (Nat.lt_of_lt_of_le g1 h3.1) g2]; exact h3.2.1 q1 g1 g2, fun q1 hq => by
      rcases List.mem_append.mp hq with g | g
      · exact h3.2.2 q1 g
      · exact hL q1 g⟩ h4
  rw [ht] at k1
  obtain ⟨t2, a1, b1⟩ := k1 T' rfl X'
  exact ⟨t2, stp t2 a1, b1⟩
end GC
