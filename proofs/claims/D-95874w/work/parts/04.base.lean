/-! THE GHOST STORE, and the judgement of the mechanical walk -/
set_option maxRecDepth 100000
/-- what is known of the heap: address -> (may it be written, its cell); an array's class is told by its kind's number -/
abbrev Sg : Type := Nat → Option (Bool × va_E)
/-- a method's state: the store, cells made since its entry, slots made since its entry -/
abbrev St : Type := Sg × Nat × Nat
/-- (classes, array classes, the first address that may be written, the script's address, constants' addresses) -/
abbrev Gc : Type := va_G × (Nat → ClassId) × Nat × Nat × (Nat → Option Nat)
/-- the constants that the code reads: a static array, three texts, two statics of Throwable, a class object -/
def exT (i : Nat) : Term := match i with
  | 0 => .static "java/util/ArrayList" "DEFAULTCAPACITY_EMPTY_ELEMENTDATA" "[Ljava/lang/Object;"
  | 1 => .string "LameClocks" 350
  | 2 => .string "LameClocks" 358
  | 3 => .string "LameClocks" 366
  | 4 => .static "java/lang/Throwable" "UNASSIGNED_STACK" "[Ljava/lang/StackTraceElement;"
  | 5 => .static "java/lang/Throwable" "SUPPRESSED_SENTINEL" "Ljava/util/List;"
  | 6 => .mirror "[Ljava/lang/Object;"
  | _ => .static "jdk/internal/util/Preconditions" "SIOOBE_FORMATTER" "Ljava/util/function/BiFunction;"
def exOf (b : Nat) (s0 : State) (i : Nat) : Option Nat := match (exT i).eval #[Value.ref b] s0 none [] s0 with
  | some (.ref a) => some a
  | _ => none
def g_u (σ : Sg) (a : Nat) (x : Bool × va_E) : Sg := fun q => if q = a then some x else σ q
theorem g_u_self (σ : Sg) (a : Nat) (x : Bool × va_E) : g_u σ a x a = some x := by simp [g_u]
theorem g_u_ne (σ : Sg) {a q : Nat} (x : Bool × va_E) (h : q ≠ a) : g_u σ a x q = σ q := by simp [g_u, h]
abbrev g_A (base : Nat) : Nat → Prop := fun q => base ≤ q
def g_e (dA : Nat → ClassId) (x : va_E) : va_E := match x with
  | .inl v => .inl (dA v.1, v.2)
  | .inr o => .inr o
/-- the class of an array of kind j; an array of numbers that is older than the run may have a class of its own, of the same kind -/
def g_cl (Γ : Gc) (j : Nat) (c : ClassId) : Prop := c = Γ.2.1 j ∨ (j < 4 ∧ ∃ i, c = Γ.2.1 (10 + 4 * i + j))
def g_pt (j : Nat) : FieldType := match j with
  | 0 => .byte
  | 1 => .short
  | 2 => .int
  | _ => .long
/-- what is said of every cell: its class, and what its slots hold (a cell that is older than the run may have a monitor of its own) -/
def g_wk (Γ : Gc) (a : Nat) (x : va_E) (H : Heap) : Prop := match x with
  | .inl v => ∃ cell : Cell, H[a]? = some cell ∧ g_cl Γ v.1 cell.cls ∧ (∀ k, cell.vm ≠ .statics k) ∧ cell.vm ≠ .unknown ∧ v.2.1 ≤ cell.slots.size ∧ cell.slots.size.toInt32 = Int32.ofNat v.2.1 ∧ ∀ j, j < v.2.1 → cell.slots[j]? = (vp_cell (Γ.2.1 v.1) v.2).slots[j]?
  | .inr o => ∃ r : vw_C, cls[o.1]? = some r ∧ ∃ cell : Cell, H[a]? = some cell ∧ cell.cls = Γ.1.1 o.1 ∧ (∀ k, cell.vm ≠ .statics k) ∧ cell.vm ≠ .unknown ∧ ∀ k, k < r.2.2 → cell.slots[Γ.1.2 o.1 k]? = some (vp_V o.2 k)
def g_at (Γ : Gc) (a : Nat) (x : Bool × va_E) (H : Heap) : Prop := (x.1 = true → va_at Γ.1 cls (a, g_e Γ.2.1 x.2) H) ∧ g_wk Γ a x.2 H
theorem g_at.of {Γ : Gc} {a : Nat} {fl : Bool} {e : va_E} {H : Heap} (h : va_at Γ.1 cls (a, g_e Γ.2.1 e) H) : g_at Γ a (fl, e) H := by
  refine ⟨fun _ => h, ?_⟩
  cases e with
  | inl v =>
    obtain ⟨j, n, f | f | f | f | f⟩ := v <;> exact ⟨_, h, Or.inl rfl, (fun k q => by cases q), (fun q => by cases q), Nat.le_of_eq (arrV_size _ _ _).symm, congrArg Nat.toInt32 (arrV_size _ _ _), fun _ _ => rfl⟩
  | inr o =>
    obtain ⟨r, h1, cell, q1, q2, q3, q4⟩ := h
    exact ⟨r, h1, cell, q1, q2, (fun k q => by rw [q3] at q; cases q), (fun q => by rw [q3] at q; cases q), q4⟩
theorem g_at.kept {Γ : Gc} {a : Nat} {x : Bool × va_E} {H H1 : Heap} (h : g_at Γ a x H) (hq : H1[a]? = H[a]?) : g_at Γ a x H1 := by
  obtain ⟨fl, e⟩ := x
  refine ⟨fun q => (h.1 q).kept hq, ?_⟩
  cases e with
  | inl v =>
    obtain ⟨cell, h1, h2⟩ := h.2
    exact ⟨cell, hq.trans h1, h2⟩
  | inr o =>
    obtain ⟨r, h0, cell, h1, h2⟩ := h.2
    exact ⟨r, h0, cell, hq.trans h1, h2⟩
theorem g_at.lt {Γ : Gc} {a : Nat} {x : Bool × va_E} {H : Heap} (h : g_at Γ a x H) : a < H.size := by
  obtain ⟨fl, e⟩ := x
  cases e with
  | inl v =>
    obtain ⟨cell, h1, h2⟩ := h.2
    exact (Array.getElem?_eq_some_iff.mp h1).1
  | inr o =>
    obtain ⟨r, h0, cell, h1, h2⟩ := h.2
    exact (Array.getElem?_eq_some_iff.mp h1).1
def g_H (Γ : Gc) (σ : Sg) (H : Heap) : Prop := ∀ (a : Nat) (x : Bool × va_E), σ a = some x → g_at Γ a x H ∧ (x.1 = true → Γ.2.2.1 ≤ a)
theorem g_H.ex {Γ : Gc} {σ : Sg} {H : Heap} (h : g_H Γ σ H) {a : Nat} {e : va_E} (hs : σ a = some (true, e)) : va_at Γ.1 cls (a, g_e Γ.2.1 e) H := (h a _ hs).1.1 rfl
theorem g_ns {v : VmData} (h : ∀ k, v ≠ .statics k) : v.isStatics = false := by
  cases v <;> first | rfl | exact absurd rfl (h _)
theorem g_wkA {Γ : Gc} {σ : Sg} {H : Heap} (h : g_H Γ σ H) {a j : Nat} {fl : Bool} {x : vp_A} (hs : σ a = some (fl, .inl (j, x))) : ∃ cell : Cell, H[a]? = some cell ∧ g_cl Γ j cell.cls ∧ (∀ k, cell.vm ≠ .statics k) ∧ cell.vm ≠ .unknown ∧ x.1 ≤ cell.slots.size ∧ cell.slots.size.toInt32 = Int32.ofNat x.1 ∧ ∀ j', j' < x.1 → cell.slots[j']? = (vp_cell (Γ.2.1 j) x).slots[j']? := (h a _ hs).1.2
theorem g_wkX {Γ : Gc} {σ : Sg} {H : Heap} (h : g_H Γ σ H) {a j : Nat} {fl : Bool} {x : vp_A} (hs : σ a = some (fl, .inl (j, x))) (hx : fl = true ∨ ¬ j < 4) : ∃ cell : Cell, H[a]? = some cell ∧ cell.cls = Γ.2.1 j ∧ (∀ k, cell.vm ≠ .statics k) ∧ cell.vm ≠ .unknown := by
  rcases hx with rfl | hx
  · have hc : H[a]? = some (vp_cell (Γ.2.1 j) x) := h.ex hs
    obtain ⟨n, f | f | f | f | f⟩ := x <;> exact ⟨_, hc, rfl, (fun k q => by cases q), (fun q => by cases q)⟩
  · obtain ⟨cell, h1, h2, h3, h4, -⟩ := g_wkA h hs
    rcases h2 with h2 | ⟨h2, -⟩
    · exact ⟨cell, h1, h2, h3, h4⟩
    · exact absurd h2 hx
theorem g_isA {s : State} {cA : ClassId} {ty : FieldType} {cell : Cell} (h : ArrOfT s cA ty) (h1 : cell.cls = cA) (h2 : ∀ k, cell.vm ≠ .statics k) : s.isArrayOf cell ty := by
  obtain ⟨-, k, hk, c, hc⟩ := h 0 (fun _ => .null)
  exact ⟨h2, k, by rw [h1]; exact hk, c, hc⟩
theorem g_rcv {Γ : Gc} {s : State} {tys : List (ClassId × FieldType)} {σ : Sg} {H : Heap} (hK : va_K Γ.1 cls tys s) (h : g_H Γ σ H) {a ci : Nat} {fl : Bool} {fs : List Value} (hs : σ a = some (fl, .inr (ci, fs))) {q : vw_C} (hc : cls[ci]? = some q) : ∃ cell : Cell, H[a]? = some cell ∧ cell.vm.isStatics = false ∧ s.vm.findClass q.1 = some cell.cls := by
  obtain ⟨r, -, cell, h1, h2, h3, -⟩ := (h a _ hs).1.2
  exact ⟨cell, h1, g_ns h3, by rw [h2]; exact (hK.1 ci q hc).2.1⟩
abbrev g_tys (dA : Nat → ClassId) : List (ClassId × FieldType) := [(dA 0, .byte), (dA 1, .short), (dA 2, .int), (dA 3, .long), (dA 4, .object "java/lang/Object"), (dA 5, .object "LameClocks$Held"), (dA 6, .array .int)]
/-- what is known beside the store: classes, and all that the claim's start says, at a state warmer than it -/
def g_E (Γ : Gc) (U : State) : Prop := va_K Γ.1 cls (g_tys Γ.2.1) U ∧ ∃ s0 : State, (∀ w ∈ lw_tbl, w.before #[Value.ref Γ.2.2.2.1] s0 = true) ∧ (Jvm.Cond.and given_1 narrow_1).before #[Value.ref Γ.2.2.2.1] s0 = true ∧ modulesRight_1 s0 = true ∧ s0.WarmedH U.vm ∧ s0.heap.size = Γ.2.2.1 ∧ (∀ q : Nat, q < Γ.2.2.1 → U.heap[q]? = s0.heap[q]?) ∧ (∀ i, Γ.2.2.2.2 i = exOf Γ.2.2.2.1 s0 i) ∧ ∀ i j : Nat, j < 4 → ArrOfT s0 (Γ.2.1 (10 + 4 * i + j)) (g_pt j)
theorem g_E.moved {Γ : Gc} {s U : State} (h : g_E Γ s) (hW : s.WarmedH U.vm) (hq : ∀ q : Nat, q < Γ.2.2.1 → U.heap[q]? = s.heap[q]?) : g_E Γ U := by
  obtain ⟨h1, s0, h2, h3, h4, h5, h6, h7, h8⟩ := h
  exact ⟨va_K.moved hW.alike h1, s0, h2, h3, h4, State.WarmedH.trans h5 hW, h6, fun q h => (hq q h).trans (h7 q h), h8⟩
theorem g_E.nestF {Γ : Gc} {s : State} (h : g_E Γ s) {a : String} {i : Nat} {b n d h0 : String} (hw : Cond.fieldLinkNest a i b n d h0 ∈ lw_tbl) (args : Array Value) : (Cond.fieldLinkNest a i b n d h0).before args s = true := by
  obtain ⟨-, s0, h2, -, -, h5, -⟩ := h
  exact va_Nw.use rfl (va_Nw.warmF h5 (va_Nw.of rfl (h2 _ hw)))
theorem g_E.nestM {Γ : Gc} {s : State} (h : g_E Γ s) {a : String} {i : Nat} {x : MethodName} {h0 : String} (hw : Cond.methodLinkNest a i x h0 ∈ lw_tbl) : va_Nw (.methodLinkNest a i x h0) s := by
  obtain ⟨-, s0, h2, -, -, h5, -⟩ := h
  exact va_Nw.warmM h5 (va_Nw.of rfl (h2 _ hw))
theorem g_E.castable {Γ : Gc} {s : State} (h : g_E Γ s) {C T : String} (hw : Cond.castable C T ∈ lw_tbl) : va_Nw (.castable C T) s := by
  obtain ⟨-, s0, h2, -, -, h5, -⟩ := h
  exact va_Nw.warmC h5 (va_Nw.of rfl (h2 _ hw))
theorem g_E.declares {Γ : Gc} {s : State} (h : g_E Γ s) {x : MethodName} (hw : Cond.declares x ∈ lw_tbl) : va_Nw (.declares x) s := by
  obtain ⟨-, s0, h2, -, -, h5, -⟩ := h
  exact va_Nw.warmD h5 (va_Nw.of rfl (h2 _ hw))
theorem g_isO {Γ : Gc} {s : State} (hE : g_E Γ s) {j : Nat} {ty : FieldType} (hj : (g_tys Γ.2.1)[j]? = some (Γ.2.1 j, ty)) {cell : Cell} (h1 : g_cl Γ j cell.cls) (h2 : ∀ k, cell.vm ≠ .statics k) : s.isArrayOf cell ty := by
  rcases h1 with h1 | ⟨h4, i, h1⟩
  · exact g_isA (hE.1.2 j _ hj).1 h1 h2
  · obtain ⟨-, s0, -, -, -, g5, -, -, -, g9⟩ := hE
    have hA := arrOfT_moved (E := s) g5.alike (g9 i j h4)
    match j, h4 with
    | 0, _ => cases hj; exact g_isA hA h1 h2
    | 1, _ => cases hj; exact g_isA hA h1 h2
    | 2, _ => cases hj; exact g_isA hA h1 h2
    | 3, _ => cases hj; exact g_isA hA h1 h2
/-- the method's own context -/
def g_X (Γ : Gc) (p : Program) (s : State) (m : MethodId) (args : Array Value) (meth : Method) (c : Code) (cc : ByteArray) (nL : Nat) (own : String) : Prop :=
  p.tables.exec = Jvm.exec ∧ c.code = cc ∧ c.maxLocals = nL ∧ s.vm.findClass own = some m.cls ∧ (∀ w ∈ lw_all, w.before args s = true) ∧ meth.locks = false ∧ g_E Γ s ∧ Γ.2.2.1 ≤ s.heap.size
abbrev Iv : Type := Sg × Nat × Nat × Nat
abbrev g_R (fr lo : Nat) (q : Iv) : Room := { frames := fr, cells := q.2.2.1, slots := q.2.2.2, locals := lo }
def g_Q (Γ : Gc) {α : Type} (vl : α → Option Value) (r : α) (q : Iv) : Array Value → State → Outcome → State → Prop := fun _ st o u => o = .returned (vl r) ∧ g_H Γ q.1 u.heap ∧ u.heap.size = q.2.1 ∧ va_F (g_A Γ.2.2.1) st u
def g_Pc (Γ : Gc) (avs : List Value) (σ : Sg) (sz : Nat) : Array Value → State → Prop := va_Pc avs (fun U => g_H Γ σ U.heap ∧ U.heap.size = sz ∧ g_E Γ U ∧ Γ.2.2.1 ≤ sz)
abbrev g_ι (z : Nat) (t : St) : Iv := (t.1, z + t.2.1, t.2.1, t.2.2)
/-- how a method ends: it returns what vl says, or it throws a, where vl says so by the value retAddr a, that none of ours returns -/
def MZ (Γ : Gc) (below : List Frame) {α : Type} (vl : α → Option Value) (r : α) (q : Iv) (args : Array Value) (s : State) : State → Prop := fun t => ((∀ a, vl r ≠ some (.retAddr a)) ∧ MQ below (g_Q Γ vl r q) args s q.2.2.1 q.2.2.2 (g_A Γ.2.2.1) t) ∨ ∃ a : Nat, vl r = some (.retAddr a) ∧ t.status = .running ∧ Ended t below (.threw a) ∧ (g_H Γ q.1 t.heap ∧ t.heap.size = q.2.1 ∧ va_F (g_A Γ.2.2.1) s t) ∧ ∃ L : List Loc, (s.WarmedH t.vm ∧ s.sameButNew ({ t with vm := s.vm } : State) L q.2.2.1 q.2.2.2) ∧ ∀ x ∈ L, g_A Γ.2.2.1 x.base
theorem g_mq {Γ : Gc} {p : Program} {l : Launch} {e : Env} {R : Room} {s : State} {m : MethodId} {args : Array Value} {below : List Frame} {meth : Method} {c : Code} {H : Heap} {locs : List Loc} {cells slots : Nat} {α : Type} {vl : α → Option Value} {r : α} {q : Iv} {g : JFrame} (h : W p l e R s m args below meth c H locs cells slots (MQ below (g_Q Γ vl r q) args s q.2.2.1 q.2.2.2 (g_A Γ.2.2.1)) g) (hv : ∀ a, vl r ≠ some (.retAddr a) := by intro a h; cases h) : W p l e R s m args below meth c H locs cells slots (MZ Γ below vl r q args s) g := by
  intro T hT X
  obtain ⟨t, a1, b1⟩ := h T hT X
  exact ⟨t, a1, Or.inl ⟨hv, b1⟩⟩
theorem g_qm {Γ : Gc} {p : Program} {l : Launch} {e : Env} {R : Room} {s : State} {m : MethodId} {args : Array Value} {below : List Frame} {meth : Method} {c : Code} {H : Heap} {locs : List Loc} {cells slots : Nat} {α : Type} {vl : α → Option Value} {r : α} {q : Iv} {g : JFrame} (hv : ∀ a, vl r ≠ some (.retAddr a)) (h : W p l e R s m args below meth c H locs cells slots (MZ Γ below vl r q args s) g) : W p l e R s m args below meth c H locs cells slots (MQ below (g_Q Γ vl r q) args s q.2.2.1 q.2.2.2 (g_A Γ.2.2.1)) g := by
  intro T hT X
  obtain ⟨t, a1, b1⟩ := h T hT X
  rcases b1 with ⟨-, b1⟩ | ⟨a, b1, -⟩
  · exact ⟨t, a1, b1⟩
  · exact absurd b1 (hv a)
/-- THE WALK: if the function F, that is what is left to do, comes to (rF, tF), then the machine does -/
def Wf (Γ : Gc) (p : Program) (l : Launch) (e : Env) (fr lo : Nat) (s : State) (m : MethodId) (args : Array Value) (below : List Frame) (meth : Method) (c : Code) (nL : Nat) {α τ : Type} (ι : τ → Iv) (vl : α → Option Value) (rF : α) (tF : τ) (pc : Nat) (lv : List (Nat × Value)) (st : List Value) (t : τ) (F : Option (α × τ)) : Prop :=
  F = some (rF, tF) → ((ι t).2.2.1 ≤ (ι tF).2.2.1 ∧ (ι t).2.2.2 ≤ (ι tF).2.2.2) ∧ ∀ (H : Heap) (locs : List Loc) (ls : Array Slot), g_H Γ (ι t).1 H → H.size = (ι t).2.1 → va_S (g_A Γ.2.2.1) s.heap H locs → lv_has ls nL lv →
    W p l e (g_R fr lo (ι tF)) s m args below meth c H locs (ι t).2.2.1 (ι t).2.2.2 (MZ Γ below vl rF (ι tF) args s) (F0 m pc ls st)
section GB
variable {Γ : Gc} {p : Program} {l : Launch} {e : Env} {fr lo : Nat} {s : State} {m : MethodId} {args : Array Value} {below : List Frame} {meth : Method} {c : Code} {nL : Nat} {α τ : Type} {ι : τ → Iv} {vl : α → Option Value} {rF : α} {tF : τ} {pc : Nat} {lv lv' : List (Nat × Value)} {st rest : List Value} {t : τ} {F F1 F2 : Option (α × τ)} {cc : ByteArray} {own : String}
theorem g_lift {pc' : Nat} {st' : List Value} (h : ∀ (R : Room) (H : Heap) (locs : List Loc) (ls : Array Slot) (cells slots : Nat) (Q : State → Prop), lv_has ls nL lv → (∀ ls' : Array Slot, lv_has ls' nL lv' → W p l e R s m args below meth c H locs cells slots Q (F0 m pc' ls' st')) → W p l e R s m args below meth c H locs cells slots Q (F0 m pc ls st)) (k : Wf Γ p l e fr lo s m args below meth c nL ι vl rF tF pc' lv' st' t F) : Wf Γ p l e fr lo s m args below meth c nL ι vl rF tF pc lv st t F :=
  fun hF => ⟨(k hF).1, fun H locs ls h1 h2 h3 h4 => h _ H locs ls _ _ _ h4 fun ls' h5 => (k hF).2 H locs ls' h1 h2 h3 h5⟩
theorem g_liftS {pc' : Nat} {st' : List Value} (h : ∀ (R : Room) (H : Heap) (locs : List Loc) (ls : Array Slot) (cells slots : Nat) (Q : State → Prop), lv_has ls nL lv → W p l e R s m args below meth c H locs cells slots Q (F0 m pc' ls st') → W p l e R s m args below meth c H locs cells slots Q (F0 m pc ls st)) (k : Wf Γ p l e fr lo s m args below meth c nL ι vl rF tF pc' lv st' t F) : Wf Γ p l e fr lo s m args below meth c nL ι vl rF tF pc lv st t F :=
  fun hF => ⟨(k hF).1, fun H locs ls h1 h2 h3 h4 => h _ H locs ls _ _ _ h4 ((k hF).2 H locs ls h1 h2 h3 h4)⟩
theorem g_if {q : Prop} [Decidable q] {pc1 pc2 : Nat} {st1 st2 : List Value} (h : ∀ (R : Room) (H : Heap) (locs : List Loc) (ls : Array Slot) (cells slots : Nat) (Q : State → Prop), (q → W p l e R s m args below meth c H locs cells slots Q (F0 m pc1 ls st1)) → (¬ q → W p l e R s m args below meth c H locs cells slots Q (F0 m pc2 ls st2)) → W p l e R s m args below meth c H locs cells slots Q (F0 m pc ls st)) (k1 : Wf Γ p l e fr lo s m args below meth c nL ι vl rF tF pc1 lv st1 t F1) (k2 : Wf Γ p l e fr lo s m args below meth c nL ι vl rF tF pc2 lv st2 t F2) : Wf Γ p l e fr lo s m args below meth c nL ι vl rF tF pc lv st t (if q then F1 else F2) := by
  intro hF
  by_cases hq : q
  · rw [if_pos hq] at hF
    exact ⟨(k1 hF).1, fun H locs ls h1 h2 h3 h4 => h _ H locs ls _ _ _ (fun _ => (k1 hF).2 H locs ls h1 h2 h3 h4) (fun h9 => absurd hq h9)⟩
  · rw [if_neg hq] at hF
    exact ⟨(k2 hF).1, fun H locs ls h1 h2 h3 h4 => h _ H locs ls _ _ _ (fun h9 => absurd h9 hq) (fun _ => (k2 hF).2 H locs ls h1 h2 h3 h4)⟩
/-- fewer locals -/
theorem g_lv (ks : List Nat) (hl : lv_pick lv ks = lv') (k : Wf Γ p l e fr lo s m args below meth c nL ι vl rF tF pc lv' st t F) : Wf Γ p l e fr lo s m args below meth c nL ι vl rF tF pc lv st t F :=
  fun hF => ⟨(k hF).1, fun H locs ls h1 h2 h3 h4 => (k hF).2 H locs ls h1 h2 h3 (lv_sub h4 ks hl)⟩
/-- a refusal that F has -/
theorem g_no {q : Prop} [Decidable q] (k : ¬ q → Wf Γ p l e fr lo s m args below meth c nL ι vl rF tF pc lv st t F) : Wf Γ p l e fr lo s m args below meth c nL ι vl rF tF pc lv st t (if q then none else F) := by
  intro hF
  by_cases hq : q
  · rw [if_pos hq] at hF; cases hF
  · rw [if_neg hq] at hF
    exact k hq hF
theorem g_none : Wf Γ p l e fr lo s m args below meth c nL ι vl rF tF pc lv st t none := fun hF => by cases hF
end GB
