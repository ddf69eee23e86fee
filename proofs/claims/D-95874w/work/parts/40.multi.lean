/-! an array of arrays of ints, made by one instruction -/
set_option maxRecDepth 100000
theorem mu_moved {t : FieldType} {u U : State} {A B : Array Value} (hvm : u.vm.Alike U.vm) (h : (Cond.arrayOver (.array t)).before A u = true) : (Cond.arrayOver (.array t)).before B U = true := by
  obtain ⟨comp, c, k, h1, h2, h3, h4, h5⟩ := arrayOverA_spec h
  obtain ⟨k', hk', he⟩ := hvm.2.2 _ _ h3
  have hi : (U.vm.classes.findIdx? fun (x : Class) => match x.kind with | .array component _ => component == comp | _ => false) = some c := by
    have hx := va_idx_bare U.vm comp
    have hy := va_idx_bare u.vm comp
    rw [hvm.bare_eq] at hx
    exact hx.symm.trans (hy.trans h2)
  have hkind : k'.kind = .array comp (.array t) := by rw [he]; exact h4
  have f1 : U.vm.findClass (FieldType.array t).toString = some comp := by rw [hvm.findClass]; exact h1
  have f2 : U.vm.findClass ("[" ++ (FieldType.array t).toString) = some c := by rw [hvm.findClass]; exact h5
  unfold Cond.before Cond.holds
  simp only [Cond.value]
  rw [f1, Option.bind_some]
  refine (congrArg (fun o : Option Nat => (o.bind (fun c => (U.vm.classes[c]?).map fun (k : Class) => match k.kind with | .array _ ty => decide (ty = FieldType.array t) && decide (U.vm.findClass ("[" ++ (FieldType.array t).toString) = some c) | _ => false) == some true)) hi).trans ?_
  simp [hk', hkind, f2]
theorem g_E.overA {Γ : Gc} {s : State} (h : g_E Γ s) {t : FieldType} (hw : Cond.arrayOver (.array t) ∈ lw_tbl) (args : Array Value) : (Cond.arrayOver (.array t)).before args s = true := by
  obtain ⟨-, s0, h2, -, -, h5, -⟩ := h
  exact mu_moved h5.alike (h2 _ hw)
/-- the outer array when i of its n rows are made -/
def mu_c (cA : ClassId) (n h i : Nat) : Cell := arrV cA n (fun q => va_rf (if q < i then some (h + 1 + q) else none))
abbrev mu_r (cI : ClassId) (k : Nat) : Cell := arrV cI k (fun _ => .int 0)
def mu_T (T : State) (cA cI : ClassId) (n k : Nat) : Nat → State
  | 0 => T.pushCell (mu_c cA n T.heap.size 0)
  | i + 1 => ((mu_T T cA cI n k i).pushCell (mu_r cI k)).setCell T.heap.size (mu_c cA n T.heap.size (i + 1))
theorem mu_next (cA : ClassId) (n h i : Nat) : (mu_c cA n h i).setSlot i (.ref (h + 1 + i)) = mu_c cA n h (i + 1) := by
  unfold mu_c
  rw [arrV_store]
  congr 1
  funext q
  unfold updV
  by_cases h1 : q = i
  · subst h1
    simp [va_rf]
  · by_cases h2 : q < i
    · simp [h1, h2, Nat.lt_succ_of_lt h2]
    · have h3 : ¬ q < i + 1 := by omega
      simp [h1, h2, h3]
theorem mu_all (T : State) (cA cI : ClassId) (n k : Nat) (i : Nat) : (mu_T T cA cI n k i).vm = T.vm ∧ (mu_T T cA cI n k i).heap.size = T.heap.size + 1 + i ∧ (mu_T T cA cI n k i).slotsUsed = T.slotsUsed + n + i * k ∧ (mu_T T cA cI n k i).heap[T.heap.size]? = some (mu_c cA n T.heap.size i) ∧ (∀ q : Nat, q < T.heap.size → (mu_T T cA cI n k i).heap[q]? = T.heap[q]?) ∧ (∀ j, j < i → (mu_T T cA cI n k i).heap[T.heap.size + 1 + j]? = some (mu_r cI k)) ∧ ∀ g, mu_T (T.setTop g) cA cI n k i = (mu_T T cA cI n k i).setTop g := by
  induction i with
  | zero => exact ⟨rfl, by simp [mu_T], by simp [mu_T, mu_c, arrV_size], State.heap_pushCell_size _ _, fun q hq => State.heap_pushCell_of_lt _ _ hq, fun j hj => absurd hj (Nat.not_lt_zero _), fun g => rfl⟩
  | succ i ih =>
    obtain ⟨i1, i2, i3, i4, i5, i6, i7⟩ := ih
    have lt : ∀ q : Nat, q < T.heap.size + 1 + i → ((mu_T T cA cI n k i).pushCell (mu_r cI k)).heap[q]? = (mu_T T cA cI n k i).heap[q]? := fun q hq => State.heap_pushCell_of_lt _ _ (by rw [i2]; exact hq)
    have h0 : ((mu_T T cA cI n k i).pushCell (mu_r cI k)).heap[T.heap.size]? = some (mu_c cA n T.heap.size i) := (lt _ (by omega)).trans i4
    have ot : ∀ q : Nat, q ≠ T.heap.size → (mu_T T cA cI n k (i + 1)).heap[q]? = ((mu_T T cA cI n k i).pushCell (mu_r cI k)).heap[q]? := fun q hq => State.heap_setCell_other (Ne.symm hq)
    refine ⟨by simp [mu_T, i1], by simp [mu_T, State.setCell, i2]; omega, by simp [mu_T, i3, arrV_size, Nat.succ_mul]; omega, State.heap_setCell_self h0, fun q hq => ?_, fun j hj => ?_, fun g => ?_⟩
    · rw [ot q (Nat.ne_of_lt hq), lt q (by omega), i5 q hq]
    · rw [ot _ (by omega)]
      by_cases hji : j < i
      · rw [lt _ (by omega), i6 j hji]
      · have hj2 : j = i := by omega
        subst hj2
        rw [← i2]
        exact State.heap_pushCell_size _ _
    · simp only [mu_T, i7 g, State.heap_setTop, State.pushCell_setTop, State.setCell_setTop]
/-- the store with an array of n rows of k zeros at h -/
def mu_s (σ : Sg) (h n k : Nat) : Sg := fun q => if q = h then some (true, .inl (6, n, .inr (.inr (.inr (.inr (fun i => if i < n then some (h + 1 + i) else none)))))) else if h < q ∧ q ≤ h + n then some (true, .inl (2, k, .inl (fun _ => 0))) else σ q
def cmulti {β : Type} (z n k : Nat) (t : St) (K : Nat → St → Option β) : Option β := K (z + t.2.1) (mu_s t.1 (z + t.2.1) n k, t.2.1 + (1 + n), t.2.2 + (n + n * k))
theorem g_H.multi {Γ : Gc} {σ : Sg} {H H1 : Heap} {n k : Nat} (h : g_H Γ σ H) (hb : Γ.2.2.1 ≤ H.size) (e1 : H1[H.size]? = some (mu_c (Γ.2.1 6) n H.size n)) (e2 : ∀ j, j < n → H1[H.size + 1 + j]? = some (mu_r (Γ.2.1 2) k)) (oq : ∀ q : Nat, q < H.size → H1[q]? = H[q]?) : g_H Γ (mu_s σ H.size n k) H1 := by
  intro q y hy
  unfold mu_s at hy
  by_cases hq : q = H.size
  · rw [if_pos hq] at hy
    cases hy
    subst hq
    exact ⟨g_at.of e1, fun _ => hb⟩
  · rw [if_neg hq] at hy
    by_cases hr : H.size < q ∧ q ≤ H.size + n
    · rw [if_pos hr] at hy
      cases hy
      have := e2 (q - H.size - 1) (by omega)
      rw [show H.size + 1 + (q - H.size - 1) = q by omega] at this
      exact ⟨g_at.of this, fun _ => by omega⟩
    · rw [if_neg hr] at hy
      exact ⟨(h q y hy).1.kept (oq q (h q y hy).1.lt), (h q y hy).2⟩
section MW
variable {E : CtlPost} {e : Env} {d : Bool} {acts : List Action} {s : State}
theorem mu_alloc {c comp : ClassId} {k : Class} {type : FieldType} {len : Nat} {init : Value} (hk : s.vm.classes[c]? = some k) (hkind : k.kind = .array comp type) (hlimit : ¬ len > e.platform.arrayLengthLimit) (hheap : ¬ len * componentBytes type > e.platform.maxHeapBytes) (hfit : fits type init = true) (hdef : init.isDefault = true) {Q : Addr → Pre} (h1 : s.heap.size < e.platform.maxCells) (h2 : s.slotsUsed + len ≤ e.platform.maxSlots) (hq : Q s.heap.size d acts (s.pushCell (arrV c len (fun _ => init)))) : wp (Jvm.newArray c len init) Q E e d acts s := by
  rw [← arrV_new] at hq
  have hall : ((Array.replicate len init).all (·.isDefault)) = true := by
    rw [Array.all_replicate]
    split <;> simp [hdef]
  have hda : allocActs (Array.replicate len init) s.heap.size acts = acts := by
    unfold allocActs
    rw [if_pos hall]
  simp only [Jvm.newArray, Jvm.arrayFits, wp_bind', W.ask, W.ite, hlimit, if_false, wp_pure', W.theClass, hk, hkind, hheap, W.alloc, W.stop, Option.some.injEq, exists_eq_left', Array.size_replicate, hda]
  rw [if_neg (by omega)]
  refine ⟨h1, h2, fun i v hv => ?_, hq⟩
  rw [Array.getElem?_replicate] at hv
  split at hv
  · cases hv
    simp [State.fitsSlot, State.slotType?, hk, hkind, hfit]
  · cases hv
theorem mu_make {cA cI : ClassId} {kA kI : Class} {cc : ClassId} {n k : Int32} (hA : s.vm.classes[cA]? = some kA) (hAk : kA.kind = .array cI (.array .int)) (hI : s.vm.classes[cI]? = some kI) (hIk : kI.kind = .array cc .int) (hn : ¬ n < 0) (hk : ¬ k < 0) (hn2 : n.toNatClampNeg ≤ 65536) (hk2 : k.toNatClampNeg ≤ 65536) (hpl : 65536 ≤ e.platform.arrayLengthLimit) (hpm : 65536 * 4 ≤ e.platform.maxHeapBytes) (hc : s.heap.size + (1 + n.toNatClampNeg) ≤ e.platform.maxCells) (hs : s.slotsUsed + (n.toNatClampNeg + n.toNatClampNeg * k.toNatClampNeg) ≤ e.platform.maxSlots) {Q : Addr → Pre} (hq : ∀ d' acts', Q s.heap.size d' acts' (mu_T s cA cI n.toNatClampNeg k.toNatClampNeg n.toNatClampNeg)) : wp (multianewarray.make cA [n, k]) Q E e d acts s := by
  generalize hnv : n.toNatClampNeg = N at hn2 hc hs hq
  generalize hkv : k.toNatClampNeg = M at hk2 hs hq
  rw [multianewarray.make]
  simp only [wp_bind', W.ite, hn, if_false, wp_pure', W.theClass, hA, hAk, Option.some.injEq, exists_eq_left']
  rw [hnv]
  refine mu_alloc hA hAk (by omega) (by show ¬ N * 4 > _; omega) rfl rfl (by omega) (by omega) ?_
  have hfind : ([k].find? (· < 0)) = none := by simp [hk]
  simp only [hfind]
  rw [ite_self, wp_bind', Std.Legacy.Range.forIn_eq_forIn_range', show ([:N] : Std.Legacy.Range).size = N by simp [Std.Legacy.Range.size]]
  show wp (forIn (List.range' 0 N 1) PUnit.unit _) _ E e d acts _
  have e0 : s.pushCell (arrV cA N (fun _ => .null)) = mu_T s cA cI N M 0 := by
    show _ = s.pushCell (mu_c cA N s.heap.size 0)
    unfold mu_c
    simp [va_rf]
  rw [e0]
  refine wp_forIn_inv (fun rest u => ∃ i, i ≤ N ∧ rest = List.range' i (N - i) ∧ u = mu_T s cA cI N M i) _ _ ⟨0, Nat.zero_le _, rfl, rfl⟩ ?_ ?_
  · rintro x rest u d' acts' Q' ⟨i, hi, hl, rfl⟩ hnext
    have hlt : i < N := Nat.lt_of_not_le fun h9 => by
      rw [Nat.sub_eq_zero_of_le h9] at hl
      cases hl
    rw [show N - i = (N - (i + 1)) + 1 by omega, List.range'_succ] at hl
    obtain ⟨rfl, rfl⟩ := List.cons.inj hl
    obtain ⟨i1, i2, i3, i4, i5, i6, i7⟩ := mu_all s cA cI N M x
    have hmul : x * M + M ≤ N * M := by
      have := Nat.mul_le_mul_right M (show x + 1 ≤ N from hlt)
      rw [Nat.succ_mul] at this
      exact this
    have hI' : (mu_T s cA cI N M x).vm.classes[cI]? = some kI := by rw [i1]; exact hI
    simp only [wp_bind']
    rw [multianewarray.make]
    simp only [wp_bind', W.ite, hk, if_false, wp_pure', W.theClass, hI', hIk, Option.some.injEq, exists_eq_left']
    rw [hkv]
    refine mu_alloc hI' hIk (by omega) (by show ¬ M * 4 > _; omega) rfl rfl (by rw [i2]; omega) (by rw [i3]; omega) ?_
    simp only [wp_bind', W.writeLoc, wp_pure']
    have hlt0 : s.heap.size < (mu_T s cA cI N M x).heap.size := by rw [i2]; omega
    refine ⟨mu_c cA N s.heap.size x, (State.heap_pushCell_of_lt _ _ hlt0).trans i4, by unfold mu_c arrV; simp, ?_, ?_, hnext _ _ _ ⟨x + 1, hlt, rfl, ?_⟩⟩
    · show x < (arrV _ _ _).slots.size
      rw [arrV_size]
      exact hlt
    · have hA' : (mu_T s cA cI N M x).vm.classes[cA]? = some kA := by rw [i1]; exact hA
      show State.fitsSlot _ cA .none x _ = true
      simp [State.fitsSlot, State.slotType?, hA', hAk, fits]
    · rw [i2, mu_next]
      rfl
  · rintro u d' acts' ⟨i, hi, hl, rfl⟩
    have hiN : i = N := Nat.le_antisymm hi (Nat.le_of_not_lt fun h9 => by
      rw [show N - i = (N - (i + 1)) + 1 by omega, List.range'_succ] at hl
      cases hl)
    subst hiN
    simp only [wp_pure']
    exact hq _ _
end MW
section MU
variable {Γ : Gc} {p : Program} {l : Launch} {e : Env} {fr lo : Nat} {s : State} {m : MethodId} {args : Array Value} {below : List Frame} {meth : Method} {c : Code} {nL : Nat} {α : Type} {z : Nat} {vl : α → Option Value} {rF : α} {tF t : St} {pc : Nat} {lv : List (Nat × Value)} {st rest : List Value} {cc : ByteArray} {own : String}
theorem mu_stand {R : Room} {T : State} {locs : List Loc} {cells slots : Nat} (X : Stand p l e R s m args below meth c T locs cells slots) (cA cI : ClassId) (n k : Nat) (i : Nat) : Stand p l e R s m args below meth c (mu_T T cA cI n k i) (locs ++ (List.range i).map fun j => ⟨T.heap.size, j⟩) (cells + (1 + i)) (slots + (n + i * k)) := by
  induction i with
  | zero =>
    have h := X.pushed (mu_c cA n T.heap.size 0)
    rw [show (mu_c cA n T.heap.size 0).slots.size = n from arrV_size _ _ _] at h
    simpa [mu_T] using h
  | succ i ih =>
    obtain ⟨i1, i2, i3, i4, i5, i6, i7⟩ := mu_all T cA cI n k i
    have hlt0 : T.heap.size < (mu_T T cA cI n k i).heap.size := by rw [i2]; omega
    have h0 : ((mu_T T cA cI n k i).pushCell (mu_r cI k)).heap[T.heap.size]? = some (mu_c cA n T.heap.size i) := (State.heap_pushCell_of_lt _ _ hlt0).trans i4
    have h := (ih.pushed (mu_r cI k)).stored h0 i (.ref (T.heap.size + 1 + i))
    rw [mu_next, show (mu_r cI k).slots.size = k from arrV_size _ _ _] at h
    rw [show (locs ++ (List.range (i + 1)).map fun j => (⟨T.heap.size, j⟩ : Loc)) = (locs ++ (List.range i).map fun j => (⟨T.heap.size, j⟩ : Loc)) ++ [⟨T.heap.size, i⟩] by simp [List.range_succ, List.append_assoc], show cells + (1 + (i + 1)) = cells + (1 + i) + 1 by omega, show slots + (n + (i + 1) * k) = slots + (n + i * k) + k by rw [Nat.succ_mul]; omega]
    exact h
theorem mu_step {R : Room} {T : State} {locs : List Loc} {cells slots : Nat} (X : Stand p l e R s m args below meth c T locs cells slots) (hexec : p.tables.exec = Jvm.exec) {index : Nat} {cA cI : ClassId} (hown : s.vm.findClass own = some m.cls) (hcl : (Cond.classLink own index "[[I").before args s = true) (hov : (Cond.arrayOver (.array .int)).before args s = true) (har : (Cond.arrayClass .int).before args s = true) (hfA : s.vm.findClass "[[I" = some cA) (hfI : s.vm.findClass "[I" = some cI) {g : JFrame} (hg : g.method = m) (hdg : decode c.code g.pc = .ok (.multianewarray index 2, 4)) {n k : Int32} (hst : g.stack = .int k :: .int n :: rest) (hn : ¬ n < 0) (hk : ¬ k < 0) (hn2 : n.toNatClampNeg ≤ 65536) (hk2 : k.toNatClampNeg ≤ 65536) (hcells : cells + (1 + n.toNatClampNeg) ≤ R.cells) (hslots : slots + (n.toNatClampNeg + n.toNatClampNeg * k.toNatClampNeg) ≤ R.slots) :
    ∃ vm₁ : Vm, Stand p l e R s m args below meth c (mu_T (T.setVm vm₁) cA cI n.toNatClampNeg k.toNatClampNeg n.toNatClampNeg) (locs ++ (List.range n.toNatClampNeg).map fun j => ⟨T.heap.size, j⟩) (cells + (1 + n.toNatClampNeg)) (slots + (n.toNatClampNeg + n.toNatClampNeg * k.toNatClampNeg)) ∧ ∀ target, Steps p.tables e below ((mu_T (T.setVm vm₁) cA cI n.toNatClampNeg k.toNatClampNeg n.toNatClampNeg).setTop { g with pc := g.pc + 4, stack := .ref T.heap.size :: rest }) target → Steps p.tables e below (T.setTop g) target := by
  subst hg
  obtain ⟨comp, cA', kA, h1, -, h3, h4, h5⟩ := arrayOverA_spec hov
  obtain ⟨comp', kI, cc', h6, h7, h8⟩ := Cond.arrayClass_spec har
  have eI : comp = cI := Option.some.inj (h1.symm.trans hfI)
  have eI' : comp' = cI := Option.some.inj (h6.symm.trans hfI)
  have eA : cA' = cA := Option.some.inj (h5.symm.trans hfA)
  subst eI
  subst eI'
  subst eA
  obtain ⟨c0, hc0, hlk⟩ := Cond.classLink_spec hown hcl e.platform (by rw [X.admits.platform])
  have e0 : c0 = cA' := Option.some.inj (hc0.symm.trans hfA)
  subst e0
  obtain ⟨hgv, hW, hrd⟩ := State.classEntry (e := e) X.warmed hlk
  generalize T.vm.noted g.method.cls index (.cls c0) = vm₁ at hgv hW hrd
  obtain ⟨kA₁, hkA₁, heA⟩ := hW.alike.2.2 _ _ h3
  obtain ⟨kI₁, hkI₁, heI⟩ := hW.alike.2.2 _ _ h7
  have X₁ := mu_stand (X.noted hW) c0 comp' n.toNatClampNeg k.toNatClampNeg n.toNatClampNeg
  obtain ⟨r1, r2⟩ := X.roomAbove hcells hslots
  refine ⟨vm₁, X₁, fun target hrest => ?_⟩
  jvm_step X.here [hexec, hdg]
  simp only [multianewarray.sem, wp_bind', W.resolveClassAt_links (State.method?_setTop g X.here.top) hgv]
  rw [W.popN, if_neg (by decide)]
  refine ⟨g, State.topJava?_setTop' (s := T.setVm vm₁) g X.here.top, [.int n, .int k], rest, rfl, hst, ?_⟩
  simp only [List.mapM_cons, List.mapM_nil, wp_bind', wp_pure']
  refine mu_make (kA := kA₁) (kI := kI₁) (cI := comp') (cc := cc') hkA₁ (by rw [heA]; exact h4) hkI₁ (by rw [heI]; exact h8) hn hk hn2 hk2 (by rw [Launch.admits_arrayLengthLimit X.admits]; decide) (by rw [Launch.admits_maxHeapBytes X.admits]; decide) (by show T.heap.size + _ ≤ _; omega) (by show T.slotsUsed + _ ≤ _; omega) (fun d' acts' => ?_)
  have eS : ((T.setTop g).setVm vm₁).setTop { g with stack := rest } = (T.setVm vm₁).setTop { g with stack := rest } := by
    show ((T.setVm vm₁).setTop g).setTop _ = _
    rw [State.setTop_setTop]
  rw [eS, (mu_all (T.setVm vm₁) c0 comp' n.toNatClampNeg k.toNatClampNeg n.toNatClampNeg).2.2.2.2.2.2]
  simp only [wp_bind', W.mark, W.pushRef, State.topJava?_setTop' _ X₁.here.top, Option.some.injEq, exists_eq_left', State.setTop_setTop, State.heap_setTop]
  intro acts
  simp [jvm, X₁.here.top]
  exact hrest
theorem cg_multi (X : g_X Γ p s m args meth c cc nL own) {index : Nat} {nn kk0 : Int32} {n k : Nat} {K : Nat → St → Option (α × St)} (d : decode cc pc = .ok (.multianewarray index 2, 4)) (hcl : Cond.classLink own index "[[I" ∈ lw_all) (hov : Cond.arrayOver (.array .int) ∈ lw_tbl) (har : Cond.arrayClass .int ∈ lw_all) (hn : ¬ nn < 0) (hk : ¬ kk0 < 0) (hnv : nn.toNatClampNeg = n) (hkv : kk0.toNatClampNeg = k) (hn2 : n ≤ 65536) (hk2 : k ≤ 65536) (kk : ∀ a t', Wf Γ p l e fr lo s m args below meth c nL (g_ι z) vl rF tF (pc + 4) lv (.ref a :: rest) t' (K a t')) : Wf Γ p l e fr lo s m args below meth c nL (g_ι z) vl rF tF pc lv (.int kk0 :: .int nn :: rest) t (cmulti z n k t K) := by
  intro hF
  have k1 := kk _ _ hF
  have m1 : t.2.1 + (1 + n) ≤ tF.2.1 := k1.1.1
  have m2 : t.2.2 + (n + n * k) ≤ tF.2.2 := k1.1.2
  refine ⟨⟨Nat.le_trans (Nat.le_add_right _ _) m1, Nat.le_trans (Nat.le_add_right _ _) m2⟩, fun H locs ls h1 h2 h3 h4 => ?_⟩
  have hts := X.2.2.2.2.1
  have hE := X.2.2.2.2.2.2.1
  intro T hT XT
  subst hT
  have hb : Γ.2.2.1 ≤ T.heap.size := Nat.le_trans X.2.2.2.2.2.2.2 h3.1
  have h2' : z + t.2.1 = T.heap.size := h2.symm
  subst hnv
  subst hkv
  obtain ⟨vm₁, X1, step⟩ := mu_step XT X.1 (own := own) (index := index) (cA := Γ.2.1 6) (cI := Γ.2.1 2) (g := F0 m pc ls (.int kk0 :: .int nn :: rest)) (rest := rest) X.2.2.2.1 (hts _ hcl) (hE.overA hov _) (hts _ har) (hE.1.2 6 _ rfl).2 (hE.1.2 2 _ rfl).2 rfl (by rw [X.2.1]; exact d) rfl hn hk hn2 hk2 m1 m2
  obtain ⟨i1, i2, i3, i4, i5, i6, i7⟩ := mu_all (T.setVm vm₁) (Γ.2.1 6) (Γ.2.1 2) nn.toNatClampNeg kk0.toNatClampNeg nn.toNatClampNeg
  have hH : g_H Γ (mu_s t.1 (z + t.2.1) nn.toNatClampNeg kk0.toNatClampNeg) (mu_T (T.setVm vm₁) (Γ.2.1 6) (Γ.2.1 2) nn.toNatClampNeg kk0.toNatClampNeg nn.toNatClampNeg).heap := by
    rw [h2']
    exact h1.multi hb i4 i6 i5
  have hS : va_S (g_A Γ.2.2.1) s.heap (mu_T (T.setVm vm₁) (Γ.2.1 6) (Γ.2.1 2) nn.toNatClampNeg kk0.toNatClampNeg nn.toNatClampNeg).heap (locs ++ (List.range nn.toNatClampNeg).map fun j => ⟨T.heap.size, j⟩) := by
    refine ⟨?_, fun x g1 g2 => (i5 x (Nat.lt_of_lt_of_le g1 h3.1)).trans (h3.2.1 x g1 g2), fun l hl => ?_⟩
    · rw [i2]
      exact Nat.le_trans h3.1 (by show T.heap.size ≤ T.heap.size + 1 + _; omega)
    · rcases List.mem_append.mp hl with hl | hl
      · exact h3.2.2 l hl
      · obtain ⟨j, -, rfl⟩ := List.mem_map.mp hl
        exact hb
  obtain ⟨tt, a1, b1⟩ := k1.2 _ _ ls hH (by show _ = z + (t.2.1 + (1 + _)); rw [i2]; show T.heap.size + 1 + _ = _; omega) hS h4 _ rfl X1
  refine ⟨tt, step tt ?_, b1⟩
  rw [← h2']
  exact a1
end MU
