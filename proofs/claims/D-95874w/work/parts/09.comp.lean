/-! the component's operations on the store, and their rows (printed by gen/comp.py) -/
set_option maxRecDepth 100000
def cgV {β : Type} (cs : List Nat) (k : Nat) (t : St) (a : Nat) (K : Value → Option β) : Option β := match t.1 a with
  | some (_, .inr q) => if q.1 ∈ cs then (match q.2[k]? with
    | some v => K v
    | none => none) else none
  | _ => none
theorem cgV_inv {β : Type} {cs : List Nat} {k : Nat} {t : St} {a : Nat} {K : Value → Option β} {r : β} (h : cgV cs k t a K = some r) : ∃ (fl : Bool) (ci : Nat) (fs : List Value) (v : Value), t.1 a = some (fl, .inr (ci, fs)) ∧ ci ∈ cs ∧ fs[k]? = some v ∧ K v = some r := by
  unfold cgV at h
  split at h
  · rename_i fl q hs
    by_cases hc : q.1 ∈ cs
    · rw [if_pos hc] at h
      split at h
      · rename_i v hv
        exact ⟨fl, q.1, q.2, v, hs, hc, hv, h⟩
      · cases h
    · rw [if_neg hc] at h; cases h
  · cases h
/-- a whole number of an object -/
def cgI {β : Type} (cs : List Nat) (k : Nat) (t : St) (a : Nat) (K : Int32 → Option β) : Option β := cgV cs k t a fun v => match v with
  | .int x => K x
  | _ => none
/-- a reference of an object, not null -/
def cgA {β : Type} (cs : List Nat) (k : Nat) (t : St) (a : Nat) (K : Nat → Option β) : Option β := cgV cs k t a fun v => match v with
  | .ref x => K x
  | _ => none
/-- a reference of an object, or null -/
def cgQ {β : Type} (cs : List Nat) (k : Nat) (t : St) (a : Nat) (K : Option Nat → Option β) : Option β := cgV cs k t a fun v => match v with
  | .ref x => K (some x)
  | .null => K none
  | _ => none
/-- a field is written -/
def cput {β : Type} (cs : List Nat) (k : Nat) (t : St) (a : Nat) (v : Value) (K : St → Option β) : Option β := match t.1 a with
  | some (true, .inr q) => if q.1 ∈ cs ∧ k < q.2.length then K (g_u t.1 a (true, .inr (q.1, q.2.set k v)), t.2) else none
  | _ => none
theorem cput_inv {β : Type} {cs : List Nat} {k : Nat} {t : St} {a : Nat} {v : Value} {K : St → Option β} {r : β} (h : cput cs k t a v K = some r) : ∃ (ci : Nat) (fs : List Value), t.1 a = some (true, .inr (ci, fs)) ∧ ci ∈ cs ∧ k < fs.length ∧ K (g_u t.1 a (true, .inr (ci, fs.set k v)), t.2) = some r := by
  unfold cput at h
  split at h
  · rename_i q hs
    by_cases hc : q.1 ∈ cs ∧ k < q.2.length
    · rw [if_pos hc] at h
      exact ⟨q.1, q.2, hs, hc.1, hc.2, h⟩
    · rw [if_neg hc] at h; cases h
  · cases h
/-- an object is made, with n slots -/
def cnew {β : Type} (z ci : Nat) (fs : List Value) (n : Nat) (t : St) (K : Nat → St → Option β) : Option β := K (z + t.2.1) (g_u t.1 (z + t.2.1) (true, .inr (ci, fs)), t.2.1 + 1, t.2.2 + n)
/-- what an array of each kind holds at its birth -/
def cz0 (j n : Nat) : vp_A := if j ≤ 2 then (n, .inl (fun _ => 0)) else if j = 3 then (n, .inr (.inl (fun _ => 0))) else (n, .inr (.inr (.inr (.inr (fun _ => none)))))
def cnewa {β : Type} (z j : Nat) (n : Int32) (t : St) (K : Nat → St → Option β) : Option β := if n < 0 ∨ 65536 < n.toNatClampNeg then none else K (z + t.2.1) (g_u t.1 (z + t.2.1) (true, .inl (j, cz0 j n.toNatClampNeg)), t.2.1 + 1, t.2.2 + n.toNatClampNeg)
/-- an element of an int-like array of kind j -/
def cald {β : Type} (j : Nat) (t : St) (a : Nat) (i : Int32) (K : Int32 → Option β) : Option β := match t.1 a with
  | some (_, .inl (j', n, .inl f)) => if j' = j then (if i < 0 ∨ n ≤ i.toNatClampNeg then none else K (f i.toNatClampNeg)) else none
  | _ => none
def cast_ {β : Type} (j : Nat) (nr : Int32 → Int32) (t : St) (a : Nat) (i x : Int32) (K : St → Option β) : Option β := match t.1 a with
  | some (true, .inl (j', n, .inl f)) => if j' = j then (if i < 0 ∨ n ≤ i.toNatClampNeg then none else K (g_u t.1 a (true, .inl (j, n, .inl (upd f i.toNatClampNeg (nr x)))), t.2)) else none
  | _ => none
def caldl {β : Type} (t : St) (a : Nat) (i : Int32) (K : Int64 → Option β) : Option β := match t.1 a with
  | some (_, .inl (j', n, .inr (.inl f))) => if j' = 3 then (if i < 0 ∨ n ≤ i.toNatClampNeg then none else K (f i.toNatClampNeg)) else none
  | _ => none
def castl {β : Type} (t : St) (a : Nat) (i : Int32) (x : Int64) (K : St → Option β) : Option β := match t.1 a with
  | some (true, .inl (j', n, .inr (.inl f))) => if j' = 3 then (if i < 0 ∨ n ≤ i.toNatClampNeg then none else K (g_u t.1 a (true, .inl (3, n, .inr (.inl (vp_updL f i.toNatClampNeg x)))), t.2)) else none
  | _ => none
/-- an element of an array of references (kinds 4, 5, 6), not null -/
def caldA {β : Type} (j : Nat) (t : St) (a : Nat) (i : Int32) (K : Nat → Option β) : Option β := match t.1 a with
  | some (_, .inl (j', n, .inr (.inr (.inr (.inr f))))) => if j' = j then (if i < 0 ∨ n ≤ i.toNatClampNeg then none else (match f i.toNatClampNeg with
    | some x => K x
    | none => none)) else none
  | _ => none
/-- null is stored -/
def castN {β : Type} (j : Nat) (t : St) (a : Nat) (i : Int32) (K : St → Option β) : Option β := match t.1 a with
  | some (true, .inl (j', n, .inr (.inr (.inr (.inr f))))) => if j' = j then (if i < 0 ∨ n ≤ i.toNatClampNeg then none else K (g_u t.1 a (true, .inl (j, n, .inr (.inr (.inr (.inr (va_up f i.toNatClampNeg none)))))), t.2)) else none
  | _ => none
/-- an object of the classes cs is stored -/
def castA {β : Type} (j : Nat) (cs : List Nat) (t : St) (a : Nat) (i : Int32) (v : Nat) (K : St → Option β) : Option β := match t.1 v with
  | some (_, .inr q) => if q.1 ∈ cs then (match t.1 a with
    | some (true, .inl (j', n, .inr (.inr (.inr (.inr f))))) => if j' = j then (if i < 0 ∨ n ≤ i.toNatClampNeg then none else K (g_u t.1 a (true, .inl (j, n, .inr (.inr (.inr (.inr (va_up f i.toNatClampNeg (some v))))))), t.2)) else none
    | _ => none) else none
  | _ => none
def calen {β : Type} (t : St) (a : Nat) (K : Int32 → Option β) : Option β := match t.1 a with
  | some (_, .inl q) => if q.1 < 7 then K (Int32.ofNat q.2.1) else none
  | _ => none
/-- an object's class, by its number -/
def ccls {β : Type} (t : St) (a : Nat) (K : Nat → Option β) : Option β := match t.1 a with
  | some (_, .inr q) => K q.1
  | _ => none
/-- new: what the tables say -/
def g_nw (own : String) (index ci : Nat) (fs : List Value) (NS : Nat) : Prop := ∃ (C : String) (T : u_T) (N : Nat) (ty : Nat → FieldType), cls[ci]? = some (C, T, N) ∧ Cond.classLink own index C ∈ lw_all ∧ Cond.instantiable C NS ∈ lw_all ∧ Cond.initialized C ∈ lw_all ∧ (∀ w ∈ u_ws C T N, w ∈ lw_all) ∧ (∀ k, k < N → parseFieldDescriptor (T k).2.2.1 = some (ty k)) ∧ ∀ j, j < N → defaultValue (ty j) = vp_V fs j
section CR
variable {Γ : Gc} {p : Program} {l : Launch} {e : Env} {fr lo : Nat} {s : State} {m : MethodId} {args : Array Value} {below : List Frame} {meth : Method} {c : Code} {nL : Nat} {α : Type} {z : Nat} {vl : α → Option Value} {rF : α} {tF t : St} {pc : Nat} {lv : List (Nat × Value)} {st rest : List Value} {cc : ByteArray} {own : String}
theorem cg_getI (X : g_X Γ p s m args meth c cc nL own) {index k : Nat} {cs : List Nat} (fo : g_fo own index cs k) {a : Nat} {K : Int32 → Option (α × St)} (d : decode cc pc = .ok (.getfield index, 3)) (kk : ∀ v, Wf Γ p l e fr lo s m args below meth c nL (g_ι z) vl rF tF (pc + 3) (lv) (.int v :: rest) t (K v)) : Wf Γ p l e fr lo s m args below meth c nL (g_ι z) vl rF tF (pc) (lv) (.ref a :: rest) t (cgI cs k t a K) := by
  intro hF
  obtain ⟨fl, ci, fs, v, h1, h2, h3, h4⟩ := cgV_inv hF
  cases v with
  | int x => exact g_getE X fo d h1 h2 h3 (kk x) h4
  | _ => cases h4
theorem cg_getA (X : g_X Γ p s m args meth c cc nL own) {index k : Nat} {cs : List Nat} (fo : g_fo own index cs k) {a : Nat} {K : Nat → Option (α × St)} (d : decode cc pc = .ok (.getfield index, 3)) (kk : ∀ v, Wf Γ p l e fr lo s m args below meth c nL (g_ι z) vl rF tF (pc + 3) (lv) (.ref v :: rest) t (K v)) : Wf Γ p l e fr lo s m args below meth c nL (g_ι z) vl rF tF (pc) (lv) (.ref a :: rest) t (cgA cs k t a K) := by
  intro hF
  obtain ⟨fl, ci, fs, v, h1, h2, h3, h4⟩ := cgV_inv hF
  cases v with
  | ref x => exact g_getE X fo d h1 h2 h3 (kk x) h4
  | _ => cases h4
theorem cg_getQ (X : g_X Γ p s m args meth c cc nL own) {index k : Nat} {cs : List Nat} (fo : g_fo own index cs k) {a : Nat} {K : Option Nat → Option (α × St)} (d : decode cc pc = .ok (.getfield index, 3)) (kk : ∀ v, Wf Γ p l e fr lo s m args below meth c nL (g_ι z) vl rF tF (pc + 3) (lv) (va_rf v :: rest) t (K v)) : Wf Γ p l e fr lo s m args below meth c nL (g_ι z) vl rF tF (pc) (lv) (.ref a :: rest) t (cgQ cs k t a K) := by
  intro hF
  obtain ⟨fl, ci, fs, v, h1, h2, h3, h4⟩ := cgV_inv hF
  cases v with
  | ref x => exact g_getE X fo d h1 h2 h3 (kk (some x)) h4
  | null => exact g_getE X fo d h1 h2 h3 (kk none) h4
  | _ => cases h4
theorem cg_put (X : g_X Γ p s m args meth c cc nL own) {index k : Nat} {cs : List Nat} {ty : FieldType} {fin : Bool} (fp : g_fp own index cs k ty fin) {a : Nat} {v : Value} {K : St → Option (α × St)} (d : decode cc pc = .ok (.putfield index, 3)) (hin : fin = true → meth.name = "<init>") (hn : narrow ty v = v) (hfit : fits ty v = true) (kk : ∀ t', Wf Γ p l e fr lo s m args below meth c nL (g_ι z) vl rF tF (pc + 3) (lv) (rest) t' (K t')) : Wf Γ p l e fr lo s m args below meth c nL (g_ι z) vl rF tF (pc) (lv) (v :: .ref a :: rest) t (cput cs k t a v K) := by
  intro hF
  obtain ⟨ci, fs, h1, h2, h3, h4⟩ := cput_inv hF
  exact g_putE (t' := (g_u t.1 a (true, .inr (ci, fs.set k v)), t.2)) X fp d hin hn hfit h1 h2 h3 rfl (kk _) h4
theorem cg_new (X : g_X Γ p s m args meth c cc nL own) {index ci NS : Nat} {fs : List Value} (nw : g_nw own index ci fs NS) {K : Nat → St → Option (α × St)} (d : decode cc pc = .ok (.new index, 3)) (kk : ∀ a t', Wf Γ p l e fr lo s m args below meth c nL (g_ι z) vl rF tF (pc + 3) (lv) (.ref a :: rest) t' (K a t')) : Wf Γ p l e fr lo s m args below meth c nL (g_ι z) vl rF tF (pc) (lv) (rest) t (cnew z ci fs NS t K) := by
  intro hF
  have k1 := kk _ _ hF
  have m1 : t.2.1 + 1 ≤ tF.2.1 := k1.1.1
  have m2 : t.2.2 + NS ≤ tF.2.2 := k1.1.2
  refine ⟨⟨Nat.le_trans (Nat.le_add_right _ _) m1, Nat.le_trans (Nat.le_add_right _ _) m2⟩, fun H locs ls h1 h2 h3 h4 => ?_⟩
  obtain ⟨C, T, N, ty, e1, e2, e3, e4, e5, e6, e7⟩ := nw
  have hts := X.2.2.2.2.1
  have hKn := X.2.2.2.2.2.2.1.1.1 ci _ e1
  refine W.newcK X.1 X.2.1 X.2.2.2.1 (hts _ e2) (hts _ e3) (hts _ e4) rfl d m1 m2 hKn.2.1 rfl fun H1 kC hkC f1 z1 o1 => ?_
  have hb : Γ.2.2.1 ≤ H.size := Nat.le_trans X.2.2.2.2.2.2.2 h3.1
  have h2' : z + t.2.1 = H.size := h2.symm
  refine h2' ▸ k1.2 H1 locs ls ?_ ?_ ⟨Nat.le_trans h3.1 (by omega), fun x g1 g2 => (o1 x (Nat.lt_of_lt_of_le g1 h3.1)).trans (h3.2.1 x g1 g2), h3.2.2⟩ h4
  · show g_H Γ (g_u t.1 (z + t.2.1) (true, .inr (ci, fs))) H1
    rw [h2']
    exact h1.push hb ⟨_, e1, (u_born ty hts e5 hKn hkC f1 e6).to e7⟩ o1
  · show H1.size = z + (t.2.1 + 1)
    omega
theorem g_cA {s : State} {dA : Nat → ClassId} {D : va_G} (hK : va_K D cls (g_tys dA) s) {j : Nat} {ty : FieldType} (hj : (g_tys dA)[j]? = some (dA j, ty)) (hp : refKind ty = false) {cA : ClassId} (h : s.vm.findClass ("[" ++ ty.toString) = some cA) : cA = dA j := by
  have h1 := (hK.2 j _ hj).2
  cases ty with
  | object C => cases hp
  | _ => exact Option.some.inj (h.symm.trans h1)
theorem cg_newa (X : g_X Γ p s m args meth c cc nL own) {atype : ArrayType} {j : Nat} {n : Int32} {K : Nat → St → Option (α × St)} (d : decode cc pc = .ok (.newarray atype, 2)) (hj : j < 4) (hty : (g_tys Γ.2.1)[j]? = some (Γ.2.1 j, newarray.typeOf atype)) (hp : refKind (newarray.typeOf atype) = false) (hcz : ∀ N cA, vp_cell cA (cz0 j N) = arrV cA N (fun _ => defaultValue (newarray.typeOf atype))) (hby : componentBytes (newarray.typeOf atype) ≤ 8) (harr : Cond.arrayClass (newarray.typeOf atype) ∈ lw_all) (kk : ∀ a t', Wf Γ p l e fr lo s m args below meth c nL (g_ι z) vl rF tF (pc + 2) (lv) (.ref a :: rest) t' (K a t')) : Wf Γ p l e fr lo s m args below meth c nL (g_ι z) vl rF tF (pc) (lv) (.int n :: rest) t (cnewa z j n t K) := by
  refine g_no fun hq hF => ?_
  have k1 := kk _ _ hF
  have hn : ¬ n < 0 := fun h => hq (Or.inl h)
  have hN : n.toNatClampNeg ≤ 65536 := Nat.not_lt.mp fun h => hq (Or.inr h)
  have m1 : t.2.1 + 1 ≤ tF.2.1 := k1.1.1
  have m2 : t.2.2 + n.toNatClampNeg ≤ tF.2.2 := k1.1.2
  refine ⟨⟨Nat.le_trans (Nat.le_add_right _ _) m1, Nat.le_trans (Nat.le_add_right _ _) m2⟩, fun H locs ls h1 h2 h3 h4 => ?_⟩
  have hts := X.2.2.2.2.1
  refine va_newaK X.1 X.2.1 (hts _ harr) rfl d rfl hn rfl (Nat.le_trans (Nat.mul_le_mul hN hby) (by decide)) m1 m2 rfl fun H1 cA f1 z1 o1 hAr hNm => ?_
  have hcA := g_cA X.2.2.2.2.2.2.1.1 hty hp hNm
  subst hcA
  have hb : Γ.2.2.1 ≤ H.size := Nat.le_trans X.2.2.2.2.2.2.2 h3.1
  have h2' : z + t.2.1 = H.size := h2.symm
  refine h2' ▸ k1.2 H1 locs ls ?_ ?_ ⟨Nat.le_trans h3.1 (by omega), fun x g1 g2 => (o1 x (Nat.lt_of_lt_of_le g1 h3.1)).trans (h3.2.1 x g1 g2), h3.2.2⟩ h4
  · show g_H Γ (g_u t.1 (z + t.2.1) (true, .inl (j, cz0 j n.toNatClampNeg))) H1
    rw [h2']
    refine h1.push hb ?_ o1
    show H1[H.size]? = some (vp_cell (Γ.2.1 j) (cz0 j n.toNatClampNeg))
    rw [f1, hcz]
  · show H1.size = z + (t.2.1 + 1)
    omega
theorem g_E.over {Γ : Gc} {s : State} (h : g_E Γ s) {C : String} (hw : Cond.arrayOver (.object C) ∈ lw_tbl) : va_AO C s := by
  obtain ⟨-, s0, h2, -, -, h5, -⟩ := h
  exact va_AO.moved h5.alike (va_AO.of (h2 _ hw))
theorem cg_newq (X : g_X Γ p s m args meth c cc nL own) {index j : Nat} {C : String} {n : Int32} {K : Nat → St → Option (α × St)} (d : decode cc pc = .ok (.anewarray index, 3)) (hj : j = 4 ∨ j = 5) (hty : (g_tys Γ.2.1)[j]? = some (Γ.2.1 j, .object C)) (hcl : Cond.classLink own index C ∈ lw_all) (hov : Cond.arrayOver (.object C) ∈ lw_tbl) (kk : ∀ a t', Wf Γ p l e fr lo s m args below meth c nL (g_ι z) vl rF tF (pc + 3) (lv) (.ref a :: rest) t' (K a t')) : Wf Γ p l e fr lo s m args below meth c nL (g_ι z) vl rF tF (pc) (lv) (.int n :: rest) t (cnewa z j n t K) := by
  refine g_no fun hq hF => ?_
  have k1 := kk _ _ hF
  have hn : ¬ n < 0 := fun h => hq (Or.inl h)
  have hN : n.toNatClampNeg ≤ 65536 := Nat.not_lt.mp fun h => hq (Or.inr h)
  have m1 : t.2.1 + 1 ≤ tF.2.1 := k1.1.1
  have m2 : t.2.2 + n.toNatClampNeg ≤ tF.2.2 := k1.1.2
  refine ⟨⟨Nat.le_trans (Nat.le_add_right _ _) m1, Nat.le_trans (Nat.le_add_right _ _) m2⟩, fun H locs ls h1 h2 h3 h4 => ?_⟩
  have hts := X.2.2.2.2.1
  refine W.anew X.1 X.2.1 X.2.2.2.1 (hts _ hcl) (va_AO.use (X.2.2.2.2.2.2.1.over hov)) rfl d rfl hn (by omega) m1 m2 fun cA kA comp f1 f2 f3 f4 => ?_
  obtain ⟨kA', comp', r1, r2, r3, r4⟩ := (X.2.2.2.2.2.2.1.1.2 j _ hty).2
  have hcA : cA = Γ.2.1 j := Option.some.inj (f1.symm.trans r4)
  subst hcA
  have hb : Γ.2.2.1 ≤ H.size := Nat.le_trans X.2.2.2.2.2.2.2 h3.1
  have h2' : z + t.2.1 = H.size := h2.symm
  generalize hH1 : H.push ({ cls := Γ.2.1 j, slots := Array.replicate n.toNatClampNeg .null, vm := .none } : Cell) = H1
  have z1 : H1.size = H.size + 1 := by rw [← hH1, Array.size_push]
  have e1 : H1[H.size]? = some (arrV (Γ.2.1 j) n.toNatClampNeg (fun _ => .null)) := by rw [← hH1, Array.getElem?_push_size, ← arrV_new]
  have o1 : ∀ q : Nat, q < H.size → H1[q]? = H[q]? := fun q hq => by rw [← hH1, Array.getElem?_push, if_neg (Nat.ne_of_lt hq)]
  refine h2' ▸ k1.2 H1 locs ls ?_ ?_ ⟨Nat.le_trans h3.1 (by omega), fun x g1 g2 => (o1 x (Nat.lt_of_lt_of_le g1 h3.1)).trans (h3.2.1 x g1 g2), h3.2.2⟩ h4
  · show g_H Γ (g_u t.1 (z + t.2.1) (true, .inl (j, cz0 j n.toNatClampNeg))) H1
    rw [h2']
    refine h1.push hb ?_ o1
    show H1[H.size]? = some (vp_cell (Γ.2.1 j) (cz0 j n.toNatClampNeg))
    rw [e1]
    rcases hj with rfl | rfl <;> rfl
  · show H1.size = z + (t.2.1 + 1)
    omega
theorem cg_iald (X : g_X Γ p s m args meth c cc nL own) {a : Nat} {i : Int32} {K : Int32 → Option (α × St)} (d : decode cc pc = .ok (.iaload, 1)) (kk : ∀ v, Wf Γ p l e fr lo s m args below meth c nL (g_ι z) vl rF tF (pc + 1) (lv) (.int v :: rest) t (K v)) : Wf Γ p l e fr lo s m args below meth c nL (g_ι z) vl rF tF (pc) (lv) (.int i :: .ref a :: rest) t (cald 2 t a i K) := by
  intro hF
  unfold cald at hF
  split at hF
  · rename_i fl j' n f hs
    by_cases hj : j' = 2
    · rw [if_pos hj] at hF
      subst hj
      by_cases hin : i < 0 ∨ n ≤ i.toNatClampNeg
      · rw [if_pos hin] at hF; cases hF
      · rw [if_neg hin] at hF
        exact g_ialdE X d hs hin (kk _) hF
    · rw [if_neg hj] at hF; cases hF
  · cases hF
theorem cg_iast (X : g_X Γ p s m args meth c cc nL own) {a : Nat} {i x : Int32} {K : St → Option (α × St)} (d : decode cc pc = .ok (.iastore, 1)) (kk : ∀ t', Wf Γ p l e fr lo s m args below meth c nL (g_ι z) vl rF tF (pc + 1) (lv) (rest) t' (K t')) : Wf Γ p l e fr lo s m args below meth c nL (g_ι z) vl rF tF (pc) (lv) (.int x :: .int i :: .ref a :: rest) t (cast_ 2 (fun x => x) t a i x K) := by
  intro hF
  unfold cast_ at hF
  split at hF
  · rename_i j' n f hs
    by_cases hj : j' = 2
    · rw [if_pos hj] at hF
      subst hj
      by_cases hin : i < 0 ∨ n ≤ i.toNatClampNeg
      · rw [if_pos hin] at hF; cases hF
      · rw [if_neg hin] at hF
        exact g_iastE (t' := (g_u t.1 a (true, .inl (2, n, .inl (upd f i.toNatClampNeg ((fun x => x) x)))), t.2)) X d hs hin rfl (kk _) hF
    · rw [if_neg hj] at hF; cases hF
  · cases hF
theorem cg_bald (X : g_X Γ p s m args meth c cc nL own) {a : Nat} {i : Int32} {K : Int32 → Option (α × St)} (d : decode cc pc = .ok (.baload, 1)) (kk : ∀ v, Wf Γ p l e fr lo s m args below meth c nL (g_ι z) vl rF tF (pc + 1) (lv) (.int v :: rest) t (K v)) : Wf Γ p l e fr lo s m args below meth c nL (g_ι z) vl rF tF (pc) (lv) (.int i :: .ref a :: rest) t (cald 0 t a i K) := by
  intro hF
  unfold cald at hF
  split at hF
  · rename_i fl j' n f hs
    by_cases hj : j' = 0
    · rw [if_pos hj] at hF
      subst hj
      by_cases hin : i < 0 ∨ n ≤ i.toNatClampNeg
      · rw [if_pos hin] at hF; cases hF
      · rw [if_neg hin] at hF
        exact g_baldE X d hs hin (kk _) hF
    · rw [if_neg hj] at hF; cases hF
  · cases hF
theorem cg_bast (X : g_X Γ p s m args meth c cc nL own) {a : Nat} {i x : Int32} {K : St → Option (α × St)} (d : decode cc pc = .ok (.bastore, 1)) (kk : ∀ t', Wf Γ p l e fr lo s m args below meth c nL (g_ι z) vl rF tF (pc + 1) (lv) (rest) t' (K t')) : Wf Γ p l e fr lo s m args below meth c nL (g_ι z) vl rF tF (pc) (lv) (.int x :: .int i :: .ref a :: rest) t (cast_ 0 (vp_nar .byte) t a i x K) := by
  intro hF
  unfold cast_ at hF
  split at hF
  · rename_i j' n f hs
    by_cases hj : j' = 0
    · rw [if_pos hj] at hF
      subst hj
      by_cases hin : i < 0 ∨ n ≤ i.toNatClampNeg
      · rw [if_pos hin] at hF; cases hF
      · rw [if_neg hin] at hF
        exact g_bastE (t' := (g_u t.1 a (true, .inl (0, n, .inl (upd f i.toNatClampNeg ((vp_nar .byte) x)))), t.2)) X d hs hin rfl (kk _) hF
    · rw [if_neg hj] at hF; cases hF
  · cases hF
theorem cg_sald (X : g_X Γ p s m args meth c cc nL own) {a : Nat} {i : Int32} {K : Int32 → Option (α × St)} (d : decode cc pc = .ok (.saload, 1)) (kk : ∀ v, Wf Γ p l e fr lo s m args below meth c nL (g_ι z) vl rF tF (pc + 1) (lv) (.int v :: rest) t (K v)) : Wf Γ p l e fr lo s m args below meth c nL (g_ι z) vl rF tF (pc) (lv) (.int i :: .ref a :: rest) t (cald 1 t a i K) := by
  intro hF
  unfold cald at hF
  split at hF
  · rename_i fl j' n f hs
    by_cases hj : j' = 1
    · rw [if_pos hj] at hF
      subst hj
      by_cases hin : i < 0 ∨ n ≤ i.toNatClampNeg
      · rw [if_pos hin] at hF; cases hF
      · rw [if_neg hin] at hF
        exact g_saldE X d hs hin (kk _) hF
    · rw [if_neg hj] at hF; cases hF
  · cases hF
theorem cg_sast (X : g_X Γ p s m args meth c cc nL own) {a : Nat} {i x : Int32} {K : St → Option (α × St)} (d : decode cc pc = .ok (.sastore, 1)) (kk : ∀ t', Wf Γ p l e fr lo s m args below meth c nL (g_ι z) vl rF tF (pc + 1) (lv) (rest) t' (K t')) : Wf Γ p l e fr lo s m args below meth c nL (g_ι z) vl rF tF (pc) (lv) (.int x :: .int i :: .ref a :: rest) t (cast_ 1 (vp_nar .short) t a i x K) := by
  intro hF
  unfold cast_ at hF
  split at hF
  · rename_i j' n f hs
    by_cases hj : j' = 1
    · rw [if_pos hj] at hF
      subst hj
      by_cases hin : i < 0 ∨ n ≤ i.toNatClampNeg
      · rw [if_pos hin] at hF; cases hF
      · rw [if_neg hin] at hF
        exact g_sastE (t' := (g_u t.1 a (true, .inl (1, n, .inl (upd f i.toNatClampNeg ((vp_nar .short) x)))), t.2)) X d hs hin rfl (kk _) hF
    · rw [if_neg hj] at hF; cases hF
  · cases hF
theorem cg_lald (X : g_X Γ p s m args meth c cc nL own) {a : Nat} {i : Int32} {K : Int64 → Option (α × St)} (d : decode cc pc = .ok (.laload, 1)) (kk : ∀ v, Wf Γ p l e fr lo s m args below meth c nL (g_ι z) vl rF tF (pc + 1) (lv) (.long v :: rest) t (K v)) : Wf Γ p l e fr lo s m args below meth c nL (g_ι z) vl rF tF (pc) (lv) (.int i :: .ref a :: rest) t (caldl t a i K) := by
  intro hF
  unfold caldl at hF
  split at hF
  · rename_i fl j' n f hs
    by_cases hj : j' = 3
    · rw [if_pos hj] at hF
      subst hj
      by_cases hin : i < 0 ∨ n ≤ i.toNatClampNeg
      · rw [if_pos hin] at hF; cases hF
      · rw [if_neg hin] at hF
        exact g_laldE X d hs hin (kk _) hF
    · rw [if_neg hj] at hF; cases hF
  · cases hF
theorem cg_last (X : g_X Γ p s m args meth c cc nL own) {a : Nat} {i : Int32} {x : Int64} {K : St → Option (α × St)} (d : decode cc pc = .ok (.lastore, 1)) (kk : ∀ t', Wf Γ p l e fr lo s m args below meth c nL (g_ι z) vl rF tF (pc + 1) (lv) (rest) t' (K t')) : Wf Γ p l e fr lo s m args below meth c nL (g_ι z) vl rF tF (pc) (lv) (.long x :: .int i :: .ref a :: rest) t (castl t a i x K) := by
  intro hF
  unfold castl at hF
  split at hF
  · rename_i j' n f hs
    by_cases hj : j' = 3
    · rw [if_pos hj] at hF
      subst hj
      by_cases hin : i < 0 ∨ n ≤ i.toNatClampNeg
      · rw [if_pos hin] at hF; cases hF
      · rw [if_neg hin] at hF
        exact g_lastE (t' := (g_u t.1 a (true, .inl (3, n, .inr (.inl (vp_updL f i.toNatClampNeg x)))), t.2)) X d hs hin rfl (kk _) hF
    · rw [if_neg hj] at hF; cases hF
  · cases hF
theorem cg_aald (X : g_X Γ p s m args meth c cc nL own) {a j : Nat} {ty : FieldType} (hj0 : (g_tys Γ.2.1)[j]? = some (Γ.2.1 j, ty)) (hrk : refKind ty = true) {i : Int32} {K : Nat → Option (α × St)} (d : decode cc pc = .ok (.aaload, 1)) (kk : ∀ v, Wf Γ p l e fr lo s m args below meth c nL (g_ι z) vl rF tF (pc + 1) (lv) (.ref v :: rest) t (K v)) : Wf Γ p l e fr lo s m args below meth c nL (g_ι z) vl rF tF (pc) (lv) (.int i :: .ref a :: rest) t (caldA j t a i K) := by
  intro hF
  unfold caldA at hF
  split at hF
  · rename_i fl j' n f hs
    by_cases hj : j' = j
    · rw [if_pos hj] at hF
      subst hj
      by_cases hin : i < 0 ∨ n ≤ i.toNatClampNeg
      · rw [if_pos hin] at hF; cases hF
      · rw [if_neg hin] at hF
        have hlt : i.toNatClampNeg < n := Nat.not_le.mp fun q => hin (Or.inr q)
        split at hF
        · rename_i x hx
          refine ⟨(kk x hF).1, fun H locs ls h1 h2 h3 h4 => ?_⟩
          obtain ⟨cell, q1, q2, q3, q4, q5, q6, q7⟩ := g_wkA h1 hs
          exact W.aald (v := .ref x) (ty := ty) X.1 X.2.1 q1 (g_isO X.2.2.2.2.2.2.1 hj0 q2 q3) hrk q4 (fun h => hin (h.imp id (Nat.le_trans q5))) (by rw [q7 _ hlt]; show (arrV _ _ _).slots[_]? = _; rw [arrV_read _ _ hlt, hx]; rfl) rfl rfl d ((kk x hF).2 H locs ls h1 h2 h3 h4)
        · cases hF
    · rw [if_neg hj] at hF; cases hF
  · cases hF
theorem g_store {Γ : Gc} {σ : Sg} {H H1 : Heap} {a j n : Nat} {f : Nat → Option Nat} {i : Nat} {v : Option Nat} (h1 : g_H Γ σ H) (hs : σ a = some (true, .inl (j, n, .inr (.inr (.inr (.inr f)))))) (e : H1[a]? = some ((vp_cell (Γ.2.1 j) (n, .inr (.inr (.inr (.inr f))))).setSlot i (va_rf v))) (oq : ∀ q : Nat, q ≠ a → H1[q]? = H[q]?) : g_H Γ (g_u σ a (true, .inl (j, n, .inr (.inr (.inr (.inr (va_up f i v))))))) H1 := by
  refine h1.set hs rfl ?_ oq
  show H1[a]? = some (vp_cell _ _)
  rw [e, vp_cell_q, vp_cell_q, arrV_store]
  congr 2
  funext q
  by_cases hq : q = i
  · subst hq
    simp [updV, va_up]
  · simp [updV, va_up, hq]
theorem cg_astN (X : g_X Γ p s m args meth c cc nL own) {a j : Nat} {C : String} (hj0 : (g_tys Γ.2.1)[j]? = some (Γ.2.1 j, .object C)) {i : Int32} {K : St → Option (α × St)} (d : decode cc pc = .ok (.aastore, 1)) (kk : ∀ t', Wf Γ p l e fr lo s m args below meth c nL (g_ι z) vl rF tF (pc + 1) (lv) (rest) t' (K t')) : Wf Γ p l e fr lo s m args below meth c nL (g_ι z) vl rF tF (pc) (lv) (.null :: .int i :: .ref a :: rest) t (castN j t a i K) := by
  intro hF
  unfold castN at hF
  split at hF
  · rename_i j' n f hs
    by_cases hj : j' = j
    · rw [if_pos hj] at hF
      subst hj
      by_cases hin : i < 0 ∨ n ≤ i.toNatClampNeg
      · rw [if_pos hin] at hF; cases hF
      · rw [if_neg hin] at hF
        refine ⟨(kk _ hF).1, fun H locs ls h1 h2 h3 h4 => ?_⟩
        exact va_WaastN X.1 X.2.1 (h1.ex hs) ((X.2.2.2.2.2.2.1.1.2 j' _ hj0).1 n (fun j => va_rf (f j))) (fun q => by cases q) (by show ¬ (i < 0 ∨ (arrV _ _ _).slots.size ≤ _); rw [arrV_size]; exact hin) rfl rfl d fun H1 e1 z1 oq => (kk _ hF).2 H1 _ ls (g_store (v := none) h1 hs e1 oq) (z1.trans h2) (h3.put z1 oq ((h1 a _ hs).2 rfl)) h4
    · rw [if_neg hj] at hF; cases hF
  · cases hF
theorem g_any {Γ : Gc} {s : State} {σ : Sg} {H : Heap} (hE : g_E Γ s) (h1 : g_H Γ σ H) {v ci : Nat} {fl : Bool} {fs : List Value} (hs : σ v = some (fl, .inr (ci, fs))) {C E : String} {T : u_T} {N : Nat} (hc : cls[ci]? = some (C, T, N)) (hw : C = E ∨ Cond.castable C E ∈ lw_tbl) : va_Any E s H v := by
  obtain ⟨cell, r1, r2, r3⟩ := g_rcv hE.1 h1 hs hc
  obtain ⟨kC, hkC, -⟩ := Vm.findClass_spec r3
  suffices hasg : ∀ comp c0 : ClassId, s.vm.findClass E = some comp → s.vm.findClass C = some c0 → s.vm.assignable c0 comp = true from ⟨cell, r1, r2, ⟨kC, hkC⟩, fun comp h => hasg comp _ h r3⟩
  intro comp c0 g1 g2
  rcases hw with rfl | hw
  · obtain ⟨-, hca⟩ := hE.1.1 ci _ hc
    have e1 : comp = c0 := Option.some.inj (g1.symm.trans g2)
    subst e1
    have e2 : comp = _ := Option.some.inj (g1.symm.trans hca.1)
    rw [e2]
    exact va_assign hca
  · have h := hE.castable hw
    obtain ⟨cc0, tt0, q1, q2, q3⟩ := Cond.castable_spec (args := #[]) h
    rw [Option.some.inj (g1.symm.trans q2), Option.some.inj (g2.symm.trans q1)]
    exact q3
theorem cg_astA (X : g_X Γ p s m args meth c cc nL own) {a j v : Nat} {cs : List Nat} {E : String} (hj0 : (g_tys Γ.2.1)[j]? = some (Γ.2.1 j, .object E)) (hcs : ∀ ci ∈ cs, ∃ (C : String) (T : u_T) (N : Nat), cls[ci]? = some (C, T, N) ∧ (C = E ∨ Cond.castable C E ∈ lw_tbl)) {i : Int32} {K : St → Option (α × St)} (d : decode cc pc = .ok (.aastore, 1)) (kk : ∀ t', Wf Γ p l e fr lo s m args below meth c nL (g_ι z) vl rF tF (pc + 1) (lv) (rest) t' (K t')) : Wf Γ p l e fr lo s m args below meth c nL (g_ι z) vl rF tF (pc) (lv) (.ref v :: .int i :: .ref a :: rest) t (castA j cs t a i v K) := by
  intro hF
  unfold castA at hF
  split at hF
  · rename_i fl o hv
    by_cases hc : o.1 ∈ cs
    · rw [if_pos hc] at hF
      split at hF
      · rename_i j' n f hs
        by_cases hj : j' = j
        · rw [if_pos hj] at hF
          subst hj
          by_cases hin : i < 0 ∨ n ≤ i.toNatClampNeg
          · rw [if_pos hin] at hF; cases hF
          · rw [if_neg hin] at hF
            refine ⟨(kk _ hF).1, fun H locs ls h1 h2 h3 h4 => ?_⟩
            have hlt : i.toNatClampNeg < n := Nat.not_le.mp fun q => hin (Or.inr q)
            have h0 : ¬ i < 0 := fun q => hin (Or.inl q)
            obtain ⟨C, T, N, e1, e2⟩ := hcs _ hc
            obtain ⟨cellV, g1, g3, ⟨kC, hkC⟩, hasg⟩ := g_any X.2.2.2.2.2.2.1 h1 hv e1 e2
            obtain ⟨kA, comp, k1, k2, k3, -⟩ := (X.2.2.2.2.2.2.1.1.2 j' _ hj0).2
            obtain ⟨kE, hkE, -⟩ := Vm.findClass_spec k3
            refine W.aast X.1 X.2.1 (h1.ex hs) (fun q h => by cases h) (fun h => by cases h) k1 k2 rfl hkE ⟨h0, by show _ < (arrV _ _ _).slots.size; rw [arrV_size]; exact hlt⟩ g1 (fun q h => by rw [h] at g3; cases g3) hkC (hasg _ k3) rfl rfl d fun H1 f1 z1 oq => ?_
            exact (kk _ hF).2 H1 _ ls (g_store (v := some v) h1 hs f1 oq) (z1.trans h2) (h3.put z1 oq ((h1 a _ hs).2 rfl)) h4
        · rw [if_neg hj] at hF; cases hF
      · cases hF
    · rw [if_neg hc] at hF; cases hF
  · cases hF
theorem cg_alen (X : g_X Γ p s m args meth c cc nL own) {a : Nat} {K : Int32 → Option (α × St)} (d : decode cc pc = .ok (.arraylength, 1)) (kk : ∀ v, Wf Γ p l e fr lo s m args below meth c nL (g_ι z) vl rF tF (pc + 1) (lv) (.int v :: rest) t (K v)) : Wf Γ p l e fr lo s m args below meth c nL (g_ι z) vl rF tF (pc) (lv) (.ref a :: rest) t (calen t a K) := by
  intro hF
  unfold calen at hF
  split at hF
  · rename_i fl q hs
    by_cases hj : q.1 < 7
    · rw [if_pos hj] at hF
      exact g_alenE X hj d hs (kk _) hF
    · rw [if_neg hj] at hF; cases hF
  · cases hF
/-- Object's own constructor -/
theorem cg_obj (X : g_X Γ p s m args meth c cc nL own) {idx a : Nat} {τ : Type} {ι : τ → Iv} {tF t : τ} {F : Option (α × τ)} (d : decode cc pc = .ok (.invokespecial idx, 3)) (h1 : Cond.methodLink own idx Lib.objectInit ∈ lw_all) (h2 : Cond.instanceMethod Lib.objectInit ∈ lw_all) (h3 : Cond.code Lib.objectInit ⟨#[0xb1]⟩ 1 none ∈ lw_all) (hf : 1 ≤ fr) (hl : (rest.map fun v => v.category).sum + 12 ≤ lo) (kk : Wf Γ p l e fr lo s m args below meth c nL ι vl rF tF (pc + 3) lv rest t F) : Wf Γ p l e fr lo s m args below meth c nL ι vl rF tF pc lv (.ref a :: rest) t F := by
  intro hF
  have hts := X.2.2.2.2.1
  refine ⟨(kk hF).1, fun H locs ls g1 g2 g3 g4 => W.objInit X.1 X.2.1 X.2.2.2.1 (hts _ h1) (hts _ h2) (hts _ h3) rfl (by rw [X.2.2.1]; exact g4.1) rfl d hf ?_ ((kk hF).2 H locs ls g1 g2 g3 g4)⟩
  show 2 * 0 + _ + 12 ≤ _
  rw [Nat.mul_zero, Nat.zero_add]
  exact hl
end CR
