/-! rows: instructions that may throw, casts and tests of arrays, texts -/
set_option maxRecDepth 100000
/-- the names of the arrays of numbers, by kind -/
def x_pn (j : Nat) : String := match j with
  | 0 => "[B"
  | 1 => "[S"
  | 2 => "[I"
  | _ => "[J"
theorem x_pnF {Γ : Gc} {s : State} (h : g_E Γ s) {j : Nat} (hj : j < 4) : s.vm.findClass (x_pn j) = some (Γ.2.1 j) := by
  match j, hj with
  | 0, _ => exact (h.1.2 0 _ rfl).2
  | 1, _ => exact (h.1.2 1 _ rfl).2
  | 2, _ => exact (h.1.2 2 _ rfl).2
  | 3, _ => exact (h.1.2 3 _ rfl).2
theorem x_pnM {j : Nat} (hj : j < 4) : x_pn j ∈ x_prims := by
  match j, hj with
  | 0, _ => decide
  | 1, _ => decide
  | 2, _ => decide
  | 3, _ => decide
theorem x_nc : ∀ i, i < 4 → ∀ j, j < 4 → i ≠ j → Cond.not (.castable (x_pn i) (x_pn j)) ∈ flatC (Jvm.Cond.and given_1 narrow_1) := by
  decide +kernel
theorem x_named {vm : Vm} {n : String} {c : ClassId} (h : vm.findClass n = some c) : ∃ k, vm.classes[c]? = some k ∧ k.name = n ∧ k.hidden = none ∧ k.loader = none := by
  obtain ⟨h1, h2, -⟩ := Array.findIdx?_eq_some_iff_getElem.mp h
  refine ⟨_, Array.getElem?_eq_getElem h1, ?_⟩
  simp only [Bool.and_eq_true, beq_iff_eq] at h2
  obtain ⟨⟨⟨g1, g2⟩, -⟩, g3⟩ := h2
  exact ⟨g1, Option.isNone_iff_eq_none.mp g2, Option.isNone_iff_eq_none.mp g3⟩
/-- the modules, as the claim's start has them -/
theorem x_mods {Γ : Gc} {s : State} (h : g_E Γ s) {vm' : Vm} (hW : s.WarmedH vm') : ∀ x ∈ vm'.modules, x.loader = none → x.packages.contains "" = true → x.name = "java.base" := by
  obtain ⟨-, s0, -, -, g4, g5, -⟩ := h
  have e1 : vm'.modules = s0.vm.modules := by
    have h1 := (State.WarmedH.trans g5 hW).1
    rw [h1]
  intro x hx hl hp
  rw [e1] at hx
  have h2 := List.all_eq_true.mp g4 x hx
  have h3 : (castPackages_1.any fun p => x.packages.contains p) = true := by
    simp only [castPackages_1, List.any_cons, hp, Bool.true_or]
  rw [hl, h3] at h2
  simpa using h2
/-- a cast to an array of numbers; null passes -/
def ccka {β : Type} (j : Nat) (t : St) (v : Option Nat) (F FX : Option β) : Option β := match v with
  | none => F
  | some a => match t.1 a with
    | some (true, .inl q) => if q.1 = j then F else if q.1 < 4 then FX else none
    | _ => none
/-- instanceof an array of numbers -/
def cins {β : Type} (j : Nat) (t : St) (v : Option Nat) (K : Int32 → Option β) : Option β := match v with
  | none => K 0
  | some a => match t.1 a with
    | some (true, .inl q) => if q.1 = j then K 1 else if q.1 < 4 then K 0 else none
    | _ => none
/-- null, or not -/
def cnul {β : Type} (v : Option Nat) (FX : Option β) (K : Nat → Option β) : Option β := match v with
  | none => FX
  | some a => K a
/-- a place beyond the array -/
def cidx {β : Type} (t : St) (a : Nat) (i : Int32) (FX F : Option β) : Option β := match t.1 a with
  | some (true, .inl q) => if i < 0 ∨ q.2.1 ≤ i.toNatClampNeg then (if q.1 < 4 ∧ q.2.1 < 1000 then FX else none) else F
  | _ => none
section XO
variable {Γ : Gc} {p : Program} {l : Launch} {e : Env} {fr lo : Nat} {s : State} {m : MethodId} {args : Array Value} {below : List Frame} {meth : Method} {c : Code} {nL : Nat} {α : Type} {z : Nat} {vl : α → Option Value} {rF : α} {tF t : St} {pc : Nat} {lv : List (Nat × Value)} {st st' rest : List Value} {cc : ByteArray} {own : String} {F FX : Option (α × St)} {ex : Nat → Option Nat}
theorem cx_newa (X : g_X Γ p s m args meth c cc nL own) (hl : l.stackTraces = false) {at_ : ArrayType} {n : Int32} (hn : n < 0) (d : decode cc pc = .ok (.newarray at_, 2)) (hfr : 2 + 4 < fr) (hlo : (rest.map fun v => v.category).sum + 10240 ≤ lo)
    (kx : Wx Γ p l e fr lo s m args below meth c nL (g_ι z) vl rF tF pc lv rest (z + t.2.1 + 2) (xNew z 2 30 t) F) : Wf Γ p l e fr lo s m args below meth c nL (g_ι z) vl rF tF pc lv (.int n :: rest) t F :=
  x_mkM X hl (ci := 30) rfl xa_J20 (by decide +kernel) (by decide +kernel) (by decide) (by decide) (by decide) hfr hlo (fun H locs ls h1 h2 h3 h4 T hT XT => ⟨T.vm, toString n, XT, negative_text_modelled hn, Nat.le_trans (int32_print n) (by decide), fun target hgo => xs_newarray XT.here rfl X.1 hn rfl (by rw [X.2.1]; exact d) hgo⟩) kx
theorem cx_idiv (X : g_X Γ p s m args meth c cc nL own) (hl : l.stackTraces = false) {x y : Int32} (hy : y = 0) (d : decode cc pc = .ok (.idiv, 1)) (hfr : 2 + 4 < fr) (hlo : (rest.map fun v => v.category).sum + 10240 ≤ lo)
    (kx : Wx Γ p l e fr lo s m args below meth c nL (g_ι z) vl rF tF pc lv rest (z + t.2.1 + 2) (xNew z 2 26 t) F) : Wf Γ p l e fr lo s m args below meth c nL (g_ι z) vl rF tF pc lv (.int y :: .int x :: rest) t F :=
  x_mkM X hl (ci := 26) rfl xa_J15 (by decide +kernel) (by decide +kernel) (by decide) (by decide) (by decide) hfr hlo (fun H locs ls h1 h2 h3 h4 T hT XT => ⟨T.vm, "/ by zero", XT, by decide, by decide, fun target hgo => xs_idiv XT.here rfl X.1 (x := x) (by rw [hy]) (by rw [X.2.1]; exact d) hgo⟩) kx
theorem cx_alen (X : g_X Γ p s m args meth c cc nL own) (hl : l.stackTraces = false) {v : Option Nat} {K : Int32 → Option (α × St)} (d : decode cc pc = .ok (.arraylength, 1)) (hfr : 7 < fr) (hlo : (rest.map fun v => v.category).sum + 10240 ≤ lo)
    (kx : Wx Γ p l e fr lo s m args below meth c nL (g_ι z) vl rF tF pc lv rest (z + t.2.1) (xNew z 0 27 t) FX) (kk : ∀ v, Wf Γ p l e fr lo s m args below meth c nL (g_ι z) vl rF tF (pc + 1) lv (.int v :: rest) t (K v)) : Wf Γ p l e fr lo s m args below meth c nL (g_ι z) vl rF tF pc lv (va_rf v :: rest) t (cnul v FX fun a => calen t a K) := by
  cases v with
  | some a => exact cg_alen X d kk
  | none => exact x_mkN X hl hfr hlo (fun H locs ls h1 h2 h3 h4 T hT XT => ⟨T.vm, XT, fun target hgo => xs_len XT.here rfl X.1 rfl (by rw [X.2.1]; exact d) hgo⟩) kx
theorem x_vp (cA : ClassId) (x : vp_A) : (vp_cell cA x).cls = cA ∧ (∀ k, (vp_cell cA x).vm ≠ .statics k) ∧ (vp_cell cA x).slots.size = x.1 := by
  obtain ⟨n, f | f | f | f | f⟩ := x <;> exact ⟨rfl, (fun k h => by cases h), arrV_size _ _ _⟩
theorem x_isA {s : State} {D : va_G} {dA : Nat → ClassId} (hK : va_K D cls (g_tys dA) s) {j : Nat} (hj : j < 4) {cell : Cell} (h1 : cell.cls = dA j) (h2 : ∀ k, cell.vm ≠ .statics k) {U : State} (hW : s.WarmedH U.vm) : U.isArray cell := by
  have hA : ∃ ty, ArrOfT s (dA j) ty := by
    match j, hj with
    | 0, _ => exact ⟨_, (hK.2 0 _ rfl).1⟩
    | 1, _ => exact ⟨_, (hK.2 1 _ rfl).1⟩
    | 2, _ => exact ⟨_, (hK.2 2 _ rfl).1⟩
    | 3, _ => exact ⟨_, (hK.2 3 _ rfl).1⟩
  obtain ⟨ty, hA⟩ := hA
  exact (g_isA (arrOfT_moved (E := U) hW.alike hA) h1 h2).isArray
theorem cx_bastore (X : g_X Γ p s m args meth c cc nL own) (hl : l.stackTraces = false) {v : Option Nat} {i : Int32} {x : Int32} {K : St → Option (α × St)} {FY : Nat → Option (α × St)} (d : decode cc pc = .ok (.bastore, 1)) (hfr : 7 < fr) (hlo : (rest.map fun v => v.category).sum + 10240 ≤ lo)
    (kx : Wx Γ p l e fr lo s m args below meth c nL (g_ι z) vl rF tF pc lv rest (z + t.2.1) (xNew z 0 27 t) FX) (ky : ∀ a, Wx Γ p l e fr lo s m args below meth c nL (g_ι z) vl rF tF pc lv rest (z + t.2.1 + 2) (xNew z 2 29 t) (FY a)) (kk : ∀ t', Wf Γ p l e fr lo s m args below meth c nL (g_ι z) vl rF tF (pc + 1) lv rest t' (K t')) : Wf Γ p l e fr lo s m args below meth c nL (g_ι z) vl rF tF pc lv (.int x :: .int i :: va_rf v :: rest) t (cnul v FX fun a => cidx t a i (FY a) (cast_ 0 (vp_nar .byte) t a i x K)) := by
  cases v with
  | none => exact x_mkN X hl hfr hlo (fun H locs ls h1 h2 h3 h4 T hT XT => ⟨T.vm, XT, fun target hgo => xs_bastore XT.here rfl X.1 (v := x) (i := i) rfl (by rw [X.2.1]; exact d) hgo⟩) kx
  | some a =>
    intro hF
    have hF' : cidx t a i (FY a) (cast_ 0 (vp_nar .byte) t a i x K) = some (rF, tF) := hF
    unfold cidx at hF'
    split at hF'
    · rename_i q hs
      split at hF'
      · rename_i hi
        split at hF'
        · rename_i hq
          refine x_mkM X hl (ci := 29) (names := ["java/lang/IndexOutOfBoundsException", "java/lang/RuntimeException", "java/lang/Exception"]) rfl xa_J19 (by decide +kernel) (by decide +kernel) (by decide) (by decide) (by decide) (by show 3 + 4 < fr; omega) hlo (fun H locs ls h1 h2 h3 h4 T hT XT => ?_) (ky a) hF'
          have hc : H[a]? = some (vp_cell (Γ.2.1 q.1) q.2) := h1.ex hs
          obtain ⟨g2, g3, g4⟩ := x_vp (Γ.2.1 q.1) q.2
          have g1 := x_isA X.2.2.2.2.2.2.1.1 hq.1 g2 g3 XT.warmed
          refine ⟨T.vm, _, XT, index_text_modelled i q.2.1, ?_, fun target hgo => xt_bastore XT.here rfl X.1 (v := x) (by rw [hT]; exact hc) g1 (by rw [g4]; exact hi) rfl (by rw [X.2.1]; exact d) (by rw [g4]; exact hgo)⟩
          have := index_text_length i (n := q.2.1) (by omega)
          omega
        · cases hF'
      · exact cg_bast X d kk hF'
    · cases hF'
theorem cx_sastore (X : g_X Γ p s m args meth c cc nL own) (hl : l.stackTraces = false) {v : Option Nat} {i : Int32} {x : Int32} {K : St → Option (α × St)} {FY : Nat → Option (α × St)} (d : decode cc pc = .ok (.sastore, 1)) (hfr : 7 < fr) (hlo : (rest.map fun v => v.category).sum + 10240 ≤ lo)
    (kx : Wx Γ p l e fr lo s m args below meth c nL (g_ι z) vl rF tF pc lv rest (z + t.2.1) (xNew z 0 27 t) FX) (ky : ∀ a, Wx Γ p l e fr lo s m args below meth c nL (g_ι z) vl rF tF pc lv rest (z + t.2.1 + 2) (xNew z 2 29 t) (FY a)) (kk : ∀ t', Wf Γ p l e fr lo s m args below meth c nL (g_ι z) vl rF tF (pc + 1) lv rest t' (K t')) : Wf Γ p l e fr lo s m args below meth c nL (g_ι z) vl rF tF pc lv (.int x :: .int i :: va_rf v :: rest) t (cnul v FX fun a => cidx t a i (FY a) (cast_ 1 (vp_nar .short) t a i x K)) := by
  cases v with
  | none => exact x_mkN X hl hfr hlo (fun H locs ls h1 h2 h3 h4 T hT XT => ⟨T.vm, XT, fun target hgo => xs_sastore XT.here rfl X.1 (v := x) (i := i) rfl (by rw [X.2.1]; exact d) hgo⟩) kx
  | some a =>
    intro hF
    have hF' : cidx t a i (FY a) (cast_ 1 (vp_nar .short) t a i x K) = some (rF, tF) := hF
    unfold cidx at hF'
    split at hF'
    · rename_i q hs
      split at hF'
      · rename_i hi
        split at hF'
        · rename_i hq
          refine x_mkM X hl (ci := 29) (names := ["java/lang/IndexOutOfBoundsException", "java/lang/RuntimeException", "java/lang/Exception"]) rfl xa_J19 (by decide +kernel) (by decide +kernel) (by decide) (by decide) (by decide) (by show 3 + 4 < fr; omega) hlo (fun H locs ls h1 h2 h3 h4 T hT XT => ?_) (ky a) hF'
          have hc : H[a]? = some (vp_cell (Γ.2.1 q.1) q.2) := h1.ex hs
          obtain ⟨g2, g3, g4⟩ := x_vp (Γ.2.1 q.1) q.2
          have g1 := x_isA X.2.2.2.2.2.2.1.1 hq.1 g2 g3 XT.warmed
          refine ⟨T.vm, _, XT, index_text_modelled i q.2.1, ?_, fun target hgo => xt_sastore XT.here rfl X.1 (v := x) (by rw [hT]; exact hc) g1 (by rw [g4]; exact hi) rfl (by rw [X.2.1]; exact d) (by rw [g4]; exact hgo)⟩
          have := index_text_length i (n := q.2.1) (by omega)
          omega
        · cases hF'
      · exact cg_sast X d kk hF'
    · cases hF'
theorem cx_iastore (X : g_X Γ p s m args meth c cc nL own) (hl : l.stackTraces = false) {v : Option Nat} {i : Int32} {x : Int32} {K : St → Option (α × St)} {FY : Nat → Option (α × St)} (d : decode cc pc = .ok (.iastore, 1)) (hfr : 7 < fr) (hlo : (rest.map fun v => v.category).sum + 10240 ≤ lo)
    (kx : Wx Γ p l e fr lo s m args below meth c nL (g_ι z) vl rF tF pc lv rest (z + t.2.1) (xNew z 0 27 t) FX) (ky : ∀ a, Wx Γ p l e fr lo s m args below meth c nL (g_ι z) vl rF tF pc lv rest (z + t.2.1 + 2) (xNew z 2 29 t) (FY a)) (kk : ∀ t', Wf Γ p l e fr lo s m args below meth c nL (g_ι z) vl rF tF (pc + 1) lv rest t' (K t')) : Wf Γ p l e fr lo s m args below meth c nL (g_ι z) vl rF tF pc lv (.int x :: .int i :: va_rf v :: rest) t (cnul v FX fun a => cidx t a i (FY a) (cast_ 2 (fun x => x) t a i x K)) := by
  cases v with
  | none => exact x_mkN X hl hfr hlo (fun H locs ls h1 h2 h3 h4 T hT XT => ⟨T.vm, XT, fun target hgo => xs_iastore XT.here rfl X.1 (v := x) (i := i) rfl (by rw [X.2.1]; exact d) hgo⟩) kx
  | some a =>
    intro hF
    have hF' : cidx t a i (FY a) (cast_ 2 (fun x => x) t a i x K) = some (rF, tF) := hF
    unfold cidx at hF'
    split at hF'
    · rename_i q hs
      split at hF'
      · rename_i hi
        split at hF'
        · rename_i hq
          refine x_mkM X hl (ci := 29) (names := ["java/lang/IndexOutOfBoundsException", "java/lang/RuntimeException", "java/lang/Exception"]) rfl xa_J19 (by decide +kernel) (by decide +kernel) (by decide) (by decide) (by decide) (by show 3 + 4 < fr; omega) hlo (fun H locs ls h1 h2 h3 h4 T hT XT => ?_) (ky a) hF'
          have hc : H[a]? = some (vp_cell (Γ.2.1 q.1) q.2) := h1.ex hs
          obtain ⟨g2, g3, g4⟩ := x_vp (Γ.2.1 q.1) q.2
          have g1 := x_isA X.2.2.2.2.2.2.1.1 hq.1 g2 g3 XT.warmed
          refine ⟨T.vm, _, XT, index_text_modelled i q.2.1, ?_, fun target hgo => xt_iastore XT.here rfl X.1 (v := x) (by rw [hT]; exact hc) g1 (by rw [g4]; exact hi) rfl (by rw [X.2.1]; exact d) (by rw [g4]; exact hgo)⟩
          have := index_text_length i (n := q.2.1) (by omega)
          omega
        · cases hF'
      · exact cg_iast X d kk hF'
    · cases hF'
theorem cx_lastore (X : g_X Γ p s m args meth c cc nL own) (hl : l.stackTraces = false) {v : Option Nat} {i : Int32} {x : Int64} {K : St → Option (α × St)} {FY : Nat → Option (α × St)} (d : decode cc pc = .ok (.lastore, 1)) (hfr : 7 < fr) (hlo : (rest.map fun v => v.category).sum + 10240 ≤ lo)
    (kx : Wx Γ p l e fr lo s m args below meth c nL (g_ι z) vl rF tF pc lv rest (z + t.2.1) (xNew z 0 27 t) FX) (ky : ∀ a, Wx Γ p l e fr lo s m args below meth c nL (g_ι z) vl rF tF pc lv rest (z + t.2.1 + 2) (xNew z 2 29 t) (FY a)) (kk : ∀ t', Wf Γ p l e fr lo s m args below meth c nL (g_ι z) vl rF tF (pc + 1) lv rest t' (K t')) : Wf Γ p l e fr lo s m args below meth c nL (g_ι z) vl rF tF pc lv (.long x :: .int i :: va_rf v :: rest) t (cnul v FX fun a => cidx t a i (FY a) (castl t a i x K)) := by
  cases v with
  | none => exact x_mkN X hl hfr hlo (fun H locs ls h1 h2 h3 h4 T hT XT => ⟨T.vm, XT, fun target hgo => xs_lastore XT.here rfl X.1 (v := x) (i := i) rfl (by rw [X.2.1]; exact d) hgo⟩) kx
  | some a =>
    intro hF
    have hF' : cidx t a i (FY a) (castl t a i x K) = some (rF, tF) := hF
    unfold cidx at hF'
    split at hF'
    · rename_i q hs
      split at hF'
      · rename_i hi
        split at hF'
        · rename_i hq
          refine x_mkM X hl (ci := 29) (names := ["java/lang/IndexOutOfBoundsException", "java/lang/RuntimeException", "java/lang/Exception"]) rfl xa_J19 (by decide +kernel) (by decide +kernel) (by decide) (by decide) (by decide) (by show 3 + 4 < fr; omega) hlo (fun H locs ls h1 h2 h3 h4 T hT XT => ?_) (ky a) hF'
          have hc : H[a]? = some (vp_cell (Γ.2.1 q.1) q.2) := h1.ex hs
          obtain ⟨g2, g3, g4⟩ := x_vp (Γ.2.1 q.1) q.2
          have g1 := x_isA X.2.2.2.2.2.2.1.1 hq.1 g2 g3 XT.warmed
          refine ⟨T.vm, _, XT, index_text_modelled i q.2.1, ?_, fun target hgo => xt_lastore XT.here rfl X.1 (v := x) (by rw [hT]; exact hc) g1 (by rw [g4]; exact hi) rfl (by rw [X.2.1]; exact d) (by rw [g4]; exact hgo)⟩
          have := index_text_length i (n := q.2.1) (by omega)
          omega
        · cases hF'
      · exact cg_last X d kk hF'
    · cases hF'
theorem cx_baload (X : g_X Γ p s m args meth c cc nL own) {v : Option Nat} {i : Int32} {K : Int32 → Option (α × St)} (d : decode cc pc = .ok (.baload, 1)) (kk : ∀ x, Wf Γ p l e fr lo s m args below meth c nL (g_ι z) vl rF tF (pc + 1) lv (.int x :: rest) t (K x)) : Wf Γ p l e fr lo s m args below meth c nL (g_ι z) vl rF tF pc lv (.int i :: va_rf v :: rest) t (cnul v none fun a => cald 0 t a i K) := by
  cases v with
  | none => exact g_none
  | some a => exact cg_bald X d kk
theorem cx_saload (X : g_X Γ p s m args meth c cc nL own) {v : Option Nat} {i : Int32} {K : Int32 → Option (α × St)} (d : decode cc pc = .ok (.saload, 1)) (kk : ∀ x, Wf Γ p l e fr lo s m args below meth c nL (g_ι z) vl rF tF (pc + 1) lv (.int x :: rest) t (K x)) : Wf Γ p l e fr lo s m args below meth c nL (g_ι z) vl rF tF pc lv (.int i :: va_rf v :: rest) t (cnul v none fun a => cald 1 t a i K) := by
  cases v with
  | none => exact g_none
  | some a => exact cg_sald X d kk
theorem cx_iaload (X : g_X Γ p s m args meth c cc nL own) {v : Option Nat} {i : Int32} {K : Int32 → Option (α × St)} (d : decode cc pc = .ok (.iaload, 1)) (kk : ∀ x, Wf Γ p l e fr lo s m args below meth c nL (g_ι z) vl rF tF (pc + 1) lv (.int x :: rest) t (K x)) : Wf Γ p l e fr lo s m args below meth c nL (g_ι z) vl rF tF pc lv (.int i :: va_rf v :: rest) t (cnul v none fun a => cald 2 t a i K) := by
  cases v with
  | none => exact g_none
  | some a => exact cg_iald X d kk
theorem cx_laload (X : g_X Γ p s m args meth c cc nL own) {v : Option Nat} {i : Int32} {K : Int64 → Option (α × St)} (d : decode cc pc = .ok (.laload, 1)) (kk : ∀ x, Wf Γ p l e fr lo s m args below meth c nL (g_ι z) vl rF tF (pc + 1) lv (.long x :: rest) t (K x)) : Wf Γ p l e fr lo s m args below meth c nL (g_ι z) vl rF tF pc lv (.int i :: va_rf v :: rest) t (cnul v none fun a => caldl t a i K) := by
  cases v with
  | none => exact g_none
  | some a => exact cg_lald X d kk
/-- checkcast to an array of numbers -/
theorem cx_cast (X : g_X Γ p s m args meth c cc nL own) (hl : l.stackTraces = false) {j index : Nat} (hj : j < 4) {v : Option Nat} (hcl : Cond.classLink own index (x_pn j) ∈ lw_all) (d : decode cc pc = .ok (.checkcast index, 3)) (hfr : 2 + 4 < fr) (hlo : (rest.map fun v => v.category).sum + 10241 ≤ lo)
    (kx : Wx Γ p l e fr lo s m args below meth c nL (g_ι z) vl rF tF pc lv (va_rf v :: rest) (z + t.2.1 + 2) (xNew z 2 28 t) FX) (kk : Wf Γ p l e fr lo s m args below meth c nL (g_ι z) vl rF tF (pc + 3) lv (va_rf v :: rest) t F) : Wf Γ p l e fr lo s m args below meth c nL (g_ι z) vl rF tF pc lv (va_rf v :: rest) t (ccka j t v F FX) := by
  cases v with
  | none => exact g_liftS (fun _ _ _ _ _ _ _ _ k => lv_castN X.1 X.2.1 d k) kk
  | some a =>
    intro hF
    have hF' : ccka j t (some a) F FX = some (rF, tF) := hF
    unfold ccka at hF'
    simp only at hF'
    split at hF'
    · rename_i q hs
      by_cases hq : q.1 = j
      · rw [if_pos hq] at hF'
        have hs' : t.1 a = some (true, .inl (j, q.2)) := by rw [hs, ← hq]
        exact ⟨(kk hF').1, fun H locs ls g1 g2 g3 g4 => g_castA X hcl g1 hs' (Or.inl rfl) (x_pnF X.2.2.2.2.2.2.1 hj) d ((kk hF').2 H locs ls g1 g2 g3 g4)⟩
      · rw [if_neg hq] at hF'
        by_cases hq4 : q.1 < 4
        · rw [if_pos hq4] at hF'
          refine x_mkM X hl (ci := 28) (names := ["java/lang/RuntimeException", "java/lang/Exception"]) rfl xa_J17 (by decide +kernel) (by decide +kernel) (by decide) (by decide) (by decide) hfr (by show (((Value.ref a) :: rest).map fun v => v.category).sum + 10240 ≤ lo; rw [List.map_cons, List.sum_cons]; show 1 + (rest.map fun v => v.category).sum + 10240 ≤ lo; omega) (fun H locs ls h1 h2 h3 h4 T hT XT => ?_) kx hF'
          have hE := X.2.2.2.2.2.2.1
          obtain ⟨cell, hc, g2, g3, -⟩ := g_wkX h1 hs (Or.inl rfl)
          obtain ⟨ks, q1, q2, q3, q4⟩ := x_named (x_pnF hE hq4)
          obtain ⟨kt, r1, r2, r3, r4⟩ := x_named (x_pnF hE hj)
          obtain ⟨vm', ks', kt', X', e1, e2, ⟨e3, e4, e5⟩, ⟨e6, e7, e8⟩, hgo⟩ := xs_cast XT (g := F0 m pc ls (.ref a :: rest)) rfl X.1 X.2.2.2.1 (X.2.2.2.2.1 _ hcl) (by rw [hT]; exact hc) g3 (by rw [g2]; exact q1) (x_pnF hE hj) r1 (by rw [g2]; exact x_nocast hE (x_nc _ hq4 _ hj hq) (x_pnF hE hq4) (x_pnF hE hj)) rfl (by rw [X.2.1]; exact d)
          obtain ⟨b1, b2⟩ := x_castText (vm := vm') (a := ks') (b := kt') ⟨e4.trans q3, e5.trans q4, by rw [e3, q2]; exact x_pnM hq4⟩ ⟨e7.trans r3, e8.trans r4, by rw [e6, r2]; exact x_pnM hj⟩ (x_mods hE X'.warmed)
          exact ⟨vm', _, X', b2, b1, hgo⟩
        · rw [if_neg hq4] at hF'; cases hF'
    · cases hF'
/-- instanceof an array of numbers -/
theorem cx_inst (X : g_X Γ p s m args meth c cc nL own) {j index : Nat} (hj : j < 4) {v : Option Nat} {K : Int32 → Option (α × St)} (hcl : Cond.classLink own index (x_pn j) ∈ lw_all) (d : decode cc pc = .ok (.instanceof index, 3)) (kk : ∀ x, Wf Γ p l e fr lo s m args below meth c nL (g_ι z) vl rF tF (pc + 3) lv (.int x :: rest) t (K x)) : Wf Γ p l e fr lo s m args below meth c nL (g_ι z) vl rF tF pc lv (va_rf v :: rest) t (cins j t v K) := by
  cases v with
  | none => exact g_liftS (fun _ _ _ _ _ _ _ _ k => lv_instN X.1 X.2.1 d k) (kk 0)
  | some a =>
    intro hF
    have hF' : cins j t (some a) K = some (rF, tF) := hF
    unfold cins at hF'
    simp only at hF'
    split at hF'
    · rename_i q hs
      have hE := X.2.2.2.2.2.2.1
      by_cases hq : q.1 = j
      · rw [if_pos hq] at hF'
        refine ⟨(kk 1 hF').1, fun H locs ls g1 g2 g3 g4 => va_instE X.1 X.2.1 X.2.2.2.1 (X.2.2.2.2.1 _ hcl) ?_ d ((kk 1 hF').2 H locs ls g1 g2 g3 g4)⟩
        obtain ⟨cell, hc, f2, f3, -⟩ := g_wkX g1 hs (Or.inl rfl)
        exact ⟨cell, hc, g_ns f3, by rw [f2, hq]; exact x_pnF hE hj⟩
      · rw [if_neg hq] at hF'
        by_cases hq4 : q.1 < 4
        · rw [if_pos hq4] at hF'
          refine ⟨(kk 0 hF').1, fun H locs ls g1 g2 g3 g4 => va_instNo X.1 X.2.1 X.2.2.2.1 (X.2.2.2.2.1 _ hcl) (C := x_pn q.1) ⟨_, _, x_pnF hE hq4, x_pnF hE hj, x_nocast hE (x_nc _ hq4 _ hj hq) (x_pnF hE hq4) (x_pnF hE hj)⟩ ?_ d ((kk 0 hF').2 H locs ls g1 g2 g3 g4)⟩
          obtain ⟨cell, hc, f2, f3, -⟩ := g_wkX g1 hs (Or.inl rfl)
          exact ⟨cell, hc, g_ns f3, by rw [f2]; exact x_pnF hE hq4⟩
        · rw [if_neg hq4] at hF'; cases hF'
    · cases hF'
/-- a text -/
theorem cx_ldcS (X : g_X Γ p s m args meth c cc nL own) (hex : ex = Γ.2.2.2.2) (i : Nat) {index : Nat} {tx : String} (hi : exT i = .string own index) (hq : Cond.stringRef own index tx ∈ lw_tbl) (d : decode cc pc = .ok (.ldc_w index, 3)) {K : Nat → Option (α × St)} (kk : ∀ a, Wf Γ p l e fr lo s m args below meth c nL (g_ι z) vl rF tF (pc + 3) lv (.ref a :: rest) t (K a)) : Wf Γ p l e fr lo s m args below meth c nL (g_ι z) vl rF tF pc lv rest t (cex (ex i) K) := by
  intro hF
  cases ha : ex i with
  | none => rw [ha] at hF; cases hF
  | some a =>
    rw [ha] at hF
    refine ⟨(kk a hF).1, fun H locs ls g1 g2 g3 g4 T hT XT => ?_⟩
    have hR : vk_R own index tx a s := by
      obtain ⟨-, s0, f2, -, -, f5, -, -, f8, -⟩ := X.2.2.2.2.2.2.1
      refine vk_R.warm f5 (vk_R.of (f2 _ hq) ?_)
      have h1 := f8 i
      rw [← hex, ha] at h1
      unfold exOf at h1
      rw [hi] at h1
      cases hv : (Term.string own index).eval #[Value.ref Γ.2.2.2.1] s0 none [] s0 with
      | none => rw [hv] at h1; cases h1
      | some w =>
        rw [hv] at h1
        cases w with
        | ref b => cases h1; rfl
        | _ => cases h1
    obtain ⟨u, a1, b1⟩ := (kk a hF).2 H locs ls g1 g2 g3 g4 T hT XT
    exact ⟨u, XT.ldcStringW X.1 X.2.2.2.1 (args := args) (text := tx) (a := a) hR.1 hR.2 (g := F0 m pc ls rest) rfl (by rw [X.2.1]; exact d) u a1, b1⟩
end XO
section RB
variable {p : Program} {l : Launch} {e : Env} {R : Room} {s : State} {m : MethodId} {args : Array Value} {below : List Frame} {meth : Method} {c : Code} {T : State} {locs : List Loc} {cells slots : Nat}
theorem x_me {T : State} (fs : List Frame) : (T.setFrames fs).me.stackBytes = T.me.stackBytes := by
  simp only [State.me, State.setFrames]
  cases h : T.threads[T.cur]? with
  | none => simp [h, Array.getElem?_modify]
  | some th => simp [h, Array.getElem?_modify]
/-- the state of a walk, taken as a start -/
theorem x_rebase (X : Stand p l e R s m args below meth c T locs cells slots) (hc : cells ≤ R.cells) (hs : slots ≤ R.slots) :
    Stand p l e { R with cells := R.cells - cells, slots := R.slots - slots } (T.setFrames (.invoking m args :: below)) m args below meth c T [] 0 0 := by
  obtain ⟨g0, hfr⟩ := X.frames_eq
  have hcur : T.cur < T.threads.size := State.cur_lt_of_frames hfr
  have hf : (T.setFrames (.invoking m args :: below)).frames = .invoking m args :: below := State.frames_setFrames _ hcur
  have hm : (T.setFrames (.invoking m args :: below)).vm.method? m = some meth := X.method'
  have e1 := State.localsInUse_invoking X.frames X.method X.code
  have e2 := State.localsInUse_invoking hf hm X.code
  have al := X.warmed.alike
  have hb : (T.setFrames (.invoking m args :: below)).me.stackBytes = s.me.stackBytes := (x_me _).trans X.bytes
  have hlim : e.platform.stackLimits (T.setFrames (.invoking m args :: below)).me = e.platform.stackLimits s.me := by
    unfold Platform.stackLimits
    rw [hb]
  refine { admits := X.admits, cas := X.cas, clock := X.clock, frames := hf, room := ?_, hears := ?_, method := hm, code := X.code, here := X.here, tail := X.tail, warmed := State.WarmedH.refl T, limits := X.limits.trans hlim.symm, bytes := (x_me _).symm, same := ?_ }
  · have h := X.room
    have h1 := X.heapSize
    have h2 := X.used
    have h3 := X.book
    simp only [State.hasRoom, Bool.and_eq_true, decide_eq_true_eq] at h ⊢
    rw [e2, hlim, hb, hf]
    rw [e1, X.frames] at h
    obtain ⟨⟨⟨⟨q1, q2⟩, q3⟩, q4⟩, q5⟩ := h
    refine ⟨⟨⟨⟨q1, q2⟩, ?_⟩, ?_⟩, h3⟩
    · show T.heap.size + (R.cells - cells) ≤ _
      omega
    · show T.slotsUsed + (R.slots - slots) ≤ _
      omega
  · have h := X.hears
    have hcode : ∀ x, (T.setFrames (.invoking m args :: below)).code? x = s.code? x := by
      intro x
      show T.code? x = s.code? x
      unfold State.code?
      cases hk : s.vm.classes[x.cls]? with
      | none => rw [al.none hk]
      | some k =>
        obtain ⟨k', hk', he⟩ := al.2.2 _ _ hk
        rw [hk', he]
        rfl
    have hmm : (T.setFrames (.invoking m args :: below)).vm.method? m = s.vm.method? m := by
      show T.vm.method? m = s.vm.method? m
      exact al.method? _
    cases below with
    | nil => simp only [State.hears, hmm] at h ⊢; exact h
    | cons f r => cases f <;> simp only [State.hears, hmm, hcode] at h ⊢ <;> exact h
  · have hset : (T.setFrames (.invoking m args :: below)).setFrames T.frames = T := by
      rw [State.setFrames_setFrames]
      obtain ⟨th, hth, -⟩ := State.frames_cons hfr
      exact State.setFrames_self hth
    refine ⟨?_, Nat.le_refl _, Nat.le_refl _, ?_, ?_, fun a x hx => ⟨x, hx, rfl, rfl, fun _ _ => rfl⟩⟩
    · show T = { (T.setFrames (.invoking m args :: below)).setFrames T.frames with heap := T.heap, slotsUsed := T.slotsUsed }
      rw [hset]
    · show T.slotsUsed = T.slotsUsed + ((T.heap.toList.drop T.heap.size).map (·.slots.size)).sum
      rw [List.drop_eq_nil_of_le (by simp)]
      rfl
    · show ((T.heap.toList.drop T.heap.size).map (·.slots.size)).sum ≤ 0
      rw [List.drop_eq_nil_of_le (by simp)]
      exact Nat.le_refl 0
end RB
/-- 'throw new X()', by the method itself -/
theorem x_own {p : Program} {l : Launch} {e : Env} {R : Room} {s : State} {m : MethodId} {args : Array Value} {below : List Frame} {meth : Method} {c : Code} {T : State} {locs : List Loc} {cells slots : Nat} (X : Stand p l e R s m args below meth c T locs cells slots) (hexec : p.tables.exec = Jvm.exec) (htr : e.platform.stackTraces = false) {own C : String} {names : List String} {ic index : Nat} (hown : s.vm.findClass own = some m.cls) (hcls : Bundle.fit C = true) (hnames : ∀ n ∈ names, Bundle.fit n = true)
    (h : ∀ w ∈ Bundle.ownAtoms0 own ic C names, w.before args T = true) (hlink : (Cond.classLink own index C).before args T = true) (hini : (Cond.initialized C).before args T = true) {g : JFrame} (hg : g.method = m) (hsize : g.locals.size = c.maxLocals) (hlocked : g.locked = none) (hentered : g.entered = [])
    (d0 : decode c.code g.pc = .ok (.new index, 3)) (d1 : decode c.code (g.pc + 3) = .ok (.dup, 1)) (d2 : decode c.code (g.pc + 4) = .ok (.invokespecial ic, 3)) (d3 : decode c.code (g.pc + 7) = .ok (.athrow, 1)) (hout : ∀ x ∈ c.exceptionTable.toList, covers x (g.pc + 7) = false) (hlocks : meth.locks = false)
    (hRf : names.length + 3 < R.frames) (hRl : 2 * g.monitorRoom + 1 + (g.stack.map fun v => v.category).sum + (13 * (names.length + 1) + 41) ≤ R.locals) (hRc : cells + 1 ≤ R.cells) (hRs : slots + 800 ≤ R.slots) :
    ∃ U : State, Steps p.tables e below (T.setTop g) U ∧ U.status = .running ∧ Ended U below (.threw T.heap.size) ∧ s.WarmedH U.vm ∧ s.sameButNew ({ U with vm := s.vm } : State) locs (cells + 1) (slots + 800) ∧ U.heap.size = T.heap.size + 1 ∧ (∀ q, q < T.heap.size → U.heap[q]? = T.heap[q]?) ∧
      ∃ cell : Cell, U.heap[T.heap.size]? = some cell ∧ T.vm.findClass C = some cell.cls ∧ cell.vm = .none := by
  have bw : ∀ {w : Cond}, w.before args T = true → w.before args (T.setFrames (.invoking m args :: below)) = true := fun h => (Cond.before_setFrames args T _ _).trans h
  have B := x_rebase X (Nat.le_trans (Nat.le_add_right _ 1) hRc) (Nat.le_trans (Nat.le_add_right _ 800) hRs)
  have hown' : (T.setFrames (.invoking m args :: below)).vm.findClass own = some m.cls := by
    show T.vm.findClass own = _
    rw [X.warmed.alike.findClass]; exact hown
  have hins : (Cond.instantiable C 6).before args T = true := h _ (by simp [Bundle.ownAtoms0])
  obtain ⟨vm', cC, kC, hfc, hkC, hord, hn, X1, st1⟩ := B.newCold hexec hown' (bw hlink) (bw hins) (bw hini) (g := g) hg d0 (by show 0 + 1 ≤ R.cells - cells; omega) (by show 0 + 6 ≤ R.slots - slots; omega)
  have hcell : ((T.setVm vm').pushCell { cls := cC, slots := kC.instanceTypes.map defaultValue, vm := .none }).heap[T.heap.size]? = some (freshCell cC kC) := State.heap_pushCell_size (T.setVm vm') _
  subst hg
  obtain ⟨U, st3, hrun, hend, hW, hsame, ce, hce, hoc⟩ := X1.ctorThrow0 hexec htr hown' hcls hnames (fun w hw => bw (h w hw)) (fun x hx => by cases hx) hfc hkC hcell (Nat.le_refl _) (g := { g with pc := g.pc + 4, stack := .ref T.heap.size :: .ref T.heap.size :: g.stack }) rfl hsize hlocked hentered (rest := g.stack) rfl d2 d3 hout hRf (by
    show 2 * g.monitorRoom + ((Value.ref T.heap.size :: g.stack).map fun v => v.category).sum + _ ≤ R.locals
    rw [List.map_cons, List.sum_cons]
    show 2 * g.monitorRoom + (1 + (g.stack.map fun v => v.category).sum) + _ ≤ R.locals
    omega) hlocks
  have hS : T.sameButNew ({ U with vm := T.vm } : State) [] (0 + 1) (0 + 6) := by
    obtain ⟨q1, q2⟩ := hsame
    refine ⟨?_, q2⟩
    have q1' : ({ U with vm := T.vm } : State) = { (T.setFrames (.invoking g.method args :: below)).setFrames U.frames with heap := U.heap, slotsUsed := U.slotsUsed } := q1
    rw [State.setFrames_setFrames] at q1'
    exact q1'
  have hst : ∀ target, Steps p.tables e below (((T.setVm vm').pushCell { cls := cC, slots := kC.instanceTypes.map defaultValue, vm := .none }).setTop { g with pc := g.pc + 4, stack := .ref T.heap.size :: .ref T.heap.size :: g.stack }) target → Steps p.tables e below (((T.setVm vm').pushCell { cls := cC, slots := kC.instanceTypes.map defaultValue, vm := .none }).setTop { g with pc := g.pc + 3, stack := .ref T.heap.size :: g.stack }) target := by
    intro target hgo
    jvm_step X1.here [hexec, d1]
    exact ⟨_, State.topJava?_setTop' _ X1.here.top, _, _, rfl, rfl, hgo⟩
  have hlt : T.heap.size < U.heap.size := (Array.getElem?_eq_some_iff.mp hce).1
  refine ⟨U, st1 _ (hst _ st3), hrun, hend, State.WarmedH.trans X.warmed hW, ?_, ?_, fun q hq => ?_, ce, hce, hoc.cls, hoc.vm⟩
  · have := X.same.trans (hS.setVm s.vm)
    exact this.weaken (fun y hy _ => by simpa using hy) (by omega) (by omega)
  · have h1 : U.heap.size ≤ T.heap.size + (0 + 1) := hS.2.2.1
    omega
  · obtain ⟨c', g1, g2, g3, g4⟩ := hS.2.2.2.2.2 q T.heap[q] (Array.getElem?_eq_getElem hq)
    have g1' : U.heap[q]? = some c' := g1
    rw [g1', Array.getElem?_eq_getElem hq, g2]
    congr 1
    have : c'.slots = T.heap[q].slots := Array.ext_getElem? fun i => g4 i (by simp)
    rw [this]
/-- looksAt's own throw -/
theorem cx_own {Γ : Gc} {p : Program} {l : Launch} {e : Env} {fr lo : Nat} {s : State} {m : MethodId} {args : Array Value} {below : List Frame} {meth : Method} {c : Code} {nL : Nat} {z : Nat} {rF : Unit ⊕ Nat} {tF t : St} {pc : Nat} {lv : List (Nat × Value)} {rest : List Value} {cc : ByteArray} {tb : List (Nat × Nat × Nat × Nat)} (X : g_X Γ p s m args meth c cc nL RX0) (hl : l.stackTraces = false) (ht : g_T meth tb) (ho : g_out tb (pc + 7) = true) {index : Nat} (d0 : decode cc pc = .ok (.new index, 3)) (d1 : decode cc (pc + 3) = .ok (.dup, 1)) (d2 : decode cc (pc + 4) = .ok (.invokespecial 481, 3)) (d3 : decode cc (pc + 7) = .ok (.athrow, 1)) (hcl : Cond.classLink RX0 index RJ19 ∈ lw_all) (hini : Cond.initialized RJ19 ∈ lw_all) (hfr : 3 + 3 < fr) (hlo : 1 + (rest.map fun v => v.category).sum + (13 * (3 + 1) + 41) ≤ lo) :
    Wf Γ p l e fr lo s m args below meth c nL (g_ι z) t_v rF tF pc lv rest t (some (.inr (z + t.2.1), xNew z 0 29 t)) := by
  intro hF
  obtain ⟨rfl, rfl⟩ : Sum.inr (z + t.2.1) = rF ∧ xNew z 0 29 t = tF := by simpa using hF
  refine ⟨⟨Nat.le_add_right _ _, Nat.le_add_right _ _⟩, fun H locs ls h1 h2 h3 h4 T hT XT => ?_⟩
  have h2' : T.heap.size = z + t.2.1 := by rw [hT]; exact h2
  have wT : ∀ {w : Cond}, x_ok w → w.before args T = true := fun hw => x_words X (by rw [hT]; exact h3) XT.warmed hw
  obtain ⟨U, st, q1, q2, q3, q4, q5, q6, cell, q7, q8, q9⟩ := x_own XT X.1 (by rw [XT.admits.platform]; exact hl) (own := RX0) (C := RJ19) (names := ["java/lang/IndexOutOfBoundsException", "java/lang/RuntimeException", "java/lang/Exception"]) (ic := 481) X.2.2.2.1 (by decide +kernel) (by decide +kernel) (fun w hw => wT (xa_own w hw)) (wT (Or.inl hcl)) (wT (Or.inl hini)) (g := F0 m pc ls rest) rfl (h4.1.trans X.2.2.1.symm) rfl rfl (by rw [X.2.1]; exact d0) (by rw [X.2.1]; exact d1) (by rw [X.2.1]; exact d2) (by rw [X.2.1]; exact d3) (g_out_spec (ht c XT.code) ho) X.2.2.2.2.2.1 hfr (by show 2 * 0 + 1 + (rest.map fun v => v.category).sum + (13 * (3 + 1) + 41) ≤ lo; omega) (Nat.le_refl _) (Nat.le_refl _)
  rw [h2'] at q2 q5 q6 q7
  rw [hT] at q6
  refine ⟨U, st, Or.inr ⟨_, rfl, q1, q2, ⟨?_, ?_, ?_⟩, locs, ⟨q3, q4⟩, h3.2.2⟩⟩
  · have hcls : cell.cls = Γ.1.1 29 := by
      have g1 := (X.2.2.2.2.2.2.1.1.1 29 _ rfl).2.1
      have g2 : s.vm.findClass RJ19 = some cell.cls := by rw [← XT.warmed.alike.findClass]; exact q8
      exact Option.some.inj (g2.symm.trans g1)
    have hb : Γ.2.2.1 ≤ z + t.2.1 := Nat.le_trans X.2.2.2.2.2.2.2 (Nat.le_trans h3.1 (by rw [h2]; exact Nat.le_refl _))
    intro q x hx
    by_cases hq : q = z + t.2.1
    · subst hq
      have hx' : g_u t.1 (z + t.2.1) (true, .inr (29, [])) (z + t.2.1) = some x := hx
      rw [g_u_self] at hx'
      cases hx'
      exact ⟨g_at.of ⟨_, rfl, cell, q7, hcls, q9, fun j hj => absurd hj (Nat.not_lt_zero j)⟩, fun _ => hb⟩
    · have hx' : g_u t.1 (z + t.2.1) (true, .inr (29, [])) q = some x := hx
      rw [g_u_ne _ _ hq] at hx'
      have hlt : q < z + t.2.1 := by
        have := (h1 q x hx').1.lt
        rw [h2] at this
        exact this
      exact ⟨(h1 q x hx').1.kept (q6 q hlt), (h1 q x hx').2⟩
  · rw [q5]; rfl
  · have hle : s.heap.size ≤ z + t.2.1 := Nat.le_trans h3.1 (by rw [h2]; exact Nat.le_refl _)
    exact ⟨Nat.le_trans hle (by rw [q5]; exact Nat.le_add_right _ _), fun q g1 g2 => by rw [q6 q (Nat.lt_of_lt_of_le g1 hle)]; exact h3.2.1 q g1 g2⟩
