/-! THE REFERENCE's STATE (LameClocksModel): whole-number fields by their number, int arrays 0..13 (st kinds rates skyRow betOn stakes undos tape read aside duels kept lanes rowSizes), long arrays 0, 1 (items moved) -/
set_option maxRecDepth 100000
abbrev MS : Type := (Nat → Int32) × (Nat → Nat → Int32) × (Nat → Nat → Int64)
def setI (t : MS) (k : Nat) (v : Int32) : MS := (upd t.1 k v, t.2)
def setA (t : MS) (j i : Nat) (v : Int32) : MS := (t.1, fun a => if a = j then upd (t.2.1 j) i v else t.2.1 a, t.2.2)
def setL (t : MS) (j i : Nat) (v : Int64) : MS := (t.1, t.2.1, fun a => if a = j then vp_updL (t.2.2 j) i v else t.2.2 a)
def mlen (j : Nat) : Nat := [63, 9, 9, 12, 6, 6, 30, 160, 480, 63, 144, 155, 4, 4].getD j 0
def llen (j : Nat) : Nat := [96, 24].getD j 0
abbrev mfs (mo : Nat) (t : MS) : List Value := [.ref (mo + 1), .ref (mo + 2), .ref (mo + 3), .int (t.1 3), .int (t.1 4), .ref (mo + 4), .int (t.1 6), .int (t.1 7), .ref (mo + 5), .ref (mo + 6), .int (t.1 10), .ref (mo + 7), .int (t.1 12), .int (t.1 13), .ref (mo + 8), .int (t.1 15), .int (t.1 16), .int (t.1 17), .ref (mo + 9), .ref (mo + 10), .ref (mo + 11), .int (t.1 21), .ref (mo + 12), .ref (mo + 13), .ref (mo + 14), .ref (mo + 15), .ref (mo + 16)]
def M_cell (mo : Nat) (t : MS) (q : Nat) : va_E := if q = 0 then .inr (3, mfs mo t) else if q ≤ 14 then .inl (2, mlen (q - 1), .inl (t.2.1 (q - 1))) else .inl (3, llen (q - 15), .inr (.inl (t.2.2 (q - 15))))
def MC (mo : Nat) (t : MS) (ρ : Sg) : Sg := fun a => if mo ≤ a ∧ a < mo + 17 then some (true, M_cell mo t (a - mo)) else ρ a
abbrev m_ι (mo : Nat) (ρ : Sg) (sz : Nat) (t : MS) : Iv := (MC mo t ρ, sz, 0, 0)
theorem MC_q {mo : Nat} {t : MS} {ρ : Sg} (q : Nat) (h : q < 17) : MC mo t ρ (mo + q) = some (true, M_cell mo t q) := by
  have h1 : mo ≤ mo + q ∧ mo + q < mo + 17 := ⟨Nat.le_add_right _ _, Nat.add_lt_add_left h _⟩
  simp only [MC]
  rw [if_pos h1, Nat.add_sub_cancel_left]
theorem MC_o {mo : Nat} {t : MS} {ρ : Sg} : MC mo t ρ mo = some (true, .inr (3, mfs mo t)) := MC_q 0 (by decide)
theorem MC_a {mo : Nat} {t : MS} {ρ : Sg} (j : Nat) (h : j < 14) : MC mo t ρ (mo + (j + 1)) = some (true, .inl (2, mlen j, .inl (t.2.1 j))) := by
  rw [MC_q (j + 1) (by omega)]
  simp only [M_cell]
  rw [if_neg (by omega), if_pos (by omega)]
  rfl
theorem MC_l {mo : Nat} {t : MS} {ρ : Sg} (j : Nat) (h : j < 2) : MC mo t ρ (mo + (j + 15)) = some (true, .inl (3, llen j, .inr (.inl (t.2.2 j)))) := by
  rw [MC_q (j + 15) (by omega)]
  simp only [M_cell]
  rw [if_neg (by omega), if_neg (by omega)]
  rfl
/-- one cell differs -/
theorem MC_set {mo : Nat} {t t' : MS} {ρ : Sg} {q : Nat} {y : va_E} (hq : q < 17) (h1 : M_cell mo t' q = y) (h2 : ∀ r, r < 17 → r ≠ q → M_cell mo t' r = M_cell mo t r) : MC mo t' ρ = g_u (MC mo t ρ) (mo + q) (true, y) := by
  funext a
  by_cases ha : a = mo + q
  · subst ha
    rw [g_u_self, MC_q q hq, h1]
  · rw [g_u_ne _ _ ha]
    simp only [MC]
    by_cases hr : mo ≤ a ∧ a < mo + 17
    · rw [if_pos hr, if_pos hr, h2 (a - mo) (by omega) (by omega)]
    · rw [if_neg hr, if_neg hr]
theorem MC_setA {mo : Nat} {t : MS} {ρ : Sg} {j i : Nat} {v : Int32} (h : j < 14) : MC mo (setA t j i v) ρ = g_u (MC mo t ρ) (mo + (j + 1)) (true, .inl (2, mlen j, .inl (upd (t.2.1 j) i v))) := by
  refine MC_set (by omega) ?_ ?_
  · simp only [M_cell]
    rw [if_neg (by omega), if_pos (by omega)]
    simp [setA]
  · intro r hr hne
    simp only [M_cell]
    by_cases h0 : r = 0
    · rw [if_pos h0, if_pos h0]; rfl
    · rw [if_neg h0, if_neg h0]
      by_cases h1 : r ≤ 14
      · rw [if_pos h1, if_pos h1]
        have : ¬ r - 1 = j := by omega
        simp [setA, this]
      · rw [if_neg h1, if_neg h1]; rfl
theorem MC_setL {mo : Nat} {t : MS} {ρ : Sg} {j i : Nat} {v : Int64} (h : j < 2) : MC mo (setL t j i v) ρ = g_u (MC mo t ρ) (mo + (j + 15)) (true, .inl (3, llen j, .inr (.inl (vp_updL (t.2.2 j) i v)))) := by
  refine MC_set (by omega) ?_ ?_
  · simp only [M_cell]
    rw [if_neg (by omega), if_neg (by omega)]
    simp [setL]
  · intro r hr hne
    simp only [M_cell]
    by_cases h0 : r = 0
    · rw [if_pos h0, if_pos h0]; rfl
    · rw [if_neg h0, if_neg h0]
      by_cases h1 : r ≤ 14
      · rw [if_pos h1, if_pos h1]; rfl
      · rw [if_neg h1, if_neg h1]
        have : ¬ r - 15 = j := by omega
        simp [setL, this]
theorem MC_setI {mo : Nat} {t : MS} {ρ : Sg} {k : Nat} {v : Int32} {fs : List Value} (h : fs = mfs mo (setI t k v)) : MC mo (setI t k v) ρ = g_u (MC mo t ρ) mo (true, .inr (3, fs)) := by
  refine (MC_set (q := 0) (y := .inr (3, fs)) (by decide) ?_ ?_)
  · rw [h]; rfl
  · intro r hr hne
    simp only [M_cell]
    rw [if_neg hne, if_neg hne]
    rfl
/-- a name for what is computed -/
def lt {α β : Type} (x : α) (k : α → β) : β := k x
def mald {β : Type} (t : MS) (j n : Nat) (i : Int32) (k : Int32 → Option β) : Option β := if i < 0 ∨ n ≤ i.toNatClampNeg then none else k (t.2.1 j i.toNatClampNeg)
def mast {β : Type} (t : MS) (j n : Nat) (i v : Int32) (k : MS → Option β) : Option β := if i < 0 ∨ n ≤ i.toNatClampNeg then none else k (setA t j i.toNatClampNeg v)
def mldl {β : Type} (t : MS) (j n : Nat) (i : Int32) (k : Int64 → Option β) : Option β := if i < 0 ∨ n ≤ i.toNatClampNeg then none else k (t.2.2 j i.toNatClampNeg)
def mstl {β : Type} (t : MS) (j n : Nat) (i : Int32) (v : Int64) (k : MS → Option β) : Option β := if i < 0 ∨ n ≤ i.toNatClampNeg then none else k (setL t j i.toNatClampNeg v)
section MR
variable {Γ : Gc} {p : Program} {l : Launch} {e : Env} {fr lo : Nat} {s : State} {m : MethodId} {args : Array Value} {below : List Frame} {meth : Method} {c : Code} {nL : Nat} {α : Type} {mo : Nat} {ρ : Sg} {sz : Nat} {vl : α → Option Value} {rF : α} {tF t : MS} {pc : Nat} {lv : List (Nat × Value)} {st rest : List Value} {cc : ByteArray} {own : String}
theorem g_lti {τ : Type} {ι : τ → Iv} {tF t : τ} {x : Int32} {k : Int32 → Option (α × τ)} (kk : ∀ y, Wf Γ p l e fr lo s m args below meth c nL ι vl rF tF pc lv (.int y :: rest) t (k y)) : Wf Γ p l e fr lo s m args below meth c nL ι vl rF tF pc lv (.int x :: rest) t (lt x k) := kk x
theorem g_ltl {τ : Type} {ι : τ → Iv} {tF t : τ} {x : Int64} {k : Int64 → Option (α × τ)} (kk : ∀ y, Wf Γ p l e fr lo s m args below meth c nL ι vl rF tF pc lv (.long y :: rest) t (k y)) : Wf Γ p l e fr lo s m args below meth c nL ι vl rF tF pc lv (.long x :: rest) t (lt x k) := kk x
theorem mg_get (X : g_X Γ p s m args meth c cc nL own) {index k : Nat} {v : Value} {F : Option (α × MS)} (fo : g_fo own index [3] k) (d : decode cc pc = .ok (.getfield index, 3)) (hv : (mfs mo t)[k]? = some v) (kk : Wf Γ p l e fr lo s m args below meth c nL (m_ι mo ρ sz) vl rF tF (pc + 3) lv (v :: rest) t F) : Wf Γ p l e fr lo s m args below meth c nL (m_ι mo ρ sz) vl rF tF pc lv (.ref mo :: rest) t F :=
  g_getE X fo d MC_o (List.mem_singleton.mpr rfl) hv kk
theorem mg_put (X : g_X Γ p s m args meth c cc nL own) {index k : Nat} {v : Int32} {ty : FieldType} {F : MS → Option (α × MS)} (fp : g_fp own index [3] k ty false) (d : decode cc pc = .ok (.putfield index, 3)) (hn : narrow ty (.int v) = .int v) (hfit : fits ty (.int v) = true) (hk : k < 27) (hv : (mfs mo t).set k (.int v) = mfs mo (setI t k v)) (kk : ∀ t', Wf Γ p l e fr lo s m args below meth c nL (m_ι mo ρ sz) vl rF tF (pc + 3) lv rest t' (F t')) : Wf Γ p l e fr lo s m args below meth c nL (m_ι mo ρ sz) vl rF tF pc lv (.int v :: .ref mo :: rest) t (lt (setI t k v) F) :=
  g_putE (t' := setI t k v) X fp d (fun h => by cases h) hn hfit MC_o (List.mem_singleton.mpr rfl) hk (by simp only [m_ι]; rw [MC_setI hv]) (kk _)
theorem mg_ald (X : g_X Γ p s m args meth c cc nL own) {j n : Nat} {i : Int32} {F : Int32 → Option (α × MS)} (d : decode cc pc = .ok (.iaload, 1)) (hj : j < 14) (hn : mlen j = n) (kk : ∀ v, Wf Γ p l e fr lo s m args below meth c nL (m_ι mo ρ sz) vl rF tF (pc + 1) lv (.int v :: rest) t (F v)) : Wf Γ p l e fr lo s m args below meth c nL (m_ι mo ρ sz) vl rF tF pc lv (.int i :: .ref (mo + (j + 1)) :: rest) t (mald t j n i F) := by
  subst hn
  exact g_no fun h => g_ialdE X d (MC_a j hj) h (kk _)
theorem mg_ast (X : g_X Γ p s m args meth c cc nL own) {j n : Nat} {i v : Int32} {F : MS → Option (α × MS)} (d : decode cc pc = .ok (.iastore, 1)) (hj : j < 14) (hn : mlen j = n) (kk : ∀ t', Wf Γ p l e fr lo s m args below meth c nL (m_ι mo ρ sz) vl rF tF (pc + 1) lv rest t' (F t')) : Wf Γ p l e fr lo s m args below meth c nL (m_ι mo ρ sz) vl rF tF pc lv (.int v :: .int i :: .ref (mo + (j + 1)) :: rest) t (mast t j n i v F) := by
  subst hn
  exact g_no fun h => g_iastE (t' := setA t j i.toNatClampNeg v) X d (MC_a j hj) h (by simp only [m_ι]; rw [MC_setA hj]) (kk _)
theorem mg_ldl (X : g_X Γ p s m args meth c cc nL own) {j n : Nat} {i : Int32} {F : Int64 → Option (α × MS)} (d : decode cc pc = .ok (.laload, 1)) (hj : j < 2) (hn : llen j = n) (kk : ∀ v, Wf Γ p l e fr lo s m args below meth c nL (m_ι mo ρ sz) vl rF tF (pc + 1) lv (.long v :: rest) t (F v)) : Wf Γ p l e fr lo s m args below meth c nL (m_ι mo ρ sz) vl rF tF pc lv (.int i :: .ref (mo + (j + 15)) :: rest) t (mldl t j n i F) := by
  subst hn
  exact g_no fun h => g_laldE X d (MC_l j hj) h (kk _)
theorem mg_stl (X : g_X Γ p s m args meth c cc nL own) {j n : Nat} {i : Int32} {v : Int64} {F : MS → Option (α × MS)} (d : decode cc pc = .ok (.lastore, 1)) (hj : j < 2) (hn : llen j = n) (kk : ∀ t', Wf Γ p l e fr lo s m args below meth c nL (m_ι mo ρ sz) vl rF tF (pc + 1) lv rest t' (F t')) : Wf Γ p l e fr lo s m args below meth c nL (m_ι mo ρ sz) vl rF tF pc lv (.long v :: .int i :: .ref (mo + (j + 15)) :: rest) t (mstl t j n i v F) := by
  subst hn
  exact g_no fun h => g_lastE (t' := setL t j i.toNatClampNeg v) X d (MC_l j hj) h (by simp only [m_ι]; rw [MC_setL hj]) (kk _)
end MR
