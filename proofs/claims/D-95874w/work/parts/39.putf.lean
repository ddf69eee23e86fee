/-! a field whose number differs from class to class -/
set_option maxRecDepth 100000
def cputF {β : Type} (ks : List (Nat × Nat)) (t : St) (a : Nat) (v : Value) (K : St → Option β) : Option β := match t.1 a with
  | some (true, .inr q) => match ks.lookup q.1 with
    | some k => if k < q.2.length then K (g_u t.1 a (true, .inr (q.1, q.2.set k v)), t.2) else none
    | none => none
  | _ => none
def cgIF {β : Type} (ks : List (Nat × Nat)) (t : St) (a : Nat) (K : Int32 → Option β) : Option β := match t.1 a with
  | some (_, .inr q) => match ks.lookup q.1 with
    | some k => cgI [q.1] k t a K
    | none => none
  | _ => none
theorem g_look {ks : List (Nat × Nat)} {i k : Nat} (h : ks.lookup i = some k) : (i, k) ∈ ks := by
  induction ks with
  | nil => cases h
  | cons x xs ih =>
    obtain ⟨j, v⟩ := x
    rw [List.lookup_cons] at h
    by_cases hj : i == j
    · rw [hj] at h
      have e1 : i = j := by simpa using hj
      cases h
      rw [e1]
      exact List.mem_cons_self
    · have hj' : (i == j) = false := by simpa using hj
      rw [hj'] at h
      exact List.mem_cons_of_mem _ (ih h)
section PF
variable {Γ : Gc} {p : Program} {l : Launch} {e : Env} {fr lo : Nat} {s : State} {m : MethodId} {args : Array Value} {below : List Frame} {meth : Method} {c : Code} {nL : Nat} {α : Type} {z : Nat} {vl : α → Option Value} {rF : α} {tF t : St} {pc : Nat} {lv : List (Nat × Value)} {st rest : List Value} {cc : ByteArray} {own : String}
theorem cg_putF (X : g_X Γ p s m args meth c cc nL own) {index : Nat} {ks : List (Nat × Nat)} {ty : FieldType} {fin : Bool} (fp : ∀ q ∈ ks, g_fp own index [q.1] q.2 ty fin) {a : Nat} {v : Value} {K : St → Option (α × St)} (d : decode cc pc = .ok (.putfield index, 3)) (hin : fin = true → meth.name = "<init>") (hn : narrow ty v = v) (hfit : fits ty v = true) (kk : ∀ t', Wf Γ p l e fr lo s m args below meth c nL (g_ι z) vl rF tF (pc + 3) lv rest t' (K t')) : Wf Γ p l e fr lo s m args below meth c nL (g_ι z) vl rF tF pc lv (v :: .ref a :: rest) t (cputF ks t a v K) := by
  intro hF
  unfold cputF at hF
  split at hF
  · rename_i q hs
    split at hF
    · rename_i k hk
      by_cases hc : k < q.2.length
      · rw [if_pos hc] at hF
        exact g_putE (t' := (g_u t.1 a (true, .inr (q.1, q.2.set k v)), t.2)) X (fp _ (g_look hk)) d hin hn hfit hs (List.mem_singleton.mpr rfl) hc rfl (kk _) hF
      · rw [if_neg hc] at hF; cases hF
    · cases hF
  · cases hF
end PF
