/-! more of the links; the two fields this$0 of a repair (printed by gen/comp3.py) -/
set_option maxRecDepth 100000
theorem lw_U {own : String} {idx : Nat} {C owner : String} {x y : MethodName} {b : ByteArray} {L : Nat} {r : Option FieldType} (h1 : Cond.methodLink own idx x ∈ lw_all) (h2 : Cond.sameMethod x.cls owner x.name x.desc ∈ lw_all) (h3 : Cond.selects C x y ∈ lw_all) (h4 : Cond.instanceMethod y ∈ lw_all) (h5 : Cond.initialized y.cls ∈ lw_all) (hc : Cond.code y b L r ∈ lw_all) : GoodIn lw_all (va_wsU own idx C owner x y (ws_ y b L r)) := by
  refine lw_app ?_ (lw_meth hc)
  intro w hw
  simp only [List.mem_cons, List.not_mem_nil, or_false] at hw
  rcases hw with e | e | e | e | e
  · rw [e]; exact h1
  · rw [e]; exact h2
  · rw [e]; exact h3
  · rw [e]; exact h4
  · rw [e]; exact h5
theorem lw_O {own : String} {idx : Nat} {C owner : String} {x y : MethodName} {b : ByteArray} {L : Nat} {r : Option FieldType} (h1 : Cond.methodLink own idx x ∈ lw_all) (h2 : Cond.sameMethod x.cls owner x.name x.desc ∈ lw_all) (h3 : Cond.instanceMethod ⟨owner, x.name, x.desc⟩ ∈ lw_all) (h4 : Cond.selects C x y ∈ lw_all) (h5 : Cond.instanceMethod y ∈ lw_all) (h6 : Cond.initialized y.cls ∈ lw_all) (hc : Cond.code y b L r ∈ lw_all) : GoodIn lw_all (va_wsO own idx C owner x y (ws_ y b L r)) := by
  refine lw_app ?_ (lw_meth hc)
  intro w hw
  simp only [List.mem_cons, List.not_mem_nil, or_false] at hw
  rcases hw with e | e | e | e | e | e
  · rw [e]; exact h1
  · rw [e]; exact h2
  · rw [e]; exact h3
  · rw [e]; exact h4
  · rw [e]; exact h5
  · rw [e]; exact h6
theorem lw_SU {own : String} {idx : Nat} {y : MethodName} {b : ByteArray} {L : Nat} {r : Option FieldType} (h1 : Cond.methodLink own idx y ∈ lw_all) (h2 : Cond.sameMethod y.cls y.cls y.name y.desc ∈ lw_all) (h3 : Cond.superclass own y.cls ∈ lw_all) (h4 : Cond.instanceMethod y ∈ lw_all) (h5 : Cond.initialized y.cls ∈ lw_all) (hc : Cond.code y b L r ∈ lw_all) : GoodIn lw_all (va_wsSU own idx y (ws_ y b L r)) := by
  refine lw_app ?_ (lw_meth hc)
  intro w hw
  simp only [List.mem_cons, List.not_mem_nil, or_false] at hw
  rcases hw with e | e | e | e | e
  · rw [e]; exact h1
  · rw [e]; exact h2
  · rw [e]; exact h3
  · rw [e]; exact h4
  · rw [e]; exact h5
theorem lw_F {own : String} {idx : Nat} {C : String} {x y : MethodName} {b : ByteArray} {L : Nat} {r : Option FieldType} (h1 : Cond.methodLink own idx x ∈ lw_all) (h2 : Cond.selects C x y ∈ lw_all) (h3 : Cond.instanceMethod y ∈ lw_all) (h4 : Cond.initialized y.cls ∈ lw_all) (hc : Cond.code y b L r ∈ lw_all) : GoodIn lw_all (va_wsF own idx C x y (ws_ y b L r)) := by
  refine lw_app ?_ (lw_meth hc)
  intro w hw
  simp only [List.mem_cons, List.not_mem_nil, or_false] at hw
  rcases hw with e | e | e | e
  · rw [e]; exact h1
  · rw [e]; exact h2
  · rw [e]; exact h3
  · rw [e]; exact h4
theorem g_clsOf {cs : List Nat} (h : cs.all (fun c => decide (c < 32)) = true) {ci : Nat} (hc : ci ∈ cs) : ∃ (C : String) (T : u_T) (N : Nat), cls[ci]? = some (C, T, N) := by
  have h1 : ci < 32 := of_decide_eq_true (List.all_eq_true.mp h ci hc)
  have h2 : ci < cls.length := h1
  exact ⟨_, _, _, List.getElem?_eq_getElem h2⟩
/-- a field's link, written, where another field has its name -/
def g_fq (own : String) (index : Nat) (cs : List Nat) (k k2 : Nat) (ty : FieldType) : Prop := ∃ nm ds : String, Cond.fieldLink own index own nm ds ∈ lw_all ∧ parseFieldDescriptor ds = some ty ∧
  ∀ ci ∈ cs, ∃ (C : String) (T : u_T) (N : Nat) (ty0 : Nat → FieldType), cls[ci]? = some (C, T, N) ∧ k < N ∧ (T k).2.1 = nm ∧ (T k).2.2.1 = ds ∧ (T k).1 = own ∧ (∀ w ∈ u_ws C T N, w ∈ lw_all) ∧ (T k).2.2.2 = true ∧ (∀ j, j < N → parseFieldDescriptor (T j).2.2.1 = some (ty0 j)) ∧ ∀ j, j < N → j ≠ k → j ≠ k2 → (T j).2.1 ≠ nm
noncomputable def cput2 {β : Type} (cs : List Nat) (k k2 : Nat) (t : St) (a : Nat) (v : Value) (K : St → Option β) : Option β := match t.1 a with
  | some (true, .inr q) => @ite _ (q.1 ∈ cs ∧ k < q.2.length ∧ k2 < q.2.length ∧ k ≠ k2 ∧ K (g_u t.1 a (true, .inr (q.1, q.2.set k v)), t.2) = K (g_u t.1 a (true, .inr (q.1, (q.2.set k v).set k2 v)), t.2)) (Classical.propDecidable _) (K (g_u t.1 a (true, .inr (q.1, q.2.set k v)), t.2)) none
  | _ => none
section CQ
variable {Γ : Gc} {p : Program} {l : Launch} {e : Env} {fr lo : Nat} {s : State} {m : MethodId} {args : Array Value} {below : List Frame} {meth : Method} {c : Code} {nL : Nat} {α : Type} {z : Nat} {vl : α → Option Value} {rF : α} {tF t : St} {pc : Nat} {lv : List (Nat × Value)} {st rest As : List Value} {cc : ByteArray} {own : String}
theorem cg_put2 (X : g_X Γ p s m args meth c cc nL own) {index k k2 : Nat} {cs : List Nat} {ty : FieldType} (fp : g_fq own index cs k k2 ty) {a : Nat} {v : Value} {K : St → Option (α × St)} (d : decode cc pc = .ok (.putfield index, 3)) (hin : meth.name = "<init>") (hn : narrow ty v = v) (hfit : fits ty v = true) (kk : ∀ t', Wf Γ p l e fr lo s m args below meth c nL (g_ι z) vl rF tF (pc + 3) (lv) (rest) t' (K t')) : Wf Γ p l e fr lo s m args below meth c nL (g_ι z) vl rF tF (pc) (lv) (v :: .ref a :: rest) t (cput2 cs k k2 t a v K) := by
  intro hF
  unfold cput2 at hF
  split at hF
  · rename_i q hs
    by_cases hc0 : q.1 ∈ cs ∧ k < q.2.length ∧ k2 < q.2.length ∧ k ≠ k2 ∧ K (g_u t.1 a (true, .inr (q.1, q.2.set k v)), t.2) = K (g_u t.1 a (true, .inr (q.1, (q.2.set k v).set k2 v)), t.2)
    · rw [if_pos hc0] at hF
      obtain ⟨hci, hlen, hlen2, hkk, heq⟩ := hc0
      have k1 := kk _ hF
      have k2' := kk _ (heq ▸ hF)
      refine ⟨k1.1, fun H locs ls h1 h2 h3 h4 => ?_⟩
      obtain ⟨nm, ds, hl, hd, hc⟩ := fp
      obtain ⟨C, T, N, ty0, e1, hk, e2, e3, e4, e5, e6, e8, e9⟩ := hc q.1 hci
      subst e2 e3
      have hts := X.2.2.2.2.1
      have hown := X.2.2.2.1
      have hK := X.2.2.2.2.2.2.1.1
      have hap : ∀ j, j < N → j ≠ k → j ≠ k2 → (Γ.1.2 q.1) k ≠ (Γ.1.2 q.1) j := by
        intro j hj hjk hjk2
        obtain ⟨hS, -⟩ := hK.1 q.1 _ e1
        obtain ⟨_, _, _, fa, hia, ea⟩ := hS k hk
        obtain ⟨_, _, _, fb, hib, eb⟩ := hS j hj
        rw [← ea, ← eb]
        refine u_apart (u_lays hts e5 hk) (u_lays hts e5 hj) hia hib ?_
        rw [(State.fieldFound?_type hia (e8 k hk)).1, (State.fieldFound?_type hib (e8 j hj)).1]
        exact fun h => e9 j hj hjk hjk2 h.symm
      obtain ⟨r, g1, cell, q1, q2, q3, q4⟩ := h1.ex hs
      have hr : r = (C, T, N) := Option.some.inj (g1.symm.trans e1)
      subst hr
      obtain ⟨hS, hfc, kC, hkC, hkind⟩ := hK.1 q.1 _ e1
      obtain ⟨cf, kf, fi, f, hi, hsl⟩ := hS k hk
      have hlay := hts _ (e5 _ (u_in_lay hk))
      have hst := (u_facts hfc hkC (u_lays hts e5 hk) hi).1
      have hA : Γ.2.2.1 ≤ a := (h1 a _ hs).2 rfl
      unfold u_lay at hlay
      rw [if_pos e6] at hlay
      have hcf : m.cls = cf := by
        obtain ⟨_, _, c', _, _, _, -, -, hf', -, -, -, hown2, -⟩ := Cond.laysFinal_spec hlay
        have g1 : c' = cf := by have := hi.symm.trans hf'; simp at this; exact this.1.symm
        rw [e4] at hown2
        rw [← g1]; exact Option.some.inj (hown.symm.trans hown2)
      have h6 := u_fits hfc hkC hkind (Or.inr hlay) hi hd hn hfit
      refine W.putFinK X.1 X.2.1 hown (hts _ hl) (by rw [← e4]; exact hi) hst hcf hin (by rw [q2]; exact h6) q1 q3 (by rw [hsl]; exact k2_hasslot (q4 k hk)) rfl rfl d fun H' f1 f2 f3 => ?_
      rw [hsl] at f1 ⊢
      by_cases hsame : k2 < N ∧ (Γ.1.2 q.1) k = (Γ.1.2 q.1) k2
      · refine k2'.2 H' _ ls (h1.set (y := (true, .inr (q.1, (q.2.set k v).set k2 v))) hs rfl ⟨_, e1, t_OB.to (V := updV (updV (vp_V q.2) k v) k2 v) ⟨_, f1, q2, q3, fun j hj => ?_⟩ (fun j _ => ?_)⟩ f3) (f2.trans h2) (h3.put f2 f3 hA) h4
        · by_cases hj2 : j = k2
          · subst hj2
            rw [← hsame.2, Cell.slots_setSlot_self _ (k2_hasslot (q4 k hk))]
            simp [updV]
          · by_cases hj1 : j = k
            · subst hj1
              rw [Cell.slots_setSlot_self _ (k2_hasslot (q4 j hj))]
              simp [updV, hj2]
            · rw [slot_ne _ _ (hap j hj hj1 hj2), q4 j hj]
              simp [updV, hj1, hj2]
        · rw [← vp_updV_set (by rw [List.length_set]; exact hlen2) v j]
          show updV (updV (vp_V q.2) k v) k2 v j = updV (vp_V (q.2.set k v)) k2 v j
          unfold updV
          by_cases hj2 : j = k2
          · rw [if_pos hj2, if_pos hj2]
          · rw [if_neg hj2, if_neg hj2]
            exact vp_updV_set hlen v j
      · refine k1.2 H' _ ls (h1.set (y := (true, .inr (q.1, q.2.set k v))) hs rfl ⟨_, e1, t_OB.to (V := updV (vp_V q.2) k v) ⟨_, f1, q2, q3, g_set1 q4 hk (fun j hj hjk => ?_) v⟩ (fun j _ => vp_updV_set hlen v j)⟩ f3) (f2.trans h2) (h3.put f2 f3 hA) h4
        by_cases hj2 : j = k2
        · subst hj2
          exact fun h => hsame ⟨hj, h⟩
        · exact hap j hj hjk hj2
    · rw [if_neg hc0] at hF; cases hF
  · cases hF
end CQ
