/-! a race takes another's state -/
set_option maxRecDepth 100000
theorem fits_b {d : Nat} (h : d ≤ 127) : fits .byte (.int (nI d)) = true := by
  show (decide ((-128 : Int32) ≤ nI d) && decide (nI d ≤ (127 : Int32))) = true
  rw [Bool.and_eq_true, decide_eq_true_eq, decide_eq_true_eq]
  refine ⟨?_, (nI_leI (a := d) (b := 127) (by omega) (by decide)).mpr h⟩
  refine Int32.le_iff_toInt_le.mpr ?_
  rw [nI_toInt (by omega)]
  have : (-128 : Int32).toInt = -128 := by decide
  rw [this]; omega
theorem cpI_t {β : Type} {σ : Sg} {c : Nat × Nat} {a a1 : Nat} {fl : Bool} {K : St → Option β} {ty : FieldType} {j n0 n1 sp dp n : Nat} {f g : Nat → Int32} (h0 : σ a = some (fl, .inl (j, n0, .inl f))) (h1 : σ a1 = some (true, .inl (j, n1, .inl g))) (b0 : sp + n ≤ n0) (b1 : dp + n ≤ n1) (l0 : n0 ≤ 1000) (l1 : n1 ≤ 1000) (hc : ∀ i, i < n → fits ty (.int (f (sp + i))) = true) : ccopyI j ty (σ, c) a (nI sp) a1 (nI dp) (nI n) K = K (g_u σ a1 (true, .inl (j, n1, .inl (va_cpy f g sp dp n))), c) := by
  unfold ccopyI; simp only [h0, h1]
  have e1 : (nI sp).toNatClampNeg = sp := nI_clamp (by omega)
  have e2 : (nI dp).toNatClampNeg = dp := nI_clamp (by omega)
  have e3 : (nI n).toNatClampNeg = n := nI_clamp (by omega)
  rw [e1, e2, e3, if_pos ⟨trivial, trivial, nI_nn (by omega), nI_nn (by omega), nI_nn (by omega), b0, b1, by
    rw [List.all_eq_true]
    intro i hi
    exact hc i (List.mem_range.mp hi)⟩]
/-- some clock of the number j -/
def Cl (σ : Sg) (a j : Nat) : Prop := ∃ κ v1 v2 v3 v4 v5, κ ≤ 5 ∧ σ a = some (kC κ (nI j) v1 v2 v3 v4 v5)
/-- a list of clocks -/
def CL (σ : Sg) (T : Nat → Nat) (k : Nat) (ex : Nat → Option Nat) (l e m : Nat) (g : Nat → Nat) : Prop := AL σ T k ex l e m g ∧ (∀ j, j < m → T (g j) = k) ∧ ∀ j, j < m → Cl σ (g j) j
theorem Cl.keep {σ σ' : Sg} {a j : Nat} (h : Cl σ a j) (e : σ' a = σ a) : Cl σ' a j := by unfold Cl at h ⊢; rw [e]; exact h
theorem CL.el {σ : Sg} {T : Nat → Nat} {k : Nat} {ex : Nat → Option Nat} {l e m : Nat} {g : Nat → Nat} (H : CL σ T k ex l e m g) : El σ g m := by
  intro j hj
  obtain ⟨κ, v1, v2, v3, v4, v5, h1, h2⟩ := H.2.2 j hj
  exact ⟨true, 4 + κ, _, h2, kC_csL h1⟩
theorem Cl.ne {σ : Sg} {a j : Nat} (h : Cl σ a j) {b : Nat} {x : Bool × va_E} (hb : σ b = some x) (hx : ∀ κ v0 v1 v2 v3 v4 v5, κ ≤ 5 → x ≠ kC κ v0 v1 v2 v3 v4 v5) : a ≠ b := by
  obtain ⟨κ, v1, v2, v3, v4, v5, h1, h2⟩ := h
  intro e; rw [e, hb] at h2
  exact hx _ _ _ _ _ _ _ h1 (Option.some.inj h2)
theorem Cl.inj {σ : Sg} {a i j : Nat} (h : Cl σ a i) (h' : Cl σ a j) (hi : i < 1000) (hj : j < 1000) : i = j := by
  obtain ⟨κ, v1, v2, v3, v4, v5, h1, h2⟩ := h
  obtain ⟨κ', u1, u2, u3, u4, u5, g1, g2⟩ := h'
  rw [h2] at g2
  simp only [kC, Option.some.injEq, Prod.mk.injEq, Sum.inr.injEq, List.cons.injEq, Value.int.injEq, true_and] at g2
  exact nI_inj (by omega) (by omega) g2.2.1
theorem kC_raC {R : Rc} {A : Ad} {al : Int32} : ∀ κ v0 v1 v2 v3 v4 v5, κ ≤ 5 → raC R A al ≠ kC κ v0 v1 v2 v3 v4 v5 := by
  intro κ v0 v1 v2 v3 v4 v5 _ h; simp [raC, kC] at h
theorem kC_arr {b : Bool} {y : ClassId × vp_A} : ∀ κ v0 v1 v2 v3 v4 v5, κ ≤ 5 → ((b, Sum.inl y) : Bool × va_E) ≠ kC κ v0 v1 v2 v3 v4 v5 := by
  intro κ v0 v1 v2 v3 v4 v5 _ h; simp [kC] at h
theorem kC_liC {mc : Int32} {e n : Nat} : ∀ κ v0 v1 v2 v3 v4 v5, κ ≤ 5 → liC mc e n ≠ kC κ v0 v1 v2 v3 v4 v5 := by
  intro κ v0 v1 v2 v3 v4 v5 hk h; simp [liC, kC] at h
theorem RT.cl {σ : Sg} {T : Nat → Nat} {k : Nat} {ex : Nat → Option Nat} {A : Ad} {R : Rc} {al : Int32} (H : RT σ T k ex A R al) (B : R.Ba) : CL σ T k ex A.l A.e R.n A.ca := ⟨H.2.2.2.2.1, H.2.2.2.2.2, fun j hj => ⟨R.k j, _, _, _, _, _, B.k j hj, H.1.ck j hj⟩⟩
/-- the parts of a race that are no clocks, no list -/
def Fr3 (σ : Sg) (A : Ad) (Q : Rc) (be : Int32) : Prop := σ A.r = some (raC Q A be) ∧ (∃ f, σ A.d = some (true, .inl (0, 24, .inl f)) ∧ ∀ w, w < 24 → f w = nI (Q.d w)) ∧ (∃ f, σ A.s = some (true, .inl (0, 12, .inl f)) ∧ ∀ j, j < 12 → f j = nI (Q.sk j))
theorem Fr3.keep {σ σ' : Sg} {A : Ad} {Q : Rc} {be : Int32} (H : Fr3 σ A Q be) (h : ∀ q x, σ q = some x → (∀ κ v0 v1 v2 v3 v4 v5, κ ≤ 5 → x ≠ kC κ v0 v1 v2 v3 v4 v5) → (∀ mc e n, x ≠ liC mc e n) → (∀ b n f, x ≠ oaC b n f) → σ' q = σ q) : Fr3 σ' A Q be := by
  obtain ⟨h1, ⟨fd, h2, h3⟩, ⟨fs, h4, h5⟩⟩ := H
  refine ⟨?_, ⟨fd, ?_, h3⟩, ⟨fs, ?_, h5⟩⟩
  · rw [h _ _ h1 kC_raC (by intro a b c g; simp [raC, liC] at g) (by intro a b c g; simp [raC, oaC] at g)]; exact h1
  · rw [h _ _ h2 kC_arr (by intro a b c g; simp [liC] at g) (by intro a b c g; simp [oaC] at g)]; exact h2
  · rw [h _ _ h4 kC_arr (by intro a b c g; simp [liC] at g) (by intro a b c g; simp [oaC] at g)]; exact h4
section TK
variable {ex : Nat → Option Nat} {z : Nat} {A B : Ad} {Q : Rc} {be : Int32} {k j : Nat}
/-- clocks too many go -/
theorem tk_78 (BQ : Q.Ba) (hk : k ≠ 0) (hk9 : k ≠ 99) (hj : j ≠ 0) (hkj : j ≠ k) {T : Nat → Nat} (F : Fre T z) {e : Nat} {g : Nat → Nat} (c : Nat × Nat) : ∀ (m fuel : Nat) (σ : Sg), m ≤ 9 → m < fuel → CL σ T k ex A.l e m g → Fr3 σ A Q be → RT σ T j ex B Q be → ∃ σ' m', fX1_takes_78 ex z fuel A.r B.r (σ, c) = fX1_takes_117 ex z 1000 A.r B.r 0 (σ', c) ∧ CL σ' T k ex A.l e m' g ∧ m' ≤ Q.n ∧ Fr3 σ' A Q be ∧ RT σ' T j ex B Q be ∧ Ow T k σ z σ' z := by
  intro m
  induction m with
  | zero =>
    intro fuel σ hm hf H H3 HS
    obtain ⟨x, rfl⟩ : ∃ x, fuel = x + 1 := ⟨fuel - 1, by omega⟩
    have hn := BQ.n
    obtain ⟨mc, hl⟩ := H.1.2.1
    obtain ⟨mc', hl'⟩ := HS.list.2.1
    refine ⟨σ, 0, ?_, H, by omega, H3, HS, Ow.rf _ _ _ _⟩
    rw [fX1_takes_78, A_t H3.1 (by decide) rfl, X_t hl (by decide), al_size H.1, gb_two, A_t HS.rr.ra (by decide) rfl, X_t hl' (by decide), al_size HS.list, gb_two, if_pos ((nI_leI (by omega) (by omega)).mpr (by omega))]
  | succ m ih =>
    intro fuel σ hm hf H H3 HS
    obtain ⟨x, rfl⟩ : ∃ x, fuel = x + 1 := ⟨fuel - 1, by omega⟩
    have hn := BQ.n
    obtain ⟨mc, hl⟩ := H.1.2.1
    obtain ⟨mc', hl'⟩ := HS.list.2.1
    rw [fX1_takes_78, A_t H3.1 (by decide) rfl, X_t hl (by decide), al_size H.1, gb_two, A_t HS.rr.ra (by decide) rfl, X_t hl' (by decide), al_size HS.list, gb_two, ifle Q.n rfl rfl (by omega) (by omega)]
    by_cases hle : m + 1 ≤ Q.n
    · rw [if_pos hle]
      exact ⟨σ, m + 1, rfl, H, hle, H3, HS, Ow.rf _ _ _ _⟩
    · obtain ⟨σ1, q1, q2, q3, q4⟩ := al_remove (z := z) H.1 H.el (i := m) (by omega) (by omega) (c := (0, 0))
      have q1' : ∀ zz, fJ2_remove ex zz A.l (nI m) (σ, 0, 0) = some (g m, (σ1, 0, 0)) := by
        intro zz
        obtain ⟨σ1', r1, r2, r3, r4⟩ := al_remove (z := zz) H.1 H.el (i := m) (by omega) (by omega) (c := (0, 0))
        exact q1 ▸ rfl
      rw [if_neg hle, A_t H3.1 (by decide) rfl, A_t H3.1 (by decide) rfl, X_t hl (by decide), al_size H.1, gb_two, X_t hl (by decide), nI_sub1 (by omega), Nat.add_sub_cancel, q1']
      have eg : AL σ1 T k ex A.l e m g := by
        obtain ⟨a1, a2, a3⟩ := q2
        refine ⟨a1, a2, ?_⟩
        rcases a3 with a3 | ⟨b1, cap, f, b2, b3, b4, b5, b6⟩
        · exact Or.inl a3
        · exact Or.inr ⟨b1, cap, f, b2, b3, b4, b5, fun i hi => by
            rw [b6 i hi]; unfold drp; rw [if_pos (by omega)]⟩
      obtain ⟨b, cap, f, he, -⟩ := al_arr H.1
      have hC : CL σ1 T k ex A.l e m g := ⟨eg, fun i hi => H.2.1 i (by omega), fun i hi => (H.2.2 i (by omega)).keep (q4 _ ((H.2.2 i (by omega)).ne hl kC_liC) ((H.2.2 i (by omega)).ne he kC_arr))⟩
      have h3 : Fr3 σ1 A Q be := H3.keep (fun q y hy h1 h2 h3 => q4 q (fun x => h2 _ _ _ (Option.some.inj (hy.symm.trans (x ▸ hl)))) (fun x => h3 _ _ _ (Option.some.inj (hy.symm.trans (x ▸ he)))))
      have hS : RT σ1 T j ex B Q be := by
        have := HS.ow F q3 hj hk9 hkj
        rw [ext_none] at this
        exact this
      obtain ⟨σ2, m2, r1, r2, r3, r4, r5, r6⟩ := ih x σ1 (by omega) (by omega) hC h3 hS
      refine ⟨σ2, m2, r1, r2, r3, r4, r5, ?_⟩
      have := q3.tr (σ2 := σ2) (z2 := z) (by rw [ext_none]; exact r6)
      exact this
end TK
