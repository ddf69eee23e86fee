/-! copy -/
set_option maxRecDepth 100000
section S9v
variable {t : MS} {W : Wv} {σ : Sg} {T : Nat → Nat} {ex : Nat → Option Nat} {z o : Nat} {a : Nat → Nat}
theorem cp_sub {n w : Nat} (hn : n ≤ 24) (hw : w < 2 ^ 31) : ((nI n).toInt64 - (nI w).toInt64).toInt = (n : Int) - (w : Int) := by
  rw [Int64.toInt_sub, i32_64, i32_64, nI_toInt (by omega), nI_toInt hw]
  simp only [Int.bmod]
  omega
theorem m_cpin1 {q n w : Nat} (t : MS) (hn : n ≤ 24) (h : q + w ≤ n) : fX3_in (nI q).toInt64 0 ((nI n).toInt64 - (nI w).toInt64) t = some (1, t) := by
  rw [m_in, if_pos]
  rw [Int64.le_iff_toInt_le, Int64.le_iff_toInt_le, cp_sub hn (by omega), i32_64, nI_toInt (by omega)]
  have h0 : (0 : Int64).toInt = 0 := by decide
  omega
theorem m_cpin0 {x : Int32} {n w : Nat} (t : MS) (hn : n ≤ 24) (hw : w < 2 ^ 31) (h : ¬ ∃ q, q + w ≤ n ∧ x = nI q) : fX3_in x.toInt64 0 ((nI n).toInt64 - (nI w).toInt64) t = some (0, t) := by
  rw [m_in, if_neg]
  rw [Int64.le_iff_toInt_le, Int64.le_iff_toInt_le, cp_sub hn hw, i32_64]
  have h0 : (0 : Int64).toInt = 0 := by decide
  rintro ⟨g1, g2⟩
  refine h ⟨x.toInt.toNat, by omega, Int32.toInt_inj.mp ?_⟩
  rw [nI_toInt (by omega)]; omega
theorem cp_out {x : Int32} {n w : Nat} (h : ¬ ∃ q, q + w ≤ n ∧ x = nI q) : x < 0 ∨ n < x.toNatClampNeg + w := by
  by_cases h0 : x < 0
  · exact Or.inl h0
  · obtain ⟨j, hj, rfl⟩ := nI_of h0
    right
    rw [nI_clamp hj]
    rcases Nat.lt_or_ge n (j + w) with g | g
    · exact g
    · exact absurd ⟨j, g, rfl⟩ h
theorem m_cp154 {t0 : MS} {k p w : Nat} {g : Nat → Int64} (hk : k < 4) (hp : p + w ≤ 24) : ∀ (j c fuel : Nat) (t : MS), c + j = w → j < fuel → t.1 = t0.1 → t.2.1 = t0.2.1 → (∀ x, x < w → t.2.2 1 x = g x) → (∀ x, t.2.2 0 x = if 24 * k + p ≤ x ∧ x < 24 * k + p + c then g (x - (24 * k + p)) else t0.2.2 0 x) → ∃ t', fX3_copy_154 fuel (nI k) (nI p) (nI w) (nI c) t = some (nI w, t') ∧ t'.1 = t0.1 ∧ t'.2.1 = t0.2.1 ∧ ∀ x, t'.2.2 0 x = if 24 * k + p ≤ x ∧ x < 24 * k + p + w then g (x - (24 * k + p)) else t0.2.2 0 x
  | 0, c, fuel, t, hj, hf, h1, h2, h3, h4 => by
    obtain ⟨m, rfl⟩ : ∃ m, fuel = m + 1 := ⟨fuel - 1, by omega⟩
    obtain rfl : c = w := by omega
    rw [fX3_copy_154, if_pos (nI_le (Nat.le_refl _) (by omega))]
    exact ⟨t, rfl, h1, h2, h4⟩
  | j + 1, c, fuel, t, hj, hf, h1, h2, h3, h4 => by
    obtain ⟨m, rfl⟩ : ∃ m, fuel = m + 1 := ⟨fuel - 1, by omega⟩
    rw [fX3_copy_154, if_neg (nI_ge (by omega) (by omega)), mldl_nI (by omega) (by decide), h3 c (by omega), ilit 24, nI_mul, nI_add, nI_add, mstl_nI (by omega) (by decide), nI_1]
    refine m_cp154 hk hp j (c + 1) m _ (by omega) (by omega) h1 h2 (fun x hx => ?_) (fun x => ?_)
    · show (if (1 : Nat) = 0 then vp_updL (t.2.2 0) (24 * k + p + c) (g c) else t.2.2 1) x = g x
      rw [if_neg (by decide)]; exact h3 x hx
    · rw [setL_same]
      by_cases hx : x = 24 * k + p + c
      · subst hx
        rw [updL_at, if_pos (by omega)]
        congr 1; omega
      · rw [updL_no _ _ hx, h4 x]
        by_cases g' : 24 * k + p ≤ x ∧ x < 24 * k + p + c
        · rw [if_pos g', if_pos (by omega)]
        · rw [if_neg g', if_neg (by omega)]
theorem m_cp117 {t0 : MS} {i q k p w : Nat} (hi : i < 4) (hk : k < 4) (hq : q + w ≤ 24) (hp : p + w ≤ 24) : ∀ (j c fuel : Nat) (t : MS), c + j = w → j < fuel → t.1 = t0.1 → t.2.1 = t0.2.1 → t.2.2 0 = t0.2.2 0 → (∀ x, x < c → t.2.2 1 x = t0.2.2 0 (24 * i + q + x)) → ∃ t', fX3_copy_117 fuel (nI i) (nI q) (nI k) (nI p) (nI w) (nI c) t = some (nI w, t') ∧ t'.1 = t0.1 ∧ t'.2.1 = t0.2.1 ∧ ∀ x, t'.2.2 0 x = if 24 * k + p ≤ x ∧ x < 24 * k + p + w then t0.2.2 0 (24 * i + q + (x - (24 * k + p))) else t0.2.2 0 x
  | 0, c, fuel, t, hj, hf, h1, h2, h3, h4 => by
    obtain ⟨m, rfl⟩ : ∃ m, fuel = m + 1 := ⟨fuel - 1, by omega⟩
    obtain rfl : c = w := by omega
    rw [fX3_copy_117, if_pos (nI_le (Nat.le_refl _) (by omega))]
    exact m_cp154 (t0 := t0) (g := fun x => t0.2.2 0 (24 * i + q + x)) hk hp c 0 1000 t (by omega) (by omega) h1 h2 h4 (fun x => by rw [if_neg (by omega), h3])
  | j + 1, c, fuel, t, hj, hf, h1, h2, h3, h4 => by
    obtain ⟨m, rfl⟩ : ∃ m, fuel = m + 1 := ⟨fuel - 1, by omega⟩
    rw [fX3_copy_117, if_neg (nI_ge (by omega) (by omega)), ilit 24, nI_mul, nI_add, nI_add, mldl_nI (by omega) (by decide), mstl_nI (by omega) (by decide), nI_1]
    refine m_cp117 hi hk hq hp j (c + 1) m _ (by omega) (by omega) h1 h2 ?_ (fun x hx => ?_)
    · show (if (0 : Nat) = 1 then _ else t.2.2 0) = t0.2.2 0
      rw [if_neg (by decide)]; exact h3
    · rw [setL_same]
      by_cases hc : x = c
      · subst hc; rw [updL_at, h3]
      · rw [updL_no _ _ hc]; exact h4 x (by omega)
theorem cp_row {r0 r1 L n0 n1 q p w : Nat} {f0 f1 : Nat → Int64} (h0 : Row σ r0 L n0 f0) (h1 : Row σ r1 L n1 f1) (hn0 : n0 ≤ 24) (hn1 : n1 ≤ 24) (hq : q + w ≤ n0) (hp : p + w ≤ n1) (hin : ∀ j, j < n0 → inLane (L + 1) (f0 j)) : ∃ y, (∀ {β : Type} (FN FS FI : Option β) (K : St → Option β) (c : Nat × Nat), ccopyT (σ, c) (some r0) (nI q) (some r1) (nI p) (nI w) FN FS FI K = K (g_u σ r1 y, c)) ∧ Row (g_u σ r1 y) r1 L n1 (va_cpy f0 f1 q p w) := by
  have cq : (nI q).toNatClampNeg = q := nI_clamp (by omega)
  have cp : (nI p).toNatClampNeg = p := nI_clamp (by omega)
  have cw : (nI w).toNatClampNeg = w := nI_clamp (by omega)
  have nq : ¬ nI q < 0 := nI_nn (by omega)
  have np : ¬ nI p < 0 := nI_nn (by omega)
  have nw : ¬ nI w < 0 := nI_nn (by omega)
  have hbd : ¬ (nI q < 0 ∨ nI p < 0 ∨ nI w < 0 ∨ n0 < q + w ∨ n1 < p + w) := by
    rintro (h | h | h | h | h)
    · exact nq h
    · exact np h
    · exact nw h
    · omega
    · omega
  rcases h0 with ⟨hL, v0, e0, hv0⟩ | ⟨hL3, v0, e0, hv0⟩
  · rcases h1 with ⟨-, v1, e1, hv1⟩ | ⟨hL3, -⟩
    · refine ⟨(true, .inl (L, n1, .inl (va_cpy v0 v1 q p w))), fun FN FS FI K c => ?_, Or.inl ⟨hL, _, g_u_self _ _ _, fun j hj => ?_⟩⟩
      · have hfit : ∀ (ty : FieldType), (∀ j, j < n0 → fits ty (.int (v0 j)) = true) → (List.range w).all (fun i => fits ty (.int (v0 (q + i)))) = true := fun ty hty => List.all_eq_true.mpr fun i hi => hty _ (by have := List.mem_range.mp hi; omega)
        simp only [ccopyT, e0, e1, cq, cp, cw]
        rw [if_pos ⟨by omega, by omega, by omega, by omega⟩, if_pos trivial, if_neg hbd]
        match L, hL with
        | 0, _ =>
          rw [if_pos rfl]
          simp only [ccopyI, e0, e1, cq, cp, cw]
          rw [if_pos ⟨trivial, trivial, nq, np, nw, hq, hp, hfit _ fun j hj => ?_⟩]
          have := (hin j hj).1 rfl
          rw [← hv0 j hj, i32_64] at this
          show (decide (-128 ≤ v0 j) && decide (v0 j ≤ 127)) = true
          rw [Bool.and_eq_true, decide_eq_true_eq, decide_eq_true_eq, Int32.le_iff_toInt_le, Int32.le_iff_toInt_le]
          exact this
        | 1, _ =>
          rw [if_neg (by decide), if_pos rfl]
          simp only [ccopyI, e0, e1, cq, cp, cw]
          rw [if_pos ⟨trivial, trivial, nq, np, nw, hq, hp, hfit _ fun j hj => ?_⟩]
          have := (hin j hj).2.1 rfl
          rw [← hv0 j hj, i32_64] at this
          show (decide (-32768 ≤ v0 j) && decide (v0 j ≤ 32767)) = true
          rw [Bool.and_eq_true, decide_eq_true_eq, decide_eq_true_eq, Int32.le_iff_toInt_le, Int32.le_iff_toInt_le]
          exact this
        | 2, _ =>
          rw [if_neg (by decide), if_neg (by decide), if_pos rfl]
          simp only [ccopyI, e0, e1, cq, cp, cw]
          rw [if_pos ⟨trivial, trivial, nq, np, nw, hq, hp, hfit _ fun j hj => rfl⟩]
      · unfold va_cpy
        by_cases hb : p ≤ j ∧ j < p + w
        · rw [if_pos hb, if_pos hb]; exact hv0 _ (by omega)
        · rw [if_neg hb, if_neg hb]; exact hv1 j hj
    · omega
  · rcases h1 with ⟨hL, -⟩ | ⟨-, v1, e1, hv1⟩
    · omega
    · subst hL3
      refine ⟨(true, .inl (3, n1, .inr (.inl (va_cpy v0 v1 q p w)))), fun FN FS FI K c => ?_, Or.inr ⟨rfl, _, g_u_self _ _ _, fun j hj => ?_⟩⟩
      · simp only [ccopyT, e0, e1, cq, cp, cw]
        rw [if_pos ⟨by decide, by decide, by omega, by omega⟩, if_pos trivial, if_neg hbd, if_neg (by decide), if_neg (by decide), if_neg (by decide)]
        simp only [ccopyL, e0, e1, cq, cp, cw]
        rw [if_pos ⟨trivial, trivial, nq, np, nw, hq, hp, trivial⟩]
      · unfold va_cpy
        by_cases hb : p ≤ j ∧ j < p + w
        · rw [if_pos hb, if_pos hb]; exact hv0 _ (by omega)
        · rw [if_neg hb, if_neg hb]; exact hv1 j hj
theorem cp_bad {r0 r1 k0 k1 n0 n1 : Nat} {x0 x1 : (Nat → Int32) ⊕ (Nat → Int64) ⊕ (Nat → UInt32) ⊕ (Nat → UInt64) ⊕ (Nat → Option Nat)} (h0 : σ r0 = some (true, .inl (k0, n0, x0))) (h1 : σ r1 = some (true, .inl (k1, n1, x1))) (b0 : k0 < 4) (b1 : k1 < 4) (hn0 : n0 ≤ 24) (hn1 : n1 ≤ 24) (hne : k0 ≠ k1) {β : Type} (FN FS FI : Option β) (K : St → Option β) (c : Nat × Nat) (y2 y4 y5 : Int32) : ccopyT (σ, c) (some r0) y2 (some r1) y4 y5 FN FS FI K = FS := by
  simp only [ccopyT, h0, h1]
  rw [if_pos ⟨b0, b1, by omega, by omega⟩, if_neg hne]
theorem cp_oob {r0 r1 k0 n0 n1 : Nat} {x0 x1 : (Nat → Int32) ⊕ (Nat → Int64) ⊕ (Nat → UInt32) ⊕ (Nat → UInt64) ⊕ (Nat → Option Nat)} (h0 : σ r0 = some (true, .inl (k0, n0, x0))) (h1 : σ r1 = some (true, .inl (k0, n1, x1))) (b0 : k0 < 4) (hn0 : n0 ≤ 24) (hn1 : n1 ≤ 24) {β : Type} (FN FS FI : Option β) (K : St → Option β) (c : Nat × Nat) {y2 y4 y5 : Int32} (hb : y2 < 0 ∨ y4 < 0 ∨ y5 < 0 ∨ n0 < y2.toNatClampNeg + y5.toNatClampNeg ∨ n1 < y4.toNatClampNeg + y5.toNatClampNeg) : ccopyT (σ, c) (some r0) y2 (some r1) y4 y5 FN FS FI K = FI := by
  simp only [ccopyT, h0, h1]
  rw [if_pos ⟨b0, b0, by omega, by omega⟩, if_pos trivial, if_pos hb]
theorem b_copy (M : MW t W) (H : CW σ T ex z o a W) (O : W.OK) (x1 x2 x3 x4 x5 : Int32) : Both σ T ex z o a (fX3_copy x1 x2 x3 x4 x5 t) (fX0_copy ex z o x1 x2 x3 x4 x5 (σ, 0, 0)) := by
  obtain ⟨at_, hob⟩ := H.obj
  unfold fX3_copy fX0_copy
  by_cases g1 : ∃ c, 0 ≤ c ∧ c ≤ 3 ∧ x1 = nI c
  swap
  · rw [m_iL0 0 3 t (by omega) (by decide) g1, gm_some, if_pos rfl, c_sh0 g1, gb_two, if_pos rfl]
    exact Both.same M H O _ rfl rfl
  obtain ⟨i, -, hi3, rfl⟩ := g1
  have hi : i < 4 := by omega
  rw [m_iL1 0 3 t (by omega) hi3 (by decide), gm_some, if_neg n10, c_sh1 hi, gb_two, if_neg n10]
  by_cases g2 : ∃ c, 0 ≤ c ∧ c ≤ 3 ∧ x3 = nI c
  swap
  · rw [m_iL0 0 3 t (by omega) (by decide) g2, gm_some, if_pos rfl, c_sh0 g2, gb_two, if_pos rfl]
    exact Both.same M H O _ rfl rfl
  obtain ⟨k, -, hk3, rfl⟩ := g2
  have hk : k < 4 := by omega
  rw [m_iL1 0 3 t (by omega) hk3 (by decide), gm_some, if_neg n10, c_sh1 hk, gb_two, if_neg n10]
  obtain ⟨f, hd, hp, hh⟩ := H.shs
  obtain ⟨hf, hT, hS⟩ := hh i hi
  obtain ⟨hf', hT', hS'⟩ := hh k hk
  obtain ⟨s1, s2⟩ := M.s i hi
  obtain ⟨s1', s2'⟩ := M.s k hk
  obtain ⟨o1, o2⟩ := O.s i hi
  obtain ⟨o1', o2'⟩ := O.s k hk
  obtain ⟨l1, l2⟩ := lnI_ok o1
  obtain ⟨l1', l2'⟩ := lnI_ok o1'
  have neg : ∀ l, l = 0 → lnI l < 0 := fun l h => by unfold lnI; rw [if_pos h]; decide
  have nneg : ∀ l, l ≠ 0 → l ≤ 4 → ¬ lnI l < 0 := fun l h h4 => by unfold lnI; rw [if_neg h]; exact nI_nn (by omega)
  rw [mald_nI hi (by decide), s1, A_t hob (by decide) rfl, aldA_t hp hi (by decide) hf]
  have npe : ∀ v7 v10 : Option Nat, (v7 = none ∨ v10 = none) → ∀ (FS FI : Option (Int32 × St)) (K : St → Option (Int32 × St)), ccopyT (σ, 0, 0) v7 x2 v10 x4 x5 (fX0_copy_45 ex z (z + (σ, 0, 0).2.1) (xNew z 0 27 (σ, 0, 0))) FS FI K = some (-11, xNew z 0 27 (σ, 0, 0)) := fun v7 v10 h FS FI K => by
    rcases h with rfl | rfl
    · rfl
    · cases v7 <;> rfl
  obtain ⟨HN, KN⟩ := H.xnew 0 (true, .inr (27, []))
  have hn : ∀ fc : Option (Int32 × St), fc = some (-11, xNew z 0 27 (σ, 0, 0)) → Both σ T ex z o a (some (-11, t)) fc := fun fc h => ⟨_, t, W, _, _, 1, 800, rfl, h, M, HN, O, KN.sub (fun _ _ => trivial), by omega, by omega⟩
  rcases hS with ⟨h0, hnul⟩ | ⟨r, y1, y2, y3, y4, y5, y6⟩
  · rw [if_pos (neg _ h0), cgQ_null hnul (by decide) rfl]
    refine hn _ ?_
    rw [A_t hob (by decide) rfl, aldA_t hp hk (by decide) hf']
    rcases hS' with ⟨h0', hnul'⟩ | ⟨r', y1', y2', y3', y4', y5', y6'⟩
    · rw [cgQ_null hnul' (by decide) rfl]; exact npe _ _ (Or.inl rfl) _ _ _
    · rw [cgQ_ref y4' (by decide) rfl]; exact npe _ _ (Or.inl rfl) _ _ _
  have hl0 : W.sl i ≠ 0 := by omega
  rw [if_neg (nneg _ hl0 o1), cgQ_ref y4 (by decide) rfl, mald_nI hk (by decide), s1', A_t hob (by decide) rfl, aldA_t hp hk (by decide) hf']
  rcases hS' with ⟨h0', hnul'⟩ | ⟨r', y1', y2', y3', y4', y5', y6'⟩
  · rw [if_neg (fun g => (l2'.mp g) h0'), cgQ_null hnul' (by decide) rfl]
    exact hn _ (npe _ _ (Or.inr rfl) _ _ _)
  have hl0' : W.sl k ≠ 0 := by omega
  rw [if_pos (l2'.mpr hl0'), cgQ_ref y4' (by decide) rfl, mald_nI hi (by decide), s1, mald_nI hk (by decide), s1', l1 hl0, l1' hl0']
  obtain ⟨hc0, xx0, hx0⟩ := y6.cell
  obtain ⟨hc1, xx1, hx1⟩ := y6'.cell
  by_cases hL : W.sl i = W.sl k
  swap
  · obtain ⟨H2, K2⟩ := H.xnew 2 (true, .inr (31, []))
    rw [if_neg (fun g => hL (by have := congrArg Int32.toInt g; rw [nI_toInt (by omega), nI_toInt (by omega)] at this; omega)), cp_bad hx0 hx1 hc0 hc1 y3 y3' (by omega)]
    exact ⟨_, t, W, _, _, 3, 800, rfl, rfl, M, H2, O, K2.sub (fun _ _ => trivial), by omega, by omega⟩
  rw [if_pos (by rw [hL])]
  obtain ⟨H2, K2⟩ := H.xnew 2 (true, .inr (29, []))
  have oob : ∀ fc : Option (Int32 × St), fc = some (-13, xNew z 2 29 (σ, 0, 0)) → Both σ T ex z o a (some (-13, t)) fc := fun fc h => ⟨_, t, W, _, _, 3, 800, rfl, h, M, H2, O, K2.sub (fun _ _ => trivial), by omega, by omega⟩
  rw [← hL] at hx1 y6'
  by_cases h5 : x5 < 0
  · rw [if_pos h5, cp_oob hx0 hx1 hc0 y3 y3' _ _ _ _ _ (Or.inr (Or.inr (Or.inl h5)))]
    exact oob _ rfl
  obtain ⟨w, hw, rfl⟩ := nI_of h5
  rw [if_neg h5, mald_nI hi (by decide), (s2 hl0).1]
  by_cases h2 : ∃ q, q + w ≤ W.sz i ∧ x2 = nI q
  swap
  · rw [m_cpin0 t y3 hw h2, gm_some, if_pos rfl, cp_oob hx0 hx1 hc0 y3 y3' _ _ _ _ _ (by
      rw [nI_clamp hw]
      rcases cp_out h2 with g | g
      · exact Or.inl g
      · exact Or.inr (Or.inr (Or.inr (Or.inl g))))]
    exact oob _ rfl
  obtain ⟨q, hq, rfl⟩ := h2
  rw [m_cpin1 t y3 hq, gm_some, if_neg n10, mald_nI hk (by decide), (s2' hl0').1]
  by_cases h4 : ∃ q, q + w ≤ W.sz k ∧ x4 = nI q
  swap
  · rw [m_cpin0 t y3' hw h4, gm_some, if_pos rfl, cp_oob hx0 hx1 hc0 y3 y3' _ _ _ _ _ (by
      rw [nI_clamp hw]
      rcases cp_out h4 with g | g
      · exact Or.inr (Or.inl g)
      · exact Or.inr (Or.inr (Or.inr (Or.inr g))))]
    exact oob _ rfl
  obtain ⟨p, hp4, rfl⟩ := h4
  rw [m_cpin1 t y3' hp4, gm_some, if_neg n10]
  obtain ⟨y, c1, c2⟩ := cp_row y6 y6' y3 y3' hq hp4 (fun j hj => by rw [show W.sl i - 1 + 1 = W.sl i by omega]; exact (o2 hl0).2 j hj)
  obtain ⟨t1, m1, m2, m3, m4⟩ := m_cp117 (t0 := t) (i := i) (q := q) (k := k) (p := p) (w := w) hi hk (by omega) (by omega) w 0 1000 t (by omega) (by omega) rfl rfl rfl (fun x hx => by omega)
  have m1' : fX3_copy_117 1000 (nI i) (nI q) (nI k) (nI p) (nI w) 0 t = some (nI w, t1) := m1
  rw [m1', c1]
  have o3 : Ow T (40 + k) σ z (g_u σ r' y) z := Ow.put y5' _
  have K3 := o3.kp0 H.fr
  have hne : hd k ≠ r' := fun g => by rw [← g, hT'] at y5'; omega
  have H3 := H.shput (l := W.sl k) (n := W.sz k) (it := va_cpy (W.it i) (W.it k) q p w) hp hh H.fr (K3.sub (fun q h => h.2)) hk hT' (Or.inr ⟨r', by omega, by omega, y3', (g_u_ne _ _ hne).trans y4', y5', by rw [← hL]; exact c2⟩)
  refine Both.put _ rfl rfl (M.sheets (sl := up W.sl k (W.sl k)) (sz := up W.sz k (W.sz k)) (it := up W.it k (va_cpy (W.it i) (W.it k) q p w)) m2 (fun j _ _ => by rw [m3]) (fun j hj => ?_)) H3 (O.sheets (fun j hj => ?_)) (K3.sub (fun q h => by rw [h]; omega))
  · rw [m3]
    by_cases hjk : j = k
    · subst hjk
      rw [up_self, up_self, up_self]
      refine ⟨s1', fun g => ⟨(s2' g).1, fun c hc => ?_⟩⟩
      rw [m4]
      unfold va_cpy
      by_cases hb : p ≤ c ∧ c < p + w
      · rw [if_pos (by omega), if_pos hb, ← (s2 hl0).2 (q + (c - p)) (by omega)]
        congr 1; omega
      · rw [if_neg (by omega), if_neg hb]; exact (s2' g).2 c hc
    · rw [up_ne _ _ hjk, up_ne _ _ hjk, up_ne _ _ hjk]
      refine ⟨(M.s j hj).1, fun g => ⟨((M.s j hj).2 g).1, fun c hc => ?_⟩⟩
      have := ((O.s j hj).2 g).1
      rw [m4, if_neg (by omega)]
      exact ((M.s j hj).2 g).2 c hc
  · by_cases hjk : j = k
    · subst hjk
      rw [up_self, up_self, up_self]
      refine ⟨o1', fun _ => ⟨y3', fun c hc => ?_⟩⟩
      unfold va_cpy
      by_cases hb : p ≤ c ∧ c < p + w
      · rw [if_pos hb, ← hL]; exact (o2 hl0).2 _ (by omega)
      · rw [if_neg hb]; exact (o2' hl0').2 c hc
    · rw [up_ne _ _ hjk, up_ne _ _ hjk, up_ne _ _ hjk]; exact O.s j hj
end S9v
