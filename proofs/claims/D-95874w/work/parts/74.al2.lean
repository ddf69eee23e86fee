/-! LISTS: remove, clear, addAll -/
set_option maxRecDepth 100000
theorem liC_set0 (mc mc' : Int32) (e n : Nat) : (true, Sum.inr (15, [Value.int mc, Value.ref e, Value.int (nI n)].set 0 (.int mc'))) = liC mc' e n := rfl
theorem liC_set2 (mc : Int32) (e n n' : Nat) : (true, Sum.inr (15, [Value.int mc, Value.ref e, Value.int (nI n)].set 2 (.int (nI n')))) = liC mc e n' := rfl
section L2
variable {ex : Nat → Option Nat} {z : Nat} {T : Nat → Nat} {k l e n : Nat} {g : Nat → Nat} {σ : Sg}
theorem fJ2_34 {mc : Int32} {m cap : Nat} {f : Nat → Option Nat} (hl : σ l = some (liC mc e n)) (he : σ e = some (oaC true cap f)) (hm : m < cap) (hc : cap ≤ 300) {c : Nat × Nat} : fJ2_fastRemove_34 ex z l e (nI m) (σ, c) = some ((), (g_u (g_u σ l (liC mc e m)) e (oaC true cap (va_up f m none)), c)) := by
  have hle : l ≠ e := by intro x; rw [x, he] at hl; simp [oaC, liC] at hl
  unfold fJ2_fastRemove_34
  rw [P_t hl (by decide) (by show 2 < 3; decide), liC_set2]
  have he' : (g_u σ l (liC mc e m)) e = some (oaC true cap f) := (g_u_ne _ _ hle.symm).trans he
  rw [astN_t he' hm (by omega)]
  rfl
/-- what is left when the one at i goes -/
def drp (g : Nat → Nat) (i : Nat) : Nat → Nat := fun j => if j < i then g j else g (j + 1)
theorem al_remove (H : AL σ T k ex l e n g) (E : El σ g n) {i : Nat} (hi : i < n) (hn : n ≤ 160) {c : Nat × Nat} : ∃ σ', fJ2_remove ex z l (nI i) (σ, c) = some (g i, (σ', c)) ∧ AL σ' T k ex l e (n - 1) (drp g i) ∧ Ow T k σ z σ' z ∧ ∀ q, q ≠ l → q ≠ e → σ' q = σ q := by
  have hle := al_le H
  obtain ⟨h1, h2, mc, cap, f, hl, he, hm, hc', hnc, hf⟩ := al_case H (by omega)
  obtain ⟨c1, c2⟩ := c
  unfold fJ2_remove
  rw [I_t hl (by decide) rfl, ck_idx hi (by omega), gb_two, A_t hl (by decide) rfl, aldA_t he (by omega) (by omega) (hf i hi), X_t hl (by decide)]
  unfold fJ2_fastRemove
  rw [I_t hl (by decide) rfl, P_t hl (by decide) (by show 0 < 3; decide), liC_set0]
  have Hl1 : (g_u σ l (liC (mc + 1) e n)) l = some (liC (mc + 1) e n) := g_u_self _ _ _
  have He1 : (g_u σ l (liC (mc + 1) e n)) e = some (oaC true cap f) := (g_u_ne _ _ hle.symm).trans he
  have hE1 : ∀ j, j < n → ∃ fl ci fs, (g_u σ l (liC (mc + 1) e n)) (g j) = some (fl, .inr (ci, fs)) ∧ ci ∈ csL := by
    intro j hj
    obtain ⟨a, b, c, q1, q2⟩ := E j hj
    by_cases hq : g j = l
    · rw [hq] at q1
      rw [hl] at q1
      simp only [liC, Option.some.injEq, Prod.mk.injEq, Sum.inr.injEq] at q1
      rw [← q1.2.1] at q2
      exact absurd q2 (by decide)
    · exact ⟨a, b, c, (g_u_ne _ _ hq).trans q1, q2⟩
  have eo : ∀ q, q ≠ l → (g_u σ l (liC (mc + 1) e n)) q = σ q := fun q hq => g_u_ne _ _ hq
  rw [I_t Hl1 (by decide) rfl, nI_sub1 (by omega)]
  simp only [lt]
  generalize g_u σ l (liC (mc + 1) e n) = σ1 at Hl1 He1 hE1 eo ⊢
  rw [ifle i rfl rfl (by omega) (by omega)]
  by_cases hlast : n - 1 ≤ i
  · rw [if_pos hlast, fJ2_34 Hl1 He1 (by omega) (by omega)]
    simp only [gb_app, Nat.add_zero]
    refine ⟨_, rfl, ⟨h1, ⟨mc + 1, (g_u_ne _ _ hle).trans (g_u_self _ _ _)⟩, Or.inr ⟨h2, cap, _, g_u_self _ _ _, hm, hc', by omega, fun j hj => ?_⟩⟩, ⟨Nat.le_refl z, fun q hq _ => ?_⟩, fun q x1 x2 => ?_⟩
    · unfold va_up drp
      rw [if_neg (by omega), if_pos (by omega)]
      exact hf j (by omega)
    · have hql : q ≠ l := fun x => hq (x ▸ h1)
      rw [g_u_ne _ _ (fun x : q = e => hq (x ▸ h2)), g_u_ne _ _ hql, eo q hql]
    · rw [g_u_ne _ _ x2, g_u_ne _ _ x1, eo q x1]
  · rw [if_neg hlast, nI_1, nI_sub (by omega), cpQ_t He1 He1 (by omega) (by omega) (by omega) (by omega) (fun j hj => by
      obtain ⟨a, b, c, q1, q2⟩ := hE1 (i + 1 + j) (by omega)
      exact cisA_of (hf _ (by omega)) q1 q2)]
    have He2 : (g_u σ1 e (oaC true cap (va_cpy f f (i + 1) i (n - 1 - i)))) e = some (oaC true cap (va_cpy f f (i + 1) i (n - 1 - i))) := g_u_self _ _ _
    have Hl2 : (g_u σ1 e (oaC true cap (va_cpy f f (i + 1) i (n - 1 - i)))) l = some (liC (mc + 1) e n) := (g_u_ne _ _ hle).trans Hl1
    have e3 : ∀ (zz : Nat), fJ2_fastRemove_34 ex zz l e (nI (n - 1)) (g_u σ1 e (true, Sum.inl (4, cap, Sum.inr (Sum.inr (Sum.inr (Sum.inr (va_cpy f f (i + 1) i (n - 1 - i))))))), 0, 0) = some ((), (g_u (g_u (g_u σ1 e (oaC true cap (va_cpy f f (i + 1) i (n - 1 - i)))) l (liC (mc + 1) e (n - 1))) e (oaC true cap (va_up (va_cpy f f (i + 1) i (n - 1 - i)) (n - 1) none)), (0, 0))) := fun zz => fJ2_34 (z := zz) Hl2 He2 (by omega) (by omega)
    rw [e3]
    simp only [gb_app, Nat.add_zero]
    refine ⟨_, rfl, ⟨h1, ⟨mc + 1, (g_u_ne _ _ hle).trans (g_u_self _ _ _)⟩, Or.inr ⟨h2, cap, _, g_u_self _ _ _, hm, hc', by omega, fun j hj => ?_⟩⟩, ⟨Nat.le_refl z, fun q hq _ => ?_⟩, fun q x1 x2 => ?_⟩
    · unfold va_up drp va_cpy
      rw [if_neg (by omega)]
      by_cases hji : j < i
      · rw [if_neg (by omega), if_pos hji]
        exact hf j (by omega)
      · rw [if_pos (by omega), if_neg hji, show i + 1 + (j - i) = j + 1 by omega]
        exact hf (j + 1) (by omega)
    · have hql : q ≠ l := fun x => hq (x ▸ h1)
      have hqe : q ≠ e := fun x => hq (x ▸ h2)
      rw [g_u_ne _ _ hqe, g_u_ne _ _ hql, g_u_ne _ _ hqe, eo q hql]
    · rw [g_u_ne _ _ x2, g_u_ne _ _ x1, g_u_ne _ _ x2, eo q x1]
theorem fJ2_27 {m cap : Nat} (hc : cap ≤ 300) (hm : m ≤ cap) : ∀ (j i fuel : Nat) (σ : Sg) (f : Nat → Option Nat) (c : Nat × Nat), i + j = m → j < fuel → σ e = some (oaC true cap f) → ∃ f', fJ2_clear_27 ex z fuel e (nI m) (nI i) (σ, c) = some ((), (g_u σ e (oaC true cap f'), c))
  | 0, i, fuel, σ, f, c, hj, hf, he => by
    obtain ⟨x, rfl⟩ : ∃ x, fuel = x + 1 := ⟨fuel - 1, by omega⟩
    obtain rfl : i = m := by omega
    rw [fJ2_clear_27, if_pos (nI_le (Nat.le_refl _) (by omega))]
    refine ⟨f, ?_⟩
    have : g_u σ e (oaC true cap f) = σ := by
      funext q; unfold g_u; split
      · rename_i h; rw [h, he]
      · rfl
    rw [this]
  | j + 1, i, fuel, σ, f, c, hj, hf, he => by
    obtain ⟨x, rfl⟩ : ∃ x, fuel = x + 1 := ⟨fuel - 1, by omega⟩
    rw [fJ2_clear_27, if_neg (nI_ge (by omega) (by omega)), astN_t he (by omega) (by omega), nI_1]
    obtain ⟨f', r⟩ := fJ2_27 hc hm j (i + 1) x _ _ c (by omega) (by omega) (g_u_self σ e (oaC true cap (va_up f i none)))
    refine ⟨f', ?_⟩
    rw [g_u_twice] at r
    exact r
theorem al_clear (H : AL σ T k ex l e n g) (hn : n ≤ 300) {c : Nat × Nat} : ∃ σ', fJ2_clear ex z l (σ, c) = some ((), (σ', c)) ∧ (∀ g', AL σ' T k ex l e 0 g') ∧ Ow T k σ z σ' z ∧ ∀ q, q ≠ l → (q ≠ e ∨ n = 0) → σ' q = σ q := by
  have hle := al_le H
  obtain ⟨h1, ⟨mc, hl⟩, h⟩ := H
  unfold fJ2_clear
  rw [I_t hl (by decide) rfl, P_t hl (by decide) (by show 0 < 3; decide), liC_set0]
  have Hl1 : (g_u σ l (liC (mc + 1) e n)) l = some (liC (mc + 1) e n) := g_u_self _ _ _
  rw [A_t Hl1 (by decide) rfl, I_t Hl1 (by decide) rfl, P_t Hl1 (by decide) (by show 2 < 3; decide), ilit 0, liC_set2, g_u_twice]
  have eo : ∀ q, q ≠ l → (g_u σ l (liC (mc + 1) e 0)) q = σ q := fun q hq => g_u_ne _ _ hq
  have Hl2 : (g_u σ l (liC (mc + 1) e 0)) l = some (liC (mc + 1) e 0) := g_u_self _ _ _
  generalize g_u σ l (liC (mc + 1) e 0) = σ1 at eo Hl2 ⊢
  rcases h with ⟨he0, rfl, hT, b, f, he⟩ | ⟨h2, cap, f, he, hm, hc, hnc, hf⟩
  · rw [fJ2_clear_27, if_pos (nI_le (Nat.le_refl _) (by omega))]
    refine ⟨σ1, rfl, fun g' => ⟨h1, ⟨mc + 1, Hl2⟩, Or.inl ⟨he0, rfl, hT, b, f, (eo e hle.symm).trans he⟩⟩, ⟨Nat.le_refl z, fun q hq _ => eo q (fun x => hq (x ▸ h1))⟩, fun q x _ => eo q x⟩
  · obtain ⟨f', r⟩ := fJ2_27 (ex := ex) (z := z) (e := e) hc hnc n 0 1000 σ1 f c (by omega) (by omega) ((eo e hle.symm).trans he)
    refine ⟨_, r, fun g' => ⟨h1, ⟨mc + 1, (g_u_ne _ _ hle).trans Hl2⟩, Or.inr ⟨h2, cap, f', g_u_self _ _ _, hm, hc, by omega, fun i hi => by omega⟩⟩, ⟨Nat.le_refl z, fun q hq _ => ?_⟩, fun q x y => ?_⟩
    · rw [g_u_ne _ _ (fun x : q = e => hq (x ▸ h2)), eo q (fun x => hq (x ▸ h1))]
    · by_cases hqe : q = e
      · subst hqe
        have hn0 : n = 0 := y.resolve_left (fun x => x rfl)
        subst hn0
        rw [fJ2_clear_27, if_pos (nI_le (Nat.le_refl _) (by omega))] at r
        simp only [Option.some.injEq, Prod.mk.injEq, true_and] at r
        rw [← r.1]
        exact eo q x
      · rw [g_u_ne _ _ hqe, eo q x]
theorem al_ez (H : AL σ T k ex l e n g) (F : Fre T z) (hk : k ≠ 0) : e < z := by
  rcases H.2.2 with ⟨-, -, h, -⟩ | ⟨h, -⟩
  · exact F.lt h (by decide)
  · exact F.lt h hk
theorem al_arr (H : AL σ T k ex l e n g) : ∃ b cap f, σ e = some (oaC b cap f) ∧ cap ≤ 300 ∧ n ≤ cap ∧ ∀ i, i < n → f i = some (g i) := by
  rcases H.2.2 with ⟨-, h0, -, b, f, h⟩ | ⟨-, cap, f, h, -, h2, h3, h4⟩
  · exact ⟨b, 0, f, h, by omega, by omega, fun i hi => by omega⟩
  · exact ⟨true, cap, f, h, h2, h3, h4⟩
/-- all of another list come into an empty one -/
theorem al_addAll {j l2 e2 m : Nat} {g2 : Nat → Nat} (H : AL σ T k ex l e 0 g) (H2 : AL σ T j ex l2 e2 m g2) (F : Fre T z) (hk : k ≠ 0) (hj : j ≠ 0) (hkj : k ≠ j) (hk9 : k ≠ 99) (E : El σ g2 m) (hgz : ∀ i, i < m → g2 i < z) (hm : m ≤ 10) : ∃ σ' e' dc ds r, fJ2_addAll ex z l l2 (σ, 0, 0) = some (r, (σ', dc, ds)) ∧ AL σ' (ext T z (z + dc) k) k ex l e' m g2 ∧ Ow T k σ z σ' (z + dc) ∧ dc ≤ 2 ∧ ds ≤ 20 := by
  have hlz : l < z := F.lt H.1 hk
  have hl2z : l2 < z := F.lt H2.1 hj
  have hez := al_ez H F hk
  have he2z := al_ez H2 F hj
  have hle := al_le H
  have hTl := H.1
  have hll : l ≠ l2 := fun x => hkj (hTl.symm.trans (x ▸ H2.1))
  obtain ⟨mc, hl⟩ := H.2.1
  obtain ⟨mc2, hl2⟩ := H2.2.1
  obtain ⟨b2, cap2, f2, he2, hc2, hm2, hf2⟩ := al_arr H2
  unfold fJ2_addAll fJ2_toArray
  simp only [Nat.add_zero]
  rw [X_t hl2 (by decide), A_t hl2 (by decide) rfl, I_t hl2 (by decide) rfl, c_copyOf he2 he2z hc2 (by omega) (n := m) (by split <;> omega) hf2 E hgz]
  simp only [gb_app, Nat.zero_add]
  have eC : ∃ fC, oaC true m (va_cpy f2 (fun x => none) 0 0 (if m < cap2 then m else cap2)) = oaC true m fC ∧ ∀ i, i < m → fC i = some (g2 i) := ⟨_, rfl, fun i hi => by rw [va_cpy_in _ _ (by split <;> omega)]; exact hf2 i hi⟩
  obtain ⟨fC, eC, hfC⟩ := eC
  rw [eC]
  have Hl1 : (g_u σ z (oaC true m fC)) l = some (liC mc e 0) := (g_u_ne _ _ (by omega)).trans hl
  rw [I_t Hl1 (by decide) rfl, P_t Hl1 (by decide) (by show 0 < 3; decide), liC_set0]
  have Hl2 : (g_u (g_u σ z (oaC true m fC)) l (liC (mc + 1) e 0)) l = some (liC (mc + 1) e 0) := g_u_self _ _ _
  have Hz2 : (g_u (g_u σ z (oaC true m fC)) l (liC (mc + 1) e 0)) z = some (oaC true m fC) := (g_u_ne _ _ (by omega)).trans (g_u_self _ _ _)
  have eo : ∀ q, q ≠ l → q ≠ z → (g_u (g_u σ z (oaC true m fC)) l (liC (mc + 1) e 0)) q = σ q := fun q h1 h2 => (g_u_ne _ _ h1).trans (g_u_ne _ _ h2)
  generalize g_u (g_u σ z (oaC true m fC)) l (liC (mc + 1) e 0) = σ1 at Hl2 Hz2 eo ⊢
  have hE1 : ∀ i, i < m → ∃ fl ci fs, σ1 (g2 i) = some (fl, .inr (ci, fs)) ∧ ci ∈ csL := by
    intro i hi
    obtain ⟨a, b, c, q1, q2⟩ := E i hi
    have := hgz i hi
    by_cases hq : g2 i = l
    · rw [hq] at q1
      rw [hl] at q1
      simp only [liC, Option.some.injEq, Prod.mk.injEq, Sum.inr.injEq] at q1
      rw [← q1.2.1] at q2
      exact absurd q2 (by decide)
    · exact ⟨a, b, c, (eo _ hq (by omega)).trans q1, q2⟩
  rw [len_t Hz2 (by decide)]
  by_cases hm0 : m = 0
  · subst hm0
    rw [if_pos (show nI 0 = (0 : Int32) from rfl)]
    refine ⟨σ1, e, 1, 0, 0, rfl, ⟨by rw [ext_old hlz]; exact hTl, ⟨mc + 1, Hl2⟩, ?_⟩, ⟨by omega, fun q hq hz => eo q (fun x => hq (x ▸ hTl)) (by omega)⟩, by omega, by omega⟩
    rw [ext_old hez, eo e hle.symm (by omega)]
    rcases H.2.2 with h | ⟨h1, cap, f, h2, h3, h4, h5, h6⟩
    · exact Or.inl h
    · exact Or.inr ⟨h1, cap, f, h2, h3, h4, by omega, fun i hi => by omega⟩
  · rw [if_neg (nI_ne0 (by omega) (by omega)), A_t Hl2 (by decide) rfl]
    rcases H.2.2 with ⟨he0, -, hT, b, f, he⟩ | ⟨h1, cap, f, he, h3, h4, h5, h6⟩
    · have he' : σ1 e = some (oaC b 0 f) := (eo e hle.symm (by omega)).trans he
      rw [len_t he' (by decide), I_t Hl2 (by decide) rfl, nI_sub (Nat.le_refl 0), if_neg (by
        intro x
        have := (nI_leI (by omega) (by omega)).mp x
        omega), X_t Hl2 (by decide)]
      unfold fJ2_grow_2
      simp only [Nat.add_zero]
      rw [A_t Hl2 (by decide) rfl, len_t he' (by decide), if_neg (by decide), A_t Hl2 (by decide) rfl, if_pos he0, nI_add, ilit 10, c_max (by decide) (by omega), if_neg (by omega)]
      simp only [gb_app, Nat.add_zero]
      rw [newa_t (by decide)]
      simp only [Nat.add_zero]
      have Hl3 : (g_u σ1 (z + 1) (true, Sum.inl (4, cz0 4 10))) l = some (liC (mc + 1) e 0) := (g_u_ne _ _ (by omega)).trans Hl2
      rw [P_t Hl3 (by decide) (by show 1 < 3; decide)]
      simp only [gb_app, Nat.add_zero, Nat.zero_add]
      have Hl4 : (g_u (g_u σ1 (z + 1) (true, Sum.inl (4, cz0 4 10))) l (true, Sum.inr (15, [Value.int (mc + 1), Value.ref e, Value.int (nI 0)].set 1 (Value.ref (z + 1))))) l = some (liC (mc + 1) (z + 1) 0) := g_u_self _ _ _
      have Ha4 : (g_u (g_u σ1 (z + 1) (true, Sum.inl (4, cz0 4 10))) l (true, Sum.inr (15, [Value.int (mc + 1), Value.ref e, Value.int (nI 0)].set 1 (Value.ref (z + 1))))) (z + 1) = some (oaC true 10 (fun _ => none)) := (g_u_ne _ _ (by omega)).trans (g_u_self _ _ _)
      have eo4 : ∀ q, q ≠ l → q ≠ z + 1 → (g_u (g_u σ1 (z + 1) (true, Sum.inl (4, cz0 4 10))) l (true, Sum.inr (15, [Value.int (mc + 1), Value.ref e, Value.int (nI 0)].set 1 (Value.ref (z + 1))))) q = σ1 q := fun q h1 h2 => (g_u_ne _ _ h1).trans (g_u_ne _ _ h2)
      generalize (g_u (g_u σ1 (z + 1) (true, Sum.inl (4, cz0 4 10))) l (true, Sum.inr (15, [Value.int (mc + 1), Value.ref e, Value.int (nI 0)].set 1 (Value.ref (z + 1))))) = σ2 at Hl4 Ha4 eo4 ⊢
      have Hz4 : σ2 z = some (oaC true m fC) := (eo4 z (by omega) (by omega)).trans Hz2
      unfold fJ2_addAll_56
      rw [ilit 0, cpQ_t Hz4 Ha4 (by omega) (by omega) (by omega) (by omega) (fun i hi => by
        obtain ⟨a, b, c, q1, q2⟩ := hE1 i hi
        have := hgz i hi
        by_cases hq : g2 i = l
        · rw [hq] at q1
          rw [Hl2] at q1
          simp only [liC, Option.some.injEq, Prod.mk.injEq, Sum.inr.injEq] at q1
          rw [← q1.2.1] at q2
          exact absurd q2 (by decide)
        · exact cisA_of (hfC _ (by omega)) (by rw [Nat.zero_add]; exact (eo4 _ hq (by omega)).trans q1) q2)]
      have Hl5 : (g_u σ2 (z + 1) (true, Sum.inl (4, 10, Sum.inr (Sum.inr (Sum.inr (Sum.inr (va_cpy fC (fun _ => none) 0 0 m))))))) l = some (liC (mc + 1) (z + 1) 0) := (g_u_ne _ _ (by omega)).trans Hl4
      rw [P_t Hl5 (by decide) (by show 2 < 3; decide), nI_add, Nat.zero_add]
      refine ⟨_, z + 1, 2, m + 10, 1, rfl, ⟨by rw [ext_old hlz]; exact hTl, ⟨mc + 1, g_u_self _ _ _⟩, Or.inr ⟨ext_in (by omega) (by omega), 10, _, (g_u_ne _ _ (by omega)).trans (g_u_self _ _ _), by omega, by omega, by omega, fun i hi => ?_⟩⟩, ⟨by omega, fun q hq hz => ?_⟩, by omega, by omega⟩
      · rw [va_cpy_in _ _ hi]; exact hfC i hi
      · have hql : q ≠ l := fun x => hq (x ▸ hTl)
        rw [g_u_ne _ _ hql, g_u_ne _ _ (by omega), eo4 q hql (by omega), eo q hql (by omega)]
    · have he' : σ1 e = some (oaC true cap f) := (eo e hle.symm (by omega)).trans he
      rw [len_t he' (by decide), I_t Hl2 (by decide) rfl, nI_sub (by omega), if_pos ((nI_leI (by omega) (by omega)).mpr (by omega))]
      unfold fJ2_addAll_56
      rw [ilit 0, cpQ_t Hz2 he' (by omega) (by omega) (by omega) (by omega) (fun i hi => by
        obtain ⟨a, b, c, q1, q2⟩ := hE1 i hi
        exact cisA_of (hfC _ (by omega)) (by rw [Nat.zero_add]; exact q1) q2)]
      have Hl5 : (g_u σ1 e (true, Sum.inl (4, cap, Sum.inr (Sum.inr (Sum.inr (Sum.inr (va_cpy fC f 0 0 m))))))) l = some (liC (mc + 1) e 0) := (g_u_ne _ _ hle).trans Hl2
      rw [P_t Hl5 (by decide) (by show 2 < 3; decide), nI_add, Nat.zero_add]
      refine ⟨_, e, 1, m, 1, rfl, ⟨by rw [ext_old hlz]; exact hTl, ⟨mc + 1, g_u_self _ _ _⟩, Or.inr ⟨by rw [ext_old hez]; exact h1, cap, _, (g_u_ne _ _ hle.symm).trans (g_u_self _ _ _), h3, h4, by omega, fun i hi => ?_⟩⟩, ⟨by omega, fun q hq hz => ?_⟩, by omega, by omega⟩
      · rw [va_cpy_in _ _ hi]; exact hfC i hi
      · have hql : q ≠ l := fun x => hq (x ▸ hTl)
        rw [g_u_ne _ _ hql, g_u_ne _ _ (fun x : q = e => hq (x ▸ h1)), eo q hql (by omega)]
end L2
