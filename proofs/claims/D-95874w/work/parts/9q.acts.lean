/-! acts of a day: tight bounds, and what they leave alone -/
set_option maxRecDepth 100000
def kS (i : Nat) : Prop := i = 50 ∨ i = 10 ∨ i = 21
theorem kS2 : ∀ i, kS i → i ≠ 2 := fun i h g => by rcases h with h | h | h <;> omega
theorem kS6 : ∀ i, kS i → i ≠ 6 := fun i h g => by rcases h with h | h | h <;> omega
def BothS (σ : Sg) (T : Nat → Nat) (ex : Nat → Option Nat) (z o : Nat) (a : Nat → Nat) (t : MS) (fm : Option (Int32 × MS)) (fc : Option (Int32 × St)) : Prop := ∃ v t' W' σ' T' dc ds, fm = some (v, t') ∧ fc = some (v, (σ', dc, ds)) ∧ MW t' (W'.s_tn 0) ∧ CW σ' T' ex (z + dc) o a W' ∧ W'.OK ∧ Kp T σ T' σ' kS ∧ dc ≤ 10 ∧ ds ≤ 400 ∧ t'.2.1 8 = t.2.1 8
section O9q
variable {t t' : MS} {W : Wv} {σ σ' : Sg} {T : Nat → Nat} {ex : Nat → Option Nat} {z o : Nat} {a : Nat → Nat}
theorem BothS.same {fm : Option (Int32 × MS)} {fc : Option (Int32 × St)} (M : MW t (W.s_tn 0)) (H : CW σ T ex z o a W) (O : W.OK) (v : Int32) (h1 : fm = some (v, t)) (h2 : fc = some (v, (σ, 0, 0))) : BothS σ T ex z o a t fm fc := ⟨v, t, W, σ, T, 0, 0, h1, h2, M, H, O, Kp.rf _ _ _, by omega, by omega, rfl⟩
theorem BothS.put {fm : Option (Int32 × MS)} {fc : Option (Int32 × St)} {W' : Wv} (v : Int32) (h1 : fm = some (v, t')) (h2 : fc = some (v, (σ', 0, 0))) (M : MW t' (W'.s_tn 0)) (H : CW σ' T ex z o a W') (O : W'.OK) (k : Kp T σ T σ' kS) (h8 : t'.2.1 8 = t.2.1 8) : BothS σ T ex z o a t fm fc := ⟨v, t', W', σ', T, 0, 0, h1, h2, M, H, O, k, by omega, by omega, h8⟩
theorem bs_hour (M : MW t (W.s_tn 0)) (H : CW σ T ex z o a W) (O : W.OK) : BothS σ T ex z o a t (fX3_hour t) (fX0_hour ex z o (σ, 0, 0)) := by
  have Mc : MCo t W.C := M.c
  obtain ⟨A, hA, R⟩ := H.race
  obtain ⟨at_, hob⟩ := H.obj
  have B := O.ba
  have hnow := O.c.now
  unfold fX3_hour fX0_hour
  rw [ilit 60, mald_nI (by decide) (by decide), Mc.r.1.now, A_t hob (by decide) rfl, ← hA, I_t R.1.ra (by decide) rfl, ifl 9999 (by omega) (by decide), ifl 9999 (by omega) (by decide)]
  by_cases h : W.C.R.now = 9999
  · rw [if_pos h, if_pos h]
    exact BothS.same M H O _ rfl rfl
  · rw [if_neg h, if_neg h, m_skyNow Mc.r.1 B M.sky, gm_some]
    obtain ⟨t1, q1, q2, q3⟩ := m_goOn Mc.r O.c.r (by omega) (Rc.sky_lt B)
    obtain ⟨σ1, p1, p2, p3⟩ := rt_go (z := z) R O.c.r (Rc.sky_lt B) (Rc.sky_of W.C.R) (c := (0, 0))
    have q1' : fX3_goOn (nI (W.C.R.sk (W.C.R.now % W.C.R.mn))) t = some (nI (W.C.R.goN W.C.R.sky), t1) := q1
    simp only [Nat.add_zero]
    rw [q1', gm_some, A_t hob (by decide) rfl, ← hA, X_t R.1.ra (by decide), p1, gb_app]
    have k := Rc.go_keep W.C.R W.C.R.sky
    exact BothS.put (W' := W.s_C (W.C.s_R (W.C.R.go W.C.R.sky))) _ rfl rfl (M.race (R' := W.C.R.go W.C.R.sky) q3 q2) (H.rc0 hA p2 p3) (O.race (Rc.go_OK O.c.r (by omega) _) (by rw [k.2.2.2.2.1]; omega) k.1 k.2.1) ((p3.kp0 H.fr).sub kS2) (q3.2.1 8 (by decide))
theorem bs_wind (M : MW t (W.s_tn 0)) (H : CW σ T ex z o a W) (O : W.OK) (x1 x2 : Int32) : BothS σ T ex z o a t (fX3_wind x1 x2 t) (fX0_wind ex z o x1 x2 (σ, 0, 0)) := by
  have Mc : MCo t W.C := M.c
  obtain ⟨at_, hob⟩ := H.obj
  have hn := O.n
  unfold fX3_wind fX0_wind
  rw [X_t hob (by decide)]
  by_cases h : ∃ i, i < W.C.R.n ∧ x1 = nI i
  · obtain ⟨i, hi, rfl⟩ := h
    rw [m_clk1 M O.tn0 hi, gm_some, if_neg n10, c_clk1 H O hi, gb_two, if_neg n10]
    by_cases h : ∃ c, 1 ≤ c ∧ c ≤ 99 ∧ x2 = nI c
    · obtain ⟨v, hv0, hv, rfl⟩ := h
      have hs := O.ba.s i hi
      have O1 : (W.s_C (W.C.note 0 i (W.C.R.s i))).OK := O.note (Or.inl ⟨rfl, hi, by omega, by omega⟩)
      have O2 := Rc.wnd_OK O.c.r i v
      obtain ⟨t1, q1, q2, q3, q4⟩ := m_note Mc O.c.un 0 i (W.C.R.s i)
      have M1 := M.note q2 q3 q4
      obtain ⟨t2, r1, r2, r3⟩ := m_addSpring (n := v) M1.c.r O.ba (c := i) hi (by omega)
      have M2 := M1.race r3 r2
      have q1' : fX3_note 0 (nI i) (nI (W.C.R.s i)) t = some ((), t1) := by rw [nI_ofInt (W.C.R.s i)]; exact q1
      rw [m_iL1 1 99 t hv0 hv (by decide), gm_some, if_neg n10, c_iL1 1 99 _ hv0 hv (by decide), gb_two, if_neg n10, ilit 33, nI_add, mald_nI (by omega) (by decide), Mc.r.1.s i hi, q1', gm_some, r1, gm_some, mald_nI (by omega) (by decide), r2.1.s i hi, new_t]
      simp only [Nat.add_zero, Nat.zero_add]
      have H1 := H.made (unC o 0 i (W.C.R.s i))
      have K1 := Kp.make (T := T) (σ := σ) H.fr 20 (unC o 0 i (W.C.R.s i))
      have hv1 : (g_u σ z (unC o 0 i (W.C.R.s i))) z = some (unC o 0 i (W.C.R.s i)) := g_u_self _ _ _
      have hTz : ext T z (z + 1) 20 z = 20 := ext_in (Nat.le_refl _) (by omega)
      rw [c_i18 H O hi, gb_z, X_t hv1 (by decide)]
      generalize g_u σ z (unC o 0 i (W.C.R.s i)) = σ1 at H1 K1 hv1 ⊢
      generalize ext T z (z + 1) 20 = T1 at H1 K1 hTz
      obtain ⟨σ2, T2, dc, ds, p1, p2, p3, p4, p5⟩ := c_kept H1 O hv1 hTz
      obtain ⟨at2, hob2⟩ := p2.obj
      obtain ⟨A2, hA2, R2⟩ := p2.race
      obtain ⟨σ3, w1, w2, w3⟩ := rt_winds (n := v) (z := z + 1 + dc) R2 O.ba (c := i) hi (by omega)
      have p3' := p2.rc0 hA2 w2 w3
      obtain ⟨at3, hob3⟩ := p3'.obj
      have hck : σ3 (A2.ca i) = some (ckC (W.C.R.wnd i v) i) := w2.1.ck i hi
      rw [p1, gb_app, A_t hob2 (by decide) rfl, ← hA2, X_t R2.1.ra (by decide), c_clock (t := (σ2, 0, 0)) R2.1 O.ba hi, gb_two, X_t (R2.1.ck i hi) (kin (O.ba.k i hi)), w1, gb_z, A_t hob3 (by decide) rfl, ← hA2, X_t w2.1.ra (by decide), c_clock (t := (σ3, 0, 0)) w2.1 O2.b hi, gb_two, I_t hck (kin (O2.b.k i hi)) rfl]
      refine ⟨_, t2, (W.s_C (W.C.note 0 i (W.C.R.s i))).s_C ((W.C.note 0 i (W.C.R.s i)).s_R (W.C.R.wnd i v)), σ3, T2, 1 + dc, 4 + ds, rfl, rfl, M2, ?_, O1.race O2 O.c.now rfl rfl, ?_, by omega, by omega, ?_⟩
      · rw [← Nat.add_assoc]; exact p3'
      · exact ((K1.sub (fun _ _ => trivial)).tr (p3.sub kS6)).tr ((w3.kp0 p2.fr).sub kS2)
      · rw [r3.2.1 8 (by decide), q2.2.1 8 (by decide)]
    · rw [m_iL0 1 99 t (by omega) (by decide) h, gm_some, if_pos rfl, c_iL0 1 99 _ (by omega) (by decide) h, gb_two, if_pos rfl]
      exact BothS.same M H O _ rfl rfl
  · rw [m_clk0 M O.tn0 h, gm_some, if_pos rfl, c_clk0 H O h, gb_two, if_pos rfl]
    exact BothS.same M H O _ rfl rfl
theorem bs_turn (M : MW t (W.s_tn 0)) (H : CW σ T ex z o a W) (O : W.OK) (x1 x2 : Int32) : BothS σ T ex z o a t (fX3_turn x1 x2 t) (fX0_turn ex z o x1 x2 (σ, 0, 0)) := by
  have Mc : MCo t W.C := M.c
  obtain ⟨at_, hob⟩ := H.obj
  have hn := O.n
  unfold fX3_turn fX0_turn
  rw [X_t hob (by decide)]
  by_cases h : ∃ i, i < W.C.R.n ∧ x1 = nI i
  · obtain ⟨i, hi, rfl⟩ := h
    rw [m_clk1 M O.tn0 hi, gm_some, if_neg n10, c_clk1 H O hi, gb_two, if_neg n10]
    by_cases h : ∃ c, 1 ≤ c ∧ c ≤ 719 ∧ x2 = nI c
    · obtain ⟨v, hv0, hv, rfl⟩ := h
      have hs := O.ba.h i hi
      have O1 : (W.s_C (W.C.note 1 i (W.C.R.h i))).OK := O.note (Or.inr (Or.inl ⟨rfl, hi, by omega, by omega⟩))
      have O2 := Rc.trn_OK O.c.r i v
      obtain ⟨t1, q1, q2, q3, q4⟩ := m_note Mc O.c.un 1 i (W.C.R.h i)
      have M1 := M.note q2 q3 q4
      obtain ⟨t2, r1, r2, r3⟩ := m_addHands (n := v) M1.c.r O.ba (c := i) hi (by omega)
      have M2 := M1.race r3 r2
      have q1' : fX3_note 1 (nI i) (nI (W.C.R.h i)) t = some ((), t1) := by rw [nI_ofInt (W.C.R.h i)]; exact q1
      rw [m_iL1 1 719 t hv0 hv (by decide), gm_some, if_neg n10, c_iL1 1 719 _ hv0 hv (by decide), gb_two, if_neg n10, ilit 24, nI_add, mald_nI (by omega) (by decide), Mc.r.1.h i hi, q1', gm_some, r1, gm_some, mald_nI (by omega) (by decide), r2.1.h i hi, new_t]
      simp only [Nat.add_zero, Nat.zero_add]
      have H1 := H.made (unC o 1 i (W.C.R.h i))
      have K1 := Kp.make (T := T) (σ := σ) H.fr 20 (unC o 1 i (W.C.R.h i))
      have hv1 : (g_u σ z (unC o 1 i (W.C.R.h i))) z = some (unC o 1 i (W.C.R.h i)) := g_u_self _ _ _
      have hTz : ext T z (z + 1) 20 z = 20 := ext_in (Nat.le_refl _) (by omega)
      rw [c_i17 H O hi, gb_z, X_t hv1 (by decide)]
      generalize g_u σ z (unC o 1 i (W.C.R.h i)) = σ1 at H1 K1 hv1 ⊢
      generalize ext T z (z + 1) 20 = T1 at H1 K1 hTz
      obtain ⟨σ2, T2, dc, ds, p1, p2, p3, p4, p5⟩ := c_kept H1 O hv1 hTz
      obtain ⟨at2, hob2⟩ := p2.obj
      obtain ⟨A2, hA2, R2⟩ := p2.race
      obtain ⟨σ3, w1, w2, w3⟩ := rt_turns (n := v) (z := z + 1 + dc) R2 O.ba (c := i) hi (by omega)
      have p3' := p2.rc0 hA2 w2 w3
      obtain ⟨at3, hob3⟩ := p3'.obj
      have hck : σ3 (A2.ca i) = some (ckC (W.C.R.trn i v) i) := w2.1.ck i hi
      rw [p1, gb_app, A_t hob2 (by decide) rfl, ← hA2, X_t R2.1.ra (by decide), c_clock (t := (σ2, 0, 0)) R2.1 O.ba hi, gb_two, X_t (R2.1.ck i hi) (kin (O.ba.k i hi)), w1, gb_z, A_t hob3 (by decide) rfl, ← hA2, X_t w2.1.ra (by decide), c_clock (t := (σ3, 0, 0)) w2.1 O2.b hi, gb_two, I_t hck (kin (O2.b.k i hi)) rfl]
      refine ⟨_, t2, (W.s_C (W.C.note 1 i (W.C.R.h i))).s_C ((W.C.note 1 i (W.C.R.h i)).s_R (W.C.R.trn i v)), σ3, T2, 1 + dc, 4 + ds, rfl, rfl, M2, ?_, O1.race O2 O.c.now rfl rfl, ?_, by omega, by omega, ?_⟩
      · rw [← Nat.add_assoc]; exact p3'
      · exact ((K1.sub (fun _ _ => trivial)).tr (p3.sub kS6)).tr ((w3.kp0 p2.fr).sub kS2)
      · rw [r3.2.1 8 (by decide), q2.2.1 8 (by decide)]
    · rw [m_iL0 1 719 t (by omega) (by decide) h, gm_some, if_pos rfl, c_iL0 1 719 _ (by omega) (by decide) h, gb_two, if_pos rfl]
      exact BothS.same M H O _ rfl rfl
  · rw [m_clk0 M O.tn0 h, gm_some, if_pos rfl, c_clk0 H O h, gb_two, if_pos rfl]
    exact BothS.same M H O _ rfl rfl
end O9q
