/-! acts of a day: breathe -/
set_option maxRecDepth 100000
section O9r
variable {t : MS} {W : Wv} {σ : Sg} {T : Nat → Nat} {ex : Nat → Option Nat} {z o : Nat} {a : Nat → Nat}
theorem bs_breathe (M : MW t (W.s_tn 0)) (H : CW σ T ex z o a W) (O : W.OK) (x1 : Int32) : BothS σ T ex z o a t (fX3_breathe x1 t) (fX0_breathe ex z o x1 (σ, 0, 0)) := by
  have Mc : MCo t W.C := M.c
  obtain ⟨at_, hob⟩ := H.obj
  obtain ⟨A, hA, R⟩ := H.race
  have hW := O.ba.W1
  have hn := O.n
  unfold fX3_breathe fX0_breathe
  rw [X_t hob (by decide)]
  by_cases h : ∃ i, i < W.C.R.W ∧ x1 = nI i
  · obtain ⟨i, hi, rfl⟩ := h
    obtain ⟨f, hd, hf⟩ := R.1.dl
    have hd12 := O.ba.d i (by omega)
    rw [m_win1 M O.tn0 hi, gm_some, if_neg n10, c_win1 H O hi, gb_two, if_neg n10, A_t hob (by decide) rfl, ← hA, A_t R.1.ra (by decide) rfl, ald_t hd (by omega) (by decide), hf i (by omega), mald_nI (by omega) (by decide), Mc.r.1.d i (by omega), ifl 12 (by omega) (by decide), ifl 12 (by omega) (by decide)]
    by_cases hdk : W.C.R.d i = 12
    · rw [if_pos hdk, if_pos hdk]
      exact BothS.same M H O _ rfl rfl
    · have O1 : (W.s_C (W.C.note 3 i (W.C.R.d i))).OK := O.note (Or.inr (Or.inr (Or.inr ⟨rfl, hi, by omega, by omega⟩)))
      have O2 : (W.C.R.s_d (up W.C.R.d i 12)).OK := O.c.r.d1 (Nat.le_refl _)
      obtain ⟨t1, q1, q2, q3, q4⟩ := m_note Mc O.c.un 3 i (W.C.R.d i)
      have M1 := M.note q2 q3 q4
      have q1' : fX3_note 3 (nI i) (nI (W.C.R.d i)) t = some ((), t1) := by rw [nI_ofInt (W.C.R.d i)]; exact q1
      have M2 := M1.race (Sm.set t1 i (nI 12)) (M1.c.r.d1 hn (by omega))
      rw [if_neg hdk, if_neg hdk, q1', gm_some, mast_nI (by omega) (by decide), ilit 12, new_t]
      simp only [Nat.add_zero, Nat.zero_add]
      have H1 := H.made (unC o 3 i (W.C.R.d i))
      have K1 := Kp.make (T := T) (σ := σ) H.fr 20 (unC o 3 i (W.C.R.d i))
      have hv1 : (g_u σ z (unC o 3 i (W.C.R.d i))) z = some (unC o 3 i (W.C.R.d i)) := g_u_self _ _ _
      have hTz : ext T z (z + 1) 20 z = 20 := ext_in (Nat.le_refl _) (by omega)
      rw [c_i16 H O (by omega), gb_z, X_t hv1 (by decide)]
      generalize g_u σ z (unC o 3 i (W.C.R.d i)) = σ1 at H1 K1 hv1 ⊢
      generalize ext T z (z + 1) 20 = T1 at H1 K1 hTz
      obtain ⟨σ2, T2, dc, ds, p1, p2, p3, p4, p5⟩ := c_kept H1 O hv1 hTz
      obtain ⟨at2, hob2⟩ := p2.obj
      obtain ⟨A2, hA2, R2⟩ := p2.race
      obtain ⟨f2, hd2, hf2⟩ := R2.1.dl
      obtain ⟨w2, w3⟩ := RT.d1 (z := z + 1 + dc) (w := i) (v := 12) R2 hf2
      have p3' := p2.rc0 hA2 w2 w3
      rw [p1, gb_app, A_t hob2 (by decide) rfl, ← hA2, A_t R2.1.ra (by decide) rfl, ast_t hd2 (by omega) (by decide), show vp_nar .byte (nI 12) = nI 12 from by decide]
      refine ⟨_, _, (W.s_C (W.C.note 3 i (W.C.R.d i))).s_C ((W.C.note 3 i (W.C.R.d i)).s_R (W.C.R.s_d (up W.C.R.d i 12))), _, T2, 1 + dc, 4 + ds, rfl, rfl, M2, ?_, O1.race O2 O.c.now rfl rfl, ?_, by omega, by omega, ?_⟩
      · rw [← Nat.add_assoc]; exact p3'
      · exact ((K1.sub (fun _ _ => trivial)).tr (p3.sub kS6)).tr ((w3.kp0 p2.fr).sub kS2)
      · rw [setA_other t1 _ _ (show 8 ≠ 0 by decide), q2.2.1 8 (by decide)]
  · rw [m_win0 M O.tn0 h, gm_some, if_pos rfl, c_win0 H O h, gb_two, if_pos rfl]
    exact BothS.same M H O _ rfl rfl
end O9r
