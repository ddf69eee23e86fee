/-! the street's clocks are read: all of them -/
set_option maxRecDepth 100000
section O9k
variable {t : MS} {W : Wv} {ex : Nat → Option Nat} {z o : Nat} {a : Nat → Nat}
/-- all is read on both sides -/
def Good (t : MS) (W : Wv) (σ : Sg) (T : Nat → Nat) (ex : Nat → Option Nat) (z o : Nat) (a : Nat → Nat) (b1 b2 : Nat) (fm : Option (Int32 × MS)) (fc : Option (Int32 × St)) : Prop := ∃ k' D' p' p2 f' σ' T' d1 d2, 1 ≤ k' ∧ k' ≤ 9 ∧ fm = some (1, tx t p' (nI k') f') ∧ DMs f' k' D' ∧ fc = stGo ex z o (σ', d1, d2) ∧ CA σ' T' ex (z + d1) o a W p2 ∧ RL σ' T' ex (a 10) k' D' ∧ Kp T σ T' σ' (fun i => i = 50) ∧ d1 ≤ b1 ∧ d2 ≤ b2
theorem Good.pre {σ σ0 : Sg} {T T0 : Nat → Nat} {b1 b2 c1 c2 : Nat} {fm : Option (Int32 × MS)} {fc : Option (Int32 × St)} (G : Good t W σ T ex z o a b1 b2 fm fc) (K : Kp T0 σ0 T σ (fun i => i = 50)) (h1 : b1 ≤ c1) (h2 : b2 ≤ c2) : Good t W σ0 T0 ex z o a c1 c2 fm fc := by
  obtain ⟨k', D', p', p2, f', σ', T', d1, d2, g1, g2, g3, g4, g5, g6, g7, g8, g9, g10⟩ := G
  exact ⟨k', D', p', p2, f', σ', T', d1, d2, g1, g2, g3, g4, g5, g6, g7, K.tr g8, by omega, by omega⟩
theorem Bad.pre {σ σ0 : Sg} {T T0 : Nat → Nat} {b1 b2 c1 c2 : Nat} {fm : Option (Int32 × MS)} {fc : Option (Int32 × St)} (G : Bad t W σ T ex z o a b1 b2 fm fc) (K : Kp T0 σ0 T σ (fun i => i = 50)) (h1 : b1 ≤ c1) (h2 : b2 ≤ c2) : Bad t W σ0 T0 ex z o a c1 c2 fm fc := by
  obtain ⟨q, p', n', f', σ', T', dc, ds, g1, g2, g3, g4, g5, g6, g7, g8, g9⟩ := G
  exact ⟨q, p', n', f', σ', T', dc, ds, g1, g2, g3, g4, g5, g6, K.tr g7, by omega, by omega⟩
theorem st_read (M : MW t W) (O : W.OK) : ∀ (j k p : Nat) (n : Int32) (f : Nat → Int32) (D : Nat → Nat × Nat × Int × Nat) (σ : Sg) (T : Nat → Nat) (c1 c2 fuel fuel' : Nat), k + j = 8 → j < fuel → j < fuel' → p ≤ W.tn → CA σ T ex (z + c1) o a W p → RL σ T ex (a 10) k D → DMs f k D → Good t W σ T ex z o a (c1 + 2 * (j + 1) + 1) (c2 + 306 * (j + 1) + 7) (fX3_readStreet_7 fuel' (nI k) (tx t p n f)) (fX0_street_12 ex z fuel o (σ, c1, c2)) ∨ Bad t W σ T ex z o a (c1 + 2 * (j + 1) + 1) (c2 + 306 * (j + 1) + 7) (fX3_readStreet_7 fuel' (nI k) (tx t p n f)) (fX0_street_12 ex z fuel o (σ, c1, c2)) := by
  intro j
  induction j using Nat.strongRecOn with
  | _ j ih =>
    intro k p n f D σ T c1 c2 fuel fuel' hj hf hf' hp H L hD
    obtain ⟨m, rfl⟩ : ∃ m, fuel = m + 1 := ⟨fuel - 1, by omega⟩
    obtain ⟨m', rfl⟩ : ∃ m, fuel' = m + 1 := ⟨fuel' - 1, by omega⟩
    have C := b_ck (j := 4 * k) (n := n) (f := f) M O (by omega) hp H
    rw [fX3_readStreet_7, ifler 9 (by decide) (by omega), if_neg (by omega), show (4 : Int32) = nI 4 from rfl, nI_mul, fX0_street_12, A_t H.2 (by decide) rfl, X_t H.2 (by decide)]
    show Good _ _ _ _ _ _ _ _ _ _ _ (gbT (fX0_readClock ex (z + c1) o (σ, 0, 0)) (σ, c1, c2) _ _) ∨ Bad _ _ _ _ _ _ _ _ _ _ _ (gbT (fX0_readClock ex (z + c1) o (σ, 0, 0)) (σ, c1, c2) _ _)
    rcases C with ⟨κ, h, r, s, p1, σ1, f1, e1, e2, e3, e4, e5, e6, e7, ⟨e8, e9, e10, e11, e12⟩, e13, e14, e15⟩ | ⟨q, p1, f1, b, σ1, T1, e1, e2, e3, e4, e5, e6, e7⟩
    · have hs := sk_le e6
      have hn := nx_le O p1
      obtain ⟨σ2, T2, dc, ds, ⟨mc, le, q0⟩, q1, q2, q3, q4, q5, q6⟩ := rl_add (d := (κ, h, r, s)) e14 (L.kp e15 (by decide) (by decide) (by decide)) (by omega) ⟨e1, e2, e3, e4, e5⟩
      have hD1 : DMs f1 (k + 1) (up D k (κ, h, r, s)) := fun i hi => by
        by_cases hik : i = k
        · subst hik; rw [up_self]; exact ⟨e8, e9, e10, e11⟩
        · rw [up_ne _ _ hik, e12 _ (by omega), e12 _ (by omega), e12 _ (by omega), e12 _ (by omega)]; exact hD i (by omega)
      have K2 : Kp T σ T2 σ2 (fun i => i = 50) := (e15.sub (fun i h => by rw [h]; decide)).tr q4
      rw [Nat.add_assoc, Nat.add_assoc] at q2
      obtain ⟨le2, g2, L3, -⟩ := id q3
      obtain ⟨mc2, hl2⟩ := L3.2.1
      rw [e13, gbT_a, e7, gm_some, if_neg (show ¬ (1 : Int32) = 0 by decide)]
      have q0' : (g_u σ1 (z + c1) (kC κ 0 (nI h) (Int32.ofInt r) (nI s) 0 (-4))) (a 10) = some (liC mc le k) := q0
      have q1' : fJ2_add ex (z + (c1 + 1)) (a 10) (z + c1) (g_u σ1 (z + c1) (kC κ 0 (nI h) (Int32.ofInt r) (nI s) 0 (-4)), 0, 0) = some (1, (σ2, dc, ds)) := q1
      rw [X_t q0' (by decide), q1', gb_app, A_t q2.2 (by decide) rfl, X_t hl2 (by decide), al_size L3, gb_two, ifler 9 (by decide) (by omega)]
      simp only [lt]
      rw [nI_1, tx_n, r_next M O e6, gm_some]
      by_cases h9 : 9 ≤ k + 1
      · rw [if_pos h9]
        have hk8 : k = 8 := by omega
        rcases st_45 (c1 := c1 + (1 + dc)) (c2 := c2 + 6 + ds) O e6 q2 with ⟨h0, σ3, s1, s2, s3⟩ | ⟨h0, σ3, T3, s1, s2, s3⟩
        · rw [if_neg (show ¬ (0 : Int32) ≤ W.lx p1 from fun g => by have := (lx_neg O p1).mpr h0; rw [Int32.lt_iff_toInt_lt] at this; rw [Int32.le_iff_toInt_le] at g; omega)]
          rw [← Nat.add_assoc c1 1 dc] at s1 s2
          exact Or.inl ⟨k + 1, _, _, _, f1, σ3, T2, _, _, by omega, by omega, rfl, hD1, s1, s2, q3.kp s3 (by decide) (by decide) (by decide), K2.tr (s3.sub (fun i h => by rw [h]; decide)), by omega, by omega⟩
        · rw [← Nat.add_assoc c1 1 dc] at s1 s2
          refine Or.inr ⟨W.sk p1, W.sk p1, nI (k + 1), f1, σ3, T3, _, _, hs.2, sk_sk p1, hs.2, ?_, s1, s2, K2.tr s3, by omega, by omega⟩
          rw [lx_pos O h0, if_pos (nI_ge0 (by omega)), ifl 44 (by omega) (by decide), ifl 8 (by omega) (by decide), if_pos hk8]
          split <;> rfl
      · rw [if_neg h9, X_t q2.2 (by decide)]
        obtain ⟨σ3, a1, H3, K3⟩ := c_pass (zz := z + (c1 + 1 + dc)) q2 O e6 (x := 44) (by decide) (by decide) (0, 0)
        show Good _ _ _ _ _ _ _ _ _ _ _ (gb (fX0_passes ex (z + (c1 + 1 + dc)) o (nI 44) (σ2, 0, 0)) (σ2, c1 + 1 + dc, c2 + 6 + ds) _) ∨ Bad _ _ _ _ _ _ _ _ _ _ _ (gb (fX0_passes ex (z + (c1 + 1 + dc)) o (nI 44) (σ2, 0, 0)) (σ2, c1 + 1 + dc, c2 + 6 + ds) _)
        rw [a1, gb_z]
        have hpa := pa_le O e6 (x := 44) (by decide)
        have L4 := q3.kp K3 (by decide) (by decide) (by decide)
        have K4 : Kp T σ T2 σ3 (fun i => i = 50) := K2.tr (K3.sub (fun i h => by rw [h]; decide))
        by_cases h44 : W.nx p1 = 44
        · rw [decide_eq_true h44, if_neg (show ¬ b2 true = 0 by decide), lx_pos O (by omega), if_pos (nI_ge0 (by omega)), ifl 44 (by omega) (by decide), if_pos h44, ifl 8 (by omega) (by decide), if_neg (by omega), show (tx t (W.sk p1) (nI (k + 1)) f1).1 16 = nI (W.sk p1) from rfl, nI_1, tx_p]
          unfold Wv.pa at H3 hpa
          rw [if_pos h44] at H3 hpa
          obtain ⟨j', rfl⟩ : ∃ j', j = j' + 1 := ⟨j - 1, by omega⟩
          have H3' : CA σ3 T2 ex (z + (c1 + 1 + dc)) o a W (W.sk p1 + 1) := by rw [Nat.add_assoc c1]; exact H3
          rcases ih j' (by omega) (k + 1) (W.sk p1 + 1) (nI (k + 1)) f1 _ σ3 T2 (c1 + 1 + dc) (c2 + 6 + ds) m m' (by omega) (by omega) (by omega) hpa H3' L4 hD1 with G | G
          · exact Or.inl (G.pre K4 (by omega) (by omega))
          · exact Or.inr (G.pre K4 (by omega) (by omega))
        · rw [decide_eq_false h44, if_pos (show b2 false = 0 from rfl)]
          unfold Wv.pa at H3
          rw [if_neg h44] at H3
          rcases st_45 (c1 := c1 + (1 + dc)) (c2 := c2 + 6 + ds) O hs.2 H3 with ⟨h0, σ5, s1, s2, s3⟩ | ⟨h0, σ5, T5, s1, s2, s3⟩
          · rw [nx_sk] at h0
            rw [if_neg (show ¬ (0 : Int32) ≤ W.lx p1 from fun g => by have := (lx_neg O p1).mpr h0; rw [Int32.lt_iff_toInt_lt] at this; rw [Int32.le_iff_toInt_le] at g; omega)]
            rw [← Nat.add_assoc c1 1 dc] at s1 s2
            exact Or.inl ⟨k + 1, _, _, _, f1, σ5, T2, _, _, by omega, by omega, rfl, hD1, s1, s2, L4.kp s3 (by decide) (by decide) (by decide), K4.tr (s3.sub (fun i h => by rw [h]; decide)), by omega, by omega⟩
          · rw [nx_sk] at h0
            rw [sk_sk] at s1
            rw [← Nat.add_assoc c1 1 dc] at s1 s2
            refine Or.inr ⟨W.sk p1, W.sk p1, nI (k + 1), f1, σ5, T5, _, _, hs.2, sk_sk p1, hs.2, ?_, s1, s2, K4.tr s3, by omega, by omega⟩
            rw [lx_pos O h0, if_pos (nI_ge0 (by omega)), ifl 44 (by omega) (by decide), if_neg h44]
    · obtain ⟨σ2, s1, s2, s3⟩ := st_catch (z := z) (c1 := c1 + 1) (c2 := c2 + 7) (by rw [← Nat.add_assoc]; exact e5) e6
      refine Or.inr ⟨q, p1, n, f1, σ2, T1, c1 + 1, c2 + 7, e1, e2, ?_, ?_, ?_, s2, (e7.sub (fun i h => by rw [h]; decide)).tr s3, by omega, by omega⟩
      · rw [← e2]; exact (sk_le e1).2
      · rw [e3, gm_some, if_pos rfl]
      · rw [e4, gbT_r]; exact s1
end O9k
