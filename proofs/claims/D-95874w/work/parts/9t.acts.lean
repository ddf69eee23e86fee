/-! the acts of a day are read -/
set_option maxRecDepth 100000
def AMs (f : Nat → Int32) (k : Nat) (D : Nat → Nat × Nat × Nat) : Prop := ∀ i, i < k → AM f (3 * i) (D i)
/-- the list of acts read -/
def RA (σ : Sg) (T : Nat → Nat) (ex : Nat → Option Nat) (o l k : Nat) (D : Nat → Nat × Nat × Nat) : Prop := ∃ e g, AL σ T 10 ex l e k g ∧ ∀ i, i < k → T (g i) = 21 ∧ σ (g i) = some (aC o (D i)) ∧ AOK (D i)
theorem aC_cs (o : Nat) (x : Nat × Nat × Nat) : ∃ ci fs, aC o x = (true, .inr (ci, fs)) ∧ ci ∈ csL ∧ ci ∈ [11, 12, 13, 14] := by
  unfold aC
  by_cases h1 : x.1 = 104
  · rw [if_pos h1]; exact ⟨_, _, rfl, by decide, by decide⟩
  · rw [if_neg h1]
    by_cases h2 : x.1 = 98
    · rw [if_pos h2]; exact ⟨_, _, rfl, by decide, by decide⟩
    · rw [if_neg h2]
      by_cases h3 : x.1 = 119
      · rw [if_pos h3]; exact ⟨_, _, rfl, by decide, by decide⟩
      · rw [if_neg h3]; exact ⟨_, _, rfl, by decide, by decide⟩
section O9t
variable {t : MS} {W : Wv} {σ : Sg} {T : Nat → Nat} {ex : Nat → Option Nat} {z o : Nat} {a : Nat → Nat}
theorem RA.kp {σ' : Sg} {T' : Nat → Nat} {l k : Nat} {D : Nat → Nat × Nat × Nat} {S : Nat → Prop} (H : RA σ T ex o l k D) (K : Kp T σ T' σ' S) (hc : ∀ e, ex 0 = some e → T' e = 99 ∧ σ' e = σ e) (h10 : S 10) (h21 : S 21) : RA σ' T' ex o l k D := by
  obtain ⟨e, g, ⟨h1, ⟨mc, h2⟩, h3⟩, hg⟩ := H
  obtain ⟨a1, a2⟩ := K.at h1 (by decide) h10
  refine ⟨e, g, ⟨a1, ⟨mc, a2.trans h2⟩, ?_⟩, fun i hi => ?_⟩
  · rcases h3 with ⟨x1, x2, x3, x4⟩ | ⟨x1, x2⟩
    · obtain ⟨b1, b2⟩ := hc e x1.symm
      exact Or.inl ⟨x1, x2, b1, by rw [b2]; exact x4⟩
    · obtain ⟨b1, b2⟩ := K.at x1 (by decide) h10
      exact Or.inr ⟨b1, by rw [b2]; exact x2⟩
  · obtain ⟨x1, x2, x3⟩ := hg i hi
    obtain ⟨y1, y2⟩ := K.at x1 (by decide) h21
    exact ⟨y1, y2.trans x2, x3⟩
theorem ra_99 {S : Nat → Prop} {σ' : Sg} {T' : Nat → Nat} (H : CW σ T ex z o a W) (K : Kp T σ T' σ' S) (h99 : S 99) : ∀ e, ex 0 = some e → T' e = 99 ∧ σ' e = σ e := by
  intro e he
  obtain ⟨⟨e', h1, h2, -⟩, -⟩ := H.cn
  rw [he] at h1
  cases h1
  exact K.at h2 (by decide) h99
/-- one more act is put to the list -/
theorem ra_add {k p v : Nat} {D : Nat → Nat × Nat × Nat} {x : Nat × Nat × Nat} (H : CA σ T ex z o a W p) (L : RA σ T ex o (a 11) k D) (hk : k < 160) (hT : T v = 21) (hv : σ v = some (aC o x)) (hx : AOK x) : ∃ σ' T' dc ds, (∃ mc e, σ (a 11) = some (liC mc e k)) ∧ fJ2_add ex z (a 11) v (σ, 0, 0) = some (1, (σ', dc, ds)) ∧ CA σ' T' ex (z + dc) o a W p ∧ RA σ' T' ex o (a 11) (k + 1) (up D k x) ∧ Kp T σ T' σ' (fun i => i ≠ 10) ∧ dc ≤ 1 ∧ ds ≤ 300 := by
  have hF := H.1.fr
  obtain ⟨e, g, A0, A1⟩ := L
  obtain ⟨mc, hl⟩ := A0.2.1
  obtain ⟨ci, fs, c1, c2, -⟩ := aC_cs o x
  have hvl : v ≠ a 11 := fun q => by
    have := A0.1
    rw [← q, hT] at this
    omega
  obtain ⟨σ', e', dc, ds, q1, q2, q3, q4, q5, -, -, -, -⟩ := al_add A0 hF (by decide) (by decide) (by omega) (fun i hi => by
    obtain ⟨ci, fs, d1, d2, -⟩ := aC_cs o (D i)
    exact ⟨true, ci, fs, by rw [(A1 i hi).2.1, d1], d2⟩) (fun i hi => hF.lt (A1 i hi).1 (by decide)) (by rw [hv, c1]) c2 (hF.lt hT (by decide)) hvl
  have K2 := q3.kp hF
  have F2 : Fre (ext T z (z + dc) 10) (z + dc) := hF.ext (by omega)
  refine ⟨σ', ext T z (z + dc) 10, dc, ds, ⟨mc, e, hl⟩, q1, ⟨?_, ?_⟩, ?_, K2, q4, q5⟩
  · exact H.1.u_ac (W' := W) F2 K2 ⟨by decide, e', k + 1, _, by omega, q2⟩ rfl rfl rfl rfl rfl rfl rfl rfl rfl rfl rfl rfl rfl rfl rfl rfl rfl rfl rfl rfl rfl rfl rfl rfl
  · exact (K2.at H.1.ob.1 (by decide) (by decide)).2.trans H.2
  · refine ⟨e', up g k v, q2, fun i hi => ?_⟩
    by_cases h : i = k
    · subst h
      rw [up_self, up_self]
      obtain ⟨y1, y2⟩ := K2.at hT (by decide) (by decide)
      exact ⟨y1, y2.trans hv, hx⟩
    · rw [up_ne _ _ h, up_ne _ _ h]
      obtain ⟨x1, x2, x3⟩ := A1 i (by omega)
      obtain ⟨y1, y2⟩ := K2.at x1 (by decide) (by decide)
      exact ⟨y1, y2.trans x2, x3⟩
theorem dy_catch {b q c1 c2 : Nat} (H : CW σ T ex (z + c1) o a W) (hb : σ b = some (fltC (nI q))) : ∃ σ', (cif (σ, c1, c2) b 10 (fX0_day_84 ex z o b (σ, c1, c2)) none) = some (-20 - nI q, (σ', c1, c2)) ∧ CW σ' T ex (z + c1) o a (W.s_tn 0) ∧ Kp T σ T σ' (fun i => i = 50) := by
  obtain ⟨x, y1, y2, y3⟩ := cw_tn0 H
  refine ⟨_, ?_, y2, y3.sub (fun i h => by rw [h]; decide)⟩
  rw [cif_t hb, if_pos rfl]
  unfold fX0_day_84
  rw [I_t hb (by decide) rfl]
  simp only [lt]
  rw [y1]
/-- all acts are read on both sides -/
def GoodD (t : MS) (W : Wv) (σ : Sg) (T : Nat → Nat) (ex : Nat → Option Nat) (z o : Nat) (a : Nat → Nat) (b1 b2 : Nat) (fm : Option (Int32 × MS)) (fc : Option (Int32 × St)) : Prop := ∃ k' D' p' p2 f' σ' T' d1 d2, 1 ≤ k' ∧ k' ≤ 80 ∧ fm = some (1, tx t p' (nI k') f') ∧ AMs f' k' D' ∧ fc = fX0_day_39 ex z 1000 o 0 (σ', d1, d2) ∧ CA σ' T' ex (z + d1) o a W p2 ∧ RA σ' T' ex o (a 11) k' D' ∧ Kp T σ T' σ' (fun i => i = 50) ∧ d1 ≤ b1 ∧ d2 ≤ b2
theorem GoodD.pre {σ0 : Sg} {T0 : Nat → Nat} {b1 b2 c1 c2 : Nat} {fm : Option (Int32 × MS)} {fc : Option (Int32 × St)} (G : GoodD t W σ T ex z o a b1 b2 fm fc) (K : Kp T0 σ0 T σ (fun i => i = 50)) (h1 : b1 ≤ c1) (h2 : b2 ≤ c2) : GoodD t W σ0 T0 ex z o a c1 c2 fm fc := by
  obtain ⟨k', D', p', p2, f', σ', T', d1, d2, g1, g2, g3, g4, g5, g6, g7, g8, g9, g10⟩ := G
  exact ⟨k', D', p', p2, f', σ', T', d1, d2, g1, g2, g3, g4, g5, g6, g7, K.tr g8, by omega, by omega⟩
theorem dy_read (M : MW t W) (O : W.OK) : ∀ (j k p : Nat) (f : Nat → Int32) (D : Nat → Nat × Nat × Nat) (σ : Sg) (T : Nat → Nat) (c1 c2 fuel fuel' : Nat), k + j = 80 → 2 * k ≤ p → j < fuel → j + 1 < fuel' → p ≤ W.tn → CA σ T ex (z + c1) o a W p → RA σ T ex o (a 11) k D → AMs f k D → GoodD t W σ T ex z o a (c1 + 2 * j + 2) (c2 + 303 * j + 10) (fX3_readDay_12 fuel' 1 (tx t p (nI k) f)) (fX0_day_12 ex z fuel o (σ, c1, c2)) ∨ Bad t W σ T ex z o a (c1 + 2 * j + 2) (c2 + 303 * j + 10) (fX3_readDay_12 fuel' 1 (tx t p (nI k) f)) (fX0_day_12 ex z fuel o (σ, c1, c2)) := by
  intro j
  induction j with
  | zero =>
    intro k p f D σ T c1 c2 fuel fuel' hj hk hf hf' hp H L hD
    obtain ⟨m, rfl⟩ : ∃ m, fuel = m + 1 := ⟨fuel - 1, by omega⟩
    obtain ⟨m', rfl⟩ : ∃ m, fuel' = m + 1 := ⟨fuel' - 1, by omega⟩
    have ht := O.tn
    have C := b_ac (j := 3 * k) (n := nI k) (f := f) M O (by omega) hp H
    rw [fX3_readDay_12, if_neg (show ¬ (1 : Int32) = 0 by decide), show (tx t p (nI k) f).1 17 = nI k from rfl, show (3 : Int32) = nI 3 from rfl, nI_mul, fX0_day_12, A_t H.2 (by decide) rfl, X_t H.2 (by decide)]
    show GoodD _ _ _ _ _ _ _ _ _ _ _ (gbT (fX0_readAct ex (z + c1) o (σ, 0, 0)) (σ, c1, c2) _ _) ∨ Bad _ _ _ _ _ _ _ _ _ _ _ (gbT (fX0_readAct ex (z + c1) o (σ, 0, 0)) (σ, c1, c2) _ _)
    rcases C with ⟨x, p1, σ1, T1, f1, d, e1, e2, e3, -⟩ | ⟨q, p1, f1, b, σ1, T1, dc, ds, e1, e2, e3, e4, e5, e6, e7, e8, e9⟩
    · exfalso; omega
    · obtain ⟨σ2, s1, s2, s3⟩ := dy_catch (z := z) (c1 := c1 + dc) (c2 := c2 + ds) (by rw [← Nat.add_assoc]; exact e7) e8
      refine Or.inr ⟨q, p1, nI k, f1, σ2, T1, c1 + dc, c2 + ds, e1, e2, ?_, ?_, ?_, s2, (e9.sub (fun i h => by rw [h]; decide)).tr s3, by omega, by omega⟩
      · rw [← e2]; exact (sk_le e1).2
      · rw [e3, gm_some, if_pos rfl]
      · rw [e4, gbT_r]; exact s1
  | succ j ih =>
    intro k p f D σ T c1 c2 fuel fuel' hj hk hf hf' hp H L hD
    obtain ⟨m, rfl⟩ : ∃ m, fuel = m + 1 := ⟨fuel - 1, by omega⟩
    obtain ⟨m', rfl⟩ : ∃ m, fuel' = m + 1 := ⟨fuel' - 1, by omega⟩
    have ht := O.tn
    have C := b_ac (j := 3 * k) (n := nI k) (f := f) M O (by omega) hp H
    rw [fX3_readDay_12, if_neg (show ¬ (1 : Int32) = 0 by decide), show (tx t p (nI k) f).1 17 = nI k from rfl, show (3 : Int32) = nI 3 from rfl, nI_mul, fX0_day_12, A_t H.2 (by decide) rfl, X_t H.2 (by decide)]
    show GoodD _ _ _ _ _ _ _ _ _ _ _ (gbT (fX0_readAct ex (z + c1) o (σ, 0, 0)) (σ, c1, c2) _ _) ∨ Bad _ _ _ _ _ _ _ _ _ _ _ (gbT (fX0_readAct ex (z + c1) o (σ, 0, 0)) (σ, c1, c2) _ _)
    rcases C with ⟨x, p1, σ1, T1, f1, d, e1, e2, e3, e4, e5, e6, e7, e8, e9, e10, e11, e12⟩ | ⟨q, p1, f1, b, σ1, T1, dc, ds, e1, e2, e3, e4, e5, e6, e7, e8, e9⟩
    · have hs := sk_le e3
      have hn := nx_le O p1
      have L1 := L.kp e12 (ra_99 H.1 e12 (by decide)) (by decide) (by decide)
      obtain ⟨σ2, T2, dc, ds, ⟨mc, le, q0⟩, q1, q2, q3, q4, q5, q6⟩ := ra_add (x := x) e11 L1 (by omega) e9 e10 e1
      have hD1 : AMs f1 (k + 1) (up D k x) := fun i hi => by
        by_cases hik : i = k
        · subst hik; rw [up_self]; exact e5
        · rw [up_ne _ _ hik]
          have h0 := hD i (by omega)
          unfold AM at h0 ⊢
          rw [e6 _ (by omega), e6 _ (by omega), e6 _ (by omega)]; exact h0
      have K2 : Kp T σ T2 σ2 (fun i => i = 50) := (e12.sub (fun i h => by rw [h]; decide)).tr (q4.sub (fun i h => by rw [h]; decide))
      have q2' : CA σ2 T2 ex (z + (c1 + 1 + dc)) o a W p1 := by rw [← Nat.add_assoc z, ← Nat.add_assoc z]; exact q2
      have q1' : fJ2_add ex (z + (c1 + 1)) (a 11) (z + c1) (σ1, 0, 0) = some (1, (σ2, dc, ds)) := q1
      rw [e7, gbT_a, e4, gm_some, if_neg (show ¬ (1 : Int32) = 0 by decide), X_t q0 (by decide), q1', gb_app, X_t q2.2 (by decide)]
      simp only [lt]
      rw [show (tx t p1 (nI k) f1).1 17 = nI k from rfl, nI_1, tx_n]
      obtain ⟨σ3, a1, H3, K3⟩ := c_pass (zz := z + (c1 + 1 + dc)) q2' O e3 (x := 59) (by decide) (by decide) (0, 0)
      show GoodD _ _ _ _ _ _ _ _ _ _ (gm (fX3_takes (nI 59) (tx t p1 (nI (k + 1)) f1)) _) (gb (fX0_passes ex (z + (c1 + 1 + dc)) o (nI 59) (σ2, 0, 0)) (σ2, c1 + 1 + dc, c2 + d + ds) _) ∨ Bad _ _ _ _ _ _ _ _ _ _ (gm (fX3_takes (nI 59) (tx t p1 (nI (k + 1)) f1)) _) (gb (fX0_passes ex (z + (c1 + 1 + dc)) o (nI 59) (σ2, 0, 0)) (σ2, c1 + 1 + dc, c2 + d + ds) _)
      rw [a1, gb_z, r_takes M O e3 (by decide) (by decide), gm_some]
      have hpa := pa_le O e3 (x := 59) (by decide)
      have L4 := q3.kp K3 (ra_99 q2.1 K3 (by decide)) (by decide) (by decide)
      have K4 : Kp T σ T2 σ3 (fun i => i = 50) := K2.tr (K3.sub (fun i h => by rw [h]; decide))
      by_cases h59 : W.nx p1 = 59
      · rw [decide_eq_true h59, if_neg (show ¬ b2 true = 0 by decide)]
        rw [pa_y h59] at H3 hpa ⊢
        rcases ih (k + 1) (W.sk p1 + 1) f1 _ σ3 T2 (c1 + 1 + dc) (c2 + d + ds) m m' (by omega) (by omega) (by omega) (by omega) hpa H3 L4 hD1 with G | G
        · exact Or.inl (G.pre K4 (by omega) (by omega))
        · exact Or.inr (G.pre K4 (by omega) (by omega))
      · rw [decide_eq_false h59, if_pos (show b2 false = 0 from rfl), X_t H3.2 (by decide)]
        rw [pa_n h59] at H3 ⊢
        obtain ⟨m2, rfl⟩ : ∃ m, m' = m + 1 := ⟨m' - 1, by omega⟩
        rw [fX3_readDay_12, if_pos (show b2 false = 0 from rfl), r_next M O hs.2, gm_some, lx_sk]
        have ce := c_ends H3 O hs.2
        rw [nx_sk, sk_sk] at ce
        show GoodD _ _ _ _ _ _ _ _ _ _ _ (gbT (fX0_ends ex (z + (c1 + 1 + dc)) o (σ3, 0, 0)) (σ3, c1 + 1 + dc, c2 + d + ds) _ _) ∨ Bad _ _ _ _ _ _ _ _ _ _ _ (gbT (fX0_ends ex (z + (c1 + 1 + dc)) o (σ3, 0, 0)) (σ3, c1 + 1 + dc, c2 + d + ds) _ _)
        by_cases h0 : W.nx p1 = 0
        · rw [if_pos h0] at ce
          rcases ce with ⟨v, p', σ5, y1, y2, y3, y4, y5⟩ | ⟨q, b, σ', T', y1, -⟩
          · cases y1
            rw [y2, gbT_l, if_neg (show ¬ (0 : Int32) ≤ W.lx p1 from fun g => by have := (lx_neg O p1).mpr h0; rw [Int32.lt_iff_toInt_lt] at this; rw [Int32.le_iff_toInt_le] at g; omega)]
            exact Or.inl ⟨k + 1, _, _, _, f1, σ5, T2, _, _, by omega, by omega, rfl, hD1, rfl, y3, L4.kp y4 (ra_99 H3.1 y4 (by decide)) (by decide) (by decide), K4.tr (y4.sub (fun i h => by rw [h]; decide)), by omega, by omega⟩
          · cases y1
        · rw [if_neg h0] at ce
          rcases ce with ⟨v, p', σ', y1, -⟩ | ⟨q, b, σ5, T5, y1, y2, y3, y4, y5, y6⟩
          · cases y1
          · cases y1
            rw [Nat.add_assoc] at y3
            obtain ⟨σ6, s1, s2, s3⟩ := dy_catch (c2 := c2 + d + ds + 7) y3 y4
            refine Or.inr ⟨W.sk p1, W.sk (W.sk p1), nI (k + 1), f1, σ6, T5, c1 + 1 + dc + 1, c2 + d + ds + 7, by rw [sk_sk]; exact hs.2, by rw [sk_sk, sk_sk], hs.2, ?_, ?_, s2, K4.tr ((y5.sub (fun i h => by rw [h]; decide)).tr s3), by omega, by omega⟩
            · rw [lx_pos O h0, if_pos (nI_ge0 (by omega))]
            · rw [y2, gbT_r]; exact s1
    · obtain ⟨σ2, s1, s2, s3⟩ := dy_catch (z := z) (c1 := c1 + dc) (c2 := c2 + ds) (by rw [← Nat.add_assoc]; exact e7) e8
      refine Or.inr ⟨q, p1, nI k, f1, σ2, T1, c1 + dc, c2 + ds, e1, e2, ?_, ?_, ?_, s2, (e9.sub (fun i h => by rw [h]; decide)).tr s3, by omega, by omega⟩
      · rw [← e2]; exact (sk_le e1).2
      · rw [e3, gm_some, if_pos rfl]
      · rw [e4, gbT_r]; exact s1
end O9t
