/-! a clock read from a text -/
set_option maxRecDepth 100000
section O9h
variable {t : MS} {W : Wv} {σ : Sg} {T : Nat → Nat} {ex : Nat → Option Nat} {z o : Nat} {a : Nat → Nat}
/-- a clock is read on both sides, or both refuse at one place -/
def Ck (t : MS) (W : Wv) (σ : Sg) (T : Nat → Nat) (ex : Nat → Option Nat) (z o : Nat) (a : Nat → Nat) (j : Nat) (n : Int32) (f : Nat → Int32) (fm : Option (Int32 × MS)) (fc : Option ((Nat ⊕ Nat) × St)) : Prop :=
  (∃ (κ h : Nat) (r : Int) (s p' : Nat) (σ' : Sg) (f' : Nat → Int32), κ ≤ 5 ∧ h ≤ 719 ∧ -30 ≤ r ∧ r ≤ 30 ∧ s ≤ 99 ∧ p' ≤ W.tn ∧ fm = some (1, tx t p' n f') ∧ (f' j = nI κ ∧ f' (j + 1) = nI h ∧ f' (j + 2) = Int32.ofInt r ∧ f' (j + 3) = nI s ∧ ∀ i, i < j → f' i = f i) ∧ fc = some (.inl z, (g_u σ' z (kC κ 0 (nI h) (Int32.ofInt r) (nI s) 0 (-4)), 1, 6)) ∧ CA σ' T ex z o a W p' ∧ Kp T σ T σ' (fun i => i ≠ 1)) ∨
  (∃ q p' f' b σ' T', p' ≤ W.tn ∧ W.sk p' = q ∧ fm = some (0, tx t p' n f') ∧ fc = some (.inr b, (σ', 1, 7)) ∧ CW σ' T' ex (z + 1) o a W ∧ σ' b = some (fltC (nI q)) ∧ Kp T σ T' σ' (fun i => i ≠ 1))
theorem nI_ge0 {n : Nat} (h : n < 2 ^ 31) : (0 : Int32) ≤ nI n := by
  rw [Int32.le_iff_toInt_le, nI_toInt h, show (0 : Int32).toInt = 0 from rfl]; omega
theorem Ck.pre {σ0 : Sg} {j : Nat} {n : Int32} {f f0 : Nat → Int32} {fm : Option (Int32 × MS)} {fc : Option ((Nat ⊕ Nat) × St)} (C : Ck t W σ T ex z o a j n f fm fc) (K : Kp T σ0 T σ (fun i => i ≠ 1)) (hf : ∀ i, i < j → f i = f0 i) : Ck t W σ0 T ex z o a j n f0 fm fc := by
  rcases C with ⟨κ, h, r, s, p', σ', f', c1, c2, c3, c4, c5, c6, c7, ⟨c8, c9, c10, c11, c12⟩, c13, c14, c15⟩ | ⟨q, p', f', b, σ', T', c1, c2, c3, c4, c5, c6, c7⟩
  · exact Or.inl ⟨κ, h, r, s, p', σ', f', c1, c2, c3, c4, c5, c6, c7, ⟨c8, c9, c10, c11, fun i hi => (c12 i hi).trans (hf i hi)⟩, c13, c14, K.tr c15⟩
  · exact Or.inr ⟨q, p', f', b, σ', T', c1, c2, c3, c4, c5, c6, K.tr c7⟩
theorem ck_tail (M : MW t W) (O : W.OK) {p j κ h : Nat} {r : Int} {x2 s0 sc n : Int32} {f : Nat → Int32} (hj : j + 3 < 480) (hκ : κ ≤ 5) (hh : h ≤ 719) (hr0 : -30 ≤ r) (hr1 : r ≤ 30) (hp : p ≤ W.tn) (H : CA σ T ex z o a W p) (hm : x2 * s0 = Int32.ofInt r) (hs0 : 0 ≤ s0) (hc : sc = Int32.ofInt r) (f0 : f j = nI κ) (f1 : f (j + 1) = nI h) : Ck t W σ T ex z o a j n f (fX3_readClock_106 (nI j) x2 s0 (tx t p n f)) (fX0_readClock_57 ex z o (nI κ) (nI h) sc (σ, 0, 0)) := by
  have hs := sk_le hp
  subst hc
  obtain ⟨σ1, r1, H1, K1⟩ := c_pass (zz := z) H O hp (x := 42) (by decide) (by decide) (0, 0)
  have hpa := pa_le O hp (x := 42) (by decide)
  unfold fX3_readClock_106 fX0_readClock_57
  rw [if_pos hs0, show (2 : Int32) = nI 2 from rfl, nI_add, mast_nI (by omega) (by decide), tx_a, hm, show (42 : Int32) = nI 42 from rfl, r_takes M O hp (by decide) (by decide), gm_some, X_t H.2 (by decide)]
  show Ck _ _ _ _ _ _ _ _ _ _ _ _ (gb (fX0_passes ex z o (nI 42) (σ, 0, 0)) (σ, 0, 0) _)
  rw [r1, gb_z, show (3 : Int32) = nI 3 from rfl, nI_add]
  by_cases h42 : W.nx p = 42
  · rw [decide_eq_true h42, if_neg (show ¬ b2 true = 0 by decide), if_neg (show ¬ b2 true = 0 by decide), X_t H1.2 (by decide)]
    have rn := r_num M O hpa (lo := 0) (hi := 99) (by decide) (by decide) n (upd f (j + 2) (Int32.ofInt r))
    have cn := c_number H1 O hpa (lo := 0) (hi := 99) (by decide) (by decide)
    show Ck _ _ _ _ _ _ _ _ _ _ _ (gm (fX3_readNumber (nI 0) (nI 99) (tx t (W.pa p 42) n (upd f (j + 2) (Int32.ofInt r)))) _) (gbT (fX0_number ex z o (nI 0) (nI 99) (σ1, 0, 0)) (σ1, 0, 0) _ _)
    rw [rn, gm_some]
    rcases nu_ok (lo := 0) (hi := 99) O hpa with ⟨s, e, n1, -, n3, n4⟩ | n1
    · rw [n1] at cn ⊢
      rcases cn with ⟨v, p', σ', y1, y2, y3, y4, y5⟩ | ⟨q, b, σ', T', y1, -⟩
      · cases y1
        rw [y2, gbT_l]
        simp only [Nat.add_zero]
        rw [c_made hκ]
        unfold fX3_readClock_151
        show Ck _ _ _ _ _ _ _ _ _ _ _ (mast (tx t e n _) 8 480 _ (nI s) _) _
        rw [mast_nI (by omega) (by decide), tx_a, show (3 : Int32) = nI 3 from rfl, nI_add, mald_nI (by omega) (by decide)]
        show Ck _ _ _ _ _ _ _ _ _ _ _ (if (upd (upd f (j + 2) (Int32.ofInt r)) (j + 3) (nI s)) (j + 3) < 0 then _ else _) _
        rw [upd_at, if_neg (nI_pos (by omega))]
        refine Or.inl ⟨κ, h, r, s, e, σ', _, hκ, hh, hr0, hr1, n3, n4, rfl, ⟨?_, ?_, ?_, upd_at _ _ _, fun i hi => ?_⟩, rfl, y3, K1.tr y4⟩
        · rw [upd_no _ _ (by omega), upd_no _ _ (by omega)]; exact f0
        · rw [upd_no _ _ (by omega), upd_no _ _ (by omega)]; exact f1
        · rw [upd_no _ _ (by omega), upd_at]
        · rw [upd_no _ _ (by omega), upd_no _ _ (by omega)]
      · cases y1
    · rw [n1] at cn ⊢
      rcases cn with ⟨v, p', σ', y1, -⟩ | ⟨q, b, σ', T', y1, y2, y3, y4, y5, y6⟩
      · cases y1
      · cases y1
        rw [y2, gbT_r]
        unfold fX3_readClock_151
        show Ck _ _ _ _ _ _ _ _ _ _ _ (mast (tx t (W.sk (W.pa p 42)) n _) 8 480 _ (-1) _) _
        rw [mast_nI (by omega) (by decide), tx_a, show (3 : Int32) = nI 3 from rfl, nI_add, mald_nI (by omega) (by decide)]
        show Ck _ _ _ _ _ _ _ _ _ _ _ (if (upd (upd f (j + 2) (Int32.ofInt r)) (j + 3) (-1)) (j + 3) < 0 then _ else _) _
        rw [upd_at, if_pos (by decide)]
        exact Or.inr ⟨_, _, _, b, σ', T', y6, sk_sk _, rfl, rfl, y3, y4, K1.tr y5⟩
  · rw [decide_eq_false h42, if_pos (show b2 false = 0 from rfl), if_pos (show b2 false = 0 from rfl)]
    simp only [Nat.add_zero]
    rw [show (0 : Int32) = nI 0 from rfl, c_made hκ]
    unfold fX3_readClock_151
    rw [mast_nI (by omega) (by decide), tx_a, show (3 : Int32) = nI 3 from rfl, nI_add, mald_nI (by omega) (by decide)]
    show Ck _ _ _ _ _ _ _ _ _ _ _ (if (upd (upd f (j + 2) (Int32.ofInt r)) (j + 3) (nI 0)) (j + 3) < 0 then _ else _) _
    rw [upd_at, if_neg (by decide)]
    refine Or.inl ⟨κ, h, r, 0, W.pa p 42, σ1, _, hκ, hh, hr0, hr1, by omega, hpa, rfl, ⟨?_, ?_, ?_, upd_at _ _ _, fun i hi => ?_⟩, rfl, H1, K1⟩
    · rw [upd_no _ _ (by omega), upd_no _ _ (by omega)]; exact f0
    · rw [upd_no _ _ (by omega), upd_no _ _ (by omega)]; exact f1
    · rw [upd_no _ _ (by omega), upd_at]
    · rw [upd_no _ _ (by omega), upd_no _ _ (by omega)]
theorem ck_rate (M : MW t W) (O : W.OK) {p j κ h : Nat} {sgn n : Int32} {mk : Int32 → Int32} {f : Nat → Int32} (hj : j + 3 < 480) (hκ : κ ≤ 5) (hh : h ≤ 719) (hp : p ≤ W.tn) (H : CA σ T ex z o a W p) (hsg : sgn ≠ 0) (hmk : ∀ r : Nat, r ≤ 30 → ∃ ri : Int, -30 ≤ ri ∧ ri ≤ 30 ∧ sgn * nI r = Int32.ofInt ri ∧ mk (nI r) = Int32.ofInt ri) (f0 : f j = nI κ) (f1 : f (j + 1) = nI h) : Ck t W σ T ex z o a j n f (fX3_readClock_90 (nI j) sgn (tx t p n f)) (gbT (fX0_number ex z o (nI 0) (nI 30) (σ, 0, 0)) (σ, 0, 0) (fun r28 t29 => fX0_readClock_57 ex z o (nI κ) (nI h) (mk r28) t29) (fun a31 t30 => some (.inr a31, t30))) := by
  have rn := r_num M O hp (lo := 0) (hi := 30) (by decide) (by decide) n f
  have cn := c_number H O hp (lo := 0) (hi := 30) (by decide) (by decide)
  unfold fX3_readClock_90
  rw [if_neg hsg]
  show Ck _ _ _ _ _ _ _ _ _ _ _ (gm (fX3_readNumber (nI 0) (nI 30) (tx t p n f)) _) _
  rw [rn, gm_some]
  rcases nu_ok (lo := 0) (hi := 30) O hp with ⟨r, e, n1, -, n3, n4⟩ | n1
  · rw [n1] at cn ⊢
    rcases cn with ⟨v, p', σ', y1, y2, y3, y4, y5⟩ | ⟨q, b, σ', T', y1, -⟩
    · cases y1
      obtain ⟨ri, q1, q2, q3, q4⟩ := hmk r n3
      rw [y2, gbT_l]
      exact (ck_tail M O hj hκ hh q1 q2 n4 y3 q3 (nI_ge0 (by omega)) q4 f0 f1).pre y4 (fun _ _ => rfl)
    · cases y1
  · rw [n1] at cn ⊢
    rcases cn with ⟨v, p', σ', y1, -⟩ | ⟨q, b, σ', T', y1, y2, y3, y4, y5, y6⟩
    · cases y1
    · cases y1
      rw [y2, gbT_r]
      unfold fX3_readClock_106
      rw [show sv (.inr (W.sk p)) = -1 from rfl, if_neg (by decide)]
      exact Or.inr ⟨_, _, _, b, σ', T', y6, sk_sk _, rfl, rfl, y3, y4, y5⟩
theorem r_kd {α : Type} (M : MW t W) (O : W.OK) {p : Nat} (hp : p ≤ W.tn) (n : Int32) (f : Nat → Int32) (K : Int32 → MS → Option (α × MS)) : (gm (fX3_nextLetter (tx t p n f)) fun r1 t2 => gm (fX3_kindOf r1 t2) K) = K (oI (txI 3 (W.nx p))) (tx t (W.sk p) n f) := by
  have hn := nx_le O p
  rw [r_next M O hp, gm_some]
  by_cases h0 : W.nx p = 0
  · have e : W.lx p = -1 := if_neg ((nx_0 O p).mp h0)
    rw [e, h0, txI_0 3 (by decide) (by decide)]
    rfl
  · rw [lx_pos O h0, m_kind (by omega), gm_some]
theorem b_ck (M : MW t W) (O : W.OK) {p j : Nat} {n : Int32} {f : Nat → Int32} (hj : j + 3 < 480) (hp : p ≤ W.tn) (H : CA σ T ex z o a W p) : Ck t W σ T ex z o a j n f (fX3_readClock (nI j) (tx t p n f)) (fX0_readClock ex z o (σ, 0, 0)) := by
  obtain ⟨s, r, -, -, -, -, hs, -⟩ := H.1.cn.2 3 (by decide) (by decide)
  have cl := c_letter H O hp (by decide) (by decide) hs
  unfold fX3_readClock fX0_readClock
  rw [r_kd M O hp, mast_nI (by omega) (by decide), tx_a, mald_nI (by omega) (by decide), hs]
  show Ck _ _ _ _ _ _ _ _ _ _ _ (if 0 ≤ (upd f j (oI (txI 3 (W.nx p)))) j then _ else _) (ccast [0] (σ, 0, 0) o (gbT (fX0_letter ex z o s (σ, 0, 0)) (σ, 0, 0) _ _))
  rw [upd_at, X_t H.2 (by decide)]
  unfold Wv.le at cl
  cases e : txI 3 (W.nx p) with
  | none =>
    rw [e] at cl
    rcases cl with ⟨v, p', σ', y1, -⟩ | ⟨q, b, σ', T', y1, y2, y3, y4, y5, y6⟩
    · cases y1
    · cases y1
      rw [y2, gbT_r, if_neg (by decide)]
      exact Or.inr ⟨_, _, _, b, σ', T', y6, sk_sk _, rfl, rfl, y3, y4, y5⟩
  | some κ =>
    have hκ : κ ≤ 5 := by
      have := ixL_lt _ _ _ _ _ e
      have h6 : (txt 3).length = 6 := rfl
      omega
    rw [e] at cl
    rcases cl with ⟨v, p', σ1, y1, y2, H1, K1, y5⟩ | ⟨q, b, σ', T', y1, -⟩
    · cases y1
      rw [y2, gbT_l, if_pos (show (0 : Int32) ≤ oI (some κ) from nI_ge0 (by omega)), X_t H1.2 (by decide)]
      simp only [lt]
      rw [show (tx t (W.sk p) n (upd f j (oI (some κ)))).1 16 = nI (W.sk p) from rfl, nI_1, tx_p, show oI (some κ) = nI κ from rfl]
      have rn := r_num M O y5 (lo := 0) (hi := 719) (by decide) (by decide) n (upd f j (nI κ))
      have cn := c_number H1 O y5 (lo := 0) (hi := 719) (by decide) (by decide)
      show Ck _ _ _ _ _ _ _ _ _ _ _ (gm (fX3_readNumber (nI 0) (nI 719) (tx t (W.sk p + 1) n (upd f j (nI κ)))) _) (gbT (fX0_number ex z o (nI 0) (nI 719) (σ1, 0, 0)) (σ1, 0, 0) _ _)
      rw [rn, gm_some, show (1 : Int32) = nI 1 from rfl, nI_add, mast_nI (by omega) (by decide), tx_a, mald_nI (by omega) (by decide)]
      show Ck _ _ _ _ _ _ _ _ _ _ _ (if 0 ≤ (upd (upd f j (nI κ)) (j + 1) (sv (W.nu (W.sk p + 1) 0 719))) (j + 1) then _ else _) _
      rw [upd_at]
      rcases nu_ok (lo := 0) (hi := 719) O y5 with ⟨h, p2, n1, -, n3, n4⟩ | n1
      · rw [n1] at cn ⊢
        rcases cn with ⟨v, p', σ2, w1, w2, H2, K2, w5⟩ | ⟨q, b, σ', T', w1, -⟩
        · cases w1
          rw [w2, gbT_l, if_pos (show (0 : Int32) ≤ sv (.inl (nI h, p2)) from nI_ge0 (by omega)), X_t H2.2 (by decide)]
          have hfj : (upd (upd f j (nI κ)) (j + 1) (nI h)) j = nI κ := by rw [upd_no _ _ (by omega), upd_at]
          have hfh : (upd (upd f j (nI κ)) (j + 1) (nI h)) (j + 1) = nI h := upd_at _ _ _
          have hfi : ∀ i, i < j → (upd (upd f j (nI κ)) (j + 1) (nI h)) i = f i := fun i hi => by rw [upd_no _ _ (by omega), upd_no _ _ (by omega)]
          obtain ⟨σ3, a1, H3, K3⟩ := c_pass (zz := z) H2 O n4 (x := 43) (by decide) (by decide) (0, 0)
          have hpa := pa_le O n4 (x := 43) (by decide)
          show Ck _ _ _ _ _ _ _ _ _ _ _ (gm (fX3_takes (nI 43) (tx t p2 n (upd (upd f j (nI κ)) (j + 1) (nI h)))) _) (gb (fX0_passes ex z o (nI 43) (σ2, 0, 0)) (σ2, 0, 0) _)
          rw [r_takes M O n4 (by decide) (by decide), gm_some, a1, gb_z]
          by_cases h43 : W.nx p2 = 43
          · rw [decide_eq_true h43, if_neg (show ¬ b2 true = 0 by decide), if_neg (show ¬ b2 true = 0 by decide), X_t H3.2 (by decide)]
            exact (ck_rate (mk := fun x => x) (sgn := nI 1) M O hj hκ n3 hpa H3 (by decide) (fun r hr => ⟨r, by omega, by omega, by rw [nI_mul, Nat.one_mul, nI_ofInt], nI_ofInt r⟩) hfj hfh).pre ((K1.tr K2).tr K3) hfi
          · rw [decide_eq_false h43, if_pos (show b2 false = 0 from rfl), if_pos (show b2 false = 0 from rfl), X_t H3.2 (by decide)]
            obtain ⟨σ4, a2, H4, K4⟩ := c_pass (zz := z) H3 O hpa (x := 45) (by decide) (by decide) (0, 0)
            have hpb := pa_le O hpa (x := 45) (by decide)
            show Ck _ _ _ _ _ _ _ _ _ _ _ (gm (fX3_takes (nI 45) (tx t (W.pa p2 43) n (upd (upd f j (nI κ)) (j + 1) (nI h)))) _) (gb (fX0_passes ex z o (nI 45) (σ3, 0, 0)) (σ3, 0, 0) _)
            rw [r_takes M O hpa (by decide) (by decide), gm_some, a2, gb_z]
            by_cases h45 : W.nx (W.pa p2 43) = 45
            · rw [decide_eq_true h45, if_neg (show ¬ b2 true = 0 by decide), if_neg (show ¬ b2 true = 0 by decide), X_t H4.2 (by decide)]
              exact (ck_rate (mk := fun x => -x) (sgn := -1) M O hj hκ n3 hpb H4 (by decide) (fun r hr => ⟨-r, by omega, by omega, by rw [Int32.neg_mul, Int32.one_mul, nI_ofInt, Int32.ofInt_neg], by show -nI r = _; rw [nI_ofInt, Int32.ofInt_neg]⟩) hfj hfh).pre (((K1.tr K2).tr K3).tr K4) hfi
            · rw [decide_eq_false h45, if_pos (show b2 false = 0 from rfl), if_pos (show b2 false = 0 from rfl)]
              unfold fX3_readClock_90
              rw [if_pos rfl]
              exact (ck_tail (r := 0) M O hj hκ n3 (by omega) (by omega) hpb H4 (by decide) (by decide) rfl hfj hfh).pre (((K1.tr K2).tr K3).tr K4) hfi
        · cases w1
      · rw [n1] at cn ⊢
        rcases cn with ⟨v, p', σ', w1, -⟩ | ⟨q, b, σ', T', w1, w2, w3, w4, w5, w6⟩
        · cases w1
        · cases w1
          rw [w2, gbT_r, if_neg (show ¬ (0 : Int32) ≤ sv (.inr (W.sk (W.sk p + 1))) by show ¬ (0 : Int32) ≤ -1; decide)]
          exact Or.inr ⟨_, _, _, b, σ', T', w6, sk_sk _, rfl, rfl, w3, w4, K1.tr w5⟩
    · cases y1
end O9h
