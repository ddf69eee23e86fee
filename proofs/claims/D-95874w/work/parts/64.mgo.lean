/-! the reference's hour -/
set_option maxRecDepth 100000
theorem MRb.to {t t' : MS} {R R' : Rc} (H : MRb t R) (S : Sm t t') (e1 : R'.n = R.n) (e2 : R'.W = R.W) (e3 : R'.mn = R.mn) (e4 : R'.k = R.k) (e5 : R'.r = R.r) (e6 : R'.sk = R.sk)
    (hd : ∀ w, w < 24 → t'.2.1 0 w = nI (R'.d w)) (hh : ∀ c, c < R.n → t'.2.1 0 (24 + c) = nI (R'.h c)) (hs : ∀ c, c < R.n → t'.2.1 0 (33 + c) = nI (R'.s c)) (hp : ∀ c, c < R.n → t'.2.1 0 (42 + c) = nI (R'.p c)) (h1 : t'.2.1 0 60 = nI R'.now) (h2 : t'.2.1 0 61 = nI R'.he) (h3 : t'.2.1 0 62 = nI R'.so) : MRb t' R' := by
  refine ⟨?_, ?_, ?_, hd, ?_, ?_, ?_, h1, h2, h3, ?_, ?_, ?_⟩
  · rw [S.1, e1]; exact H.n
  · rw [S.1, e2]; exact H.W
  · rw [S.1, e3]; exact H.mn
  · rw [e1]; exact hh
  · rw [e1]; exact hs
  · rw [e1]; exact hp
  · rw [S.2.1 1 (by decide), e1, e4]; exact H.k
  · rw [S.2.1 2 (by decide), e1, e5]; exact H.r
  · rw [S.2.1 3 (by decide), e6]; exact H.sk
section MG
variable {t : MS} {Q R : Rc}
theorem m_89 (H : MRb t Q) (B : Q.Ba) {c w q : Nat} (hc : c < Q.n) (hw : w < 4) (kc : Int32 → Int32 → Int32 → MS → Option (Int32 × MS)) : ∃ t', fX3_goOn_89 kc (nI w) (nI q) (nI c) (nI (Q.p c)) (nI (Q.stk c)) (nI (Q.p c + Q.far w c)) t = kc (nI w) (nI (q + 1)) (nI (c + 1)) t' ∧ MRb t' (Q.mv w c) ∧ Sf t t' := by
  have hn := B.n
  have hp := B.p c hc
  have hW := B.W1
  have hW0 := B.W0
  have hs := Rc.stk_lt B hc
  have hfar : Q.far w c ≤ 2 := by unfold Rc.far; split <;> omega
  have hnx := Rc.next_lt Q w c hW0
  have s1 : ∀ (s0 : Nat) (t1 : MS), s0 < 100 → ∃ so', (so' = if w = 2 then Q.so else Q.so + stro (Q.stk c)) ∧ ∃ t', fX3_goOn_130 kc (nI w) (nI q) (nI c) (nI (Q.stk c)) (nI s0) (42 + nI c) (setA t 0 (Q.p c) (nI (Q.stk c))) = kc (nI w) (nI (q + 1)) (nI (c + 1)) t' ∧ t' = setA (setA (setA (setA t 0 (Q.p c) (nI (Q.stk c))) 0 (42 + c) (nI s0)) 0 61 (nI (if w = 2 then Q.he else Q.he ||| 2 ^ c))) 0 62 (nI so') := by
    intro s0 _ _
    refine ⟨_, rfl, ?_⟩
    unfold fX3_goOn_130
    rw [ilit 42, nI_add, mast_nI (by omega) (by decide), ilit 61, mald_nI (by decide) (by decide), setA_same, upd_no _ _ (by omega), setA_same, upd_no _ _ (by omega), H.he, ifl 2 (by omega) (by decide)]
    by_cases h2 : w = 2
    · simp only [if_pos h2]
      unfold fX3_goOn_151
      rw [ilit 0, nI_or, Nat.or_zero, mast_nI (by decide) (by decide), ilit 62, mald_nI (by decide) (by decide), setA_same, upd_no _ _ (by omega), setA_same, upd_no _ _ (by omega), setA_same, upd_no _ _ (by omega), H.so, ifl 2 (by omega) (by decide), if_pos h2]
      unfold fX3_goOn_175 fX3_goOn_180
      rw [nI_add, Nat.add_zero, mast_nI (by decide) (by decide), nI_1, nI_1]
      exact ⟨_, rfl, rfl⟩
    · simp only [if_neg h2]
      unfold fX3_goOn_151
      rw [one_shl c (by omega), nI_or, mast_nI (by decide) (by decide), ilit 62, mald_nI (by decide) (by decide), setA_same, upd_no _ _ (by omega), setA_same, upd_no _ _ (by omega), setA_same, upd_no _ _ (by omega), H.so, ifl 2 (by omega) (by decide), if_neg h2, m_strokesOf (by omega), gm_some]
      unfold fX3_goOn_175 fX3_goOn_180
      rw [nI_add, mast_nI (by decide) (by decide), nI_1, nI_1]
      exact ⟨_, rfl, rfl⟩
  have s2 : ∃ t', fX3_goOn_89 kc (nI w) (nI q) (nI c) (nI (Q.p c)) (nI (Q.stk c)) (nI (Q.p c + Q.far w c)) t = kc (nI w) (nI (q + 1)) (nI (c + 1)) t' ∧ t' = setA (setA (setA (setA t 0 (Q.p c) (nI (Q.stk c))) 0 (42 + c) (nI (Q.next w c))) 0 61 (nI (if w = 2 then Q.he else Q.he ||| 2 ^ c))) 0 62 (nI (if w = 2 then Q.so else Q.so + stro (Q.stk c))) := by
    unfold fX3_goOn_89
    rw [mast_nI (by omega) (by decide), setA_1, H.W, nI_sub1 (by omega), ifle (Q.W - 1) rfl rfl (by omega) (by omega)]
    unfold Rc.next
    by_cases h : Q.p c + Q.far w c ≤ Q.W - 1
    · rw [if_pos h, if_pos h]
      obtain ⟨so', rfl, r⟩ := s1 (Q.p c + Q.far w c) t (by omega)
      exact r
    · rw [if_neg h, if_neg h]
      obtain ⟨so', rfl, r⟩ := s1 (Q.W - 1) t (by omega)
      exact r
  obtain ⟨t', r1, r2⟩ := s2
  have hSf : Sf t t' := by
    rw [r2]
    exact (((Sf.set _ _ (Or.inl (by omega))).tr (Sf.set _ _ (Or.inl (by omega)))).tr (Sf.set _ _ (Or.inr (by omega)))).tr (Sf.set _ _ (Or.inr (by omega)))
  have hA : t'.2.1 0 = upd (upd (upd (upd (t.2.1 0) (Q.p c) (nI (Q.stk c))) (42 + c) (nI (Q.next w c))) 61 (nI (if w = 2 then Q.he else Q.he ||| 2 ^ c))) 62 (nI (if w = 2 then Q.so else Q.so + stro (Q.stk c))) := by
    rw [r2, setA_same, setA_same, setA_same, setA_same]
  refine ⟨t', r1, H.to hSf.1 rfl rfl rfl rfl rfl rfl ?_ ?_ ?_ ?_ ?_ ?_ ?_, hSf⟩
  · intro x hx
    rw [hA, upd_no _ _ (by omega), upd_no _ _ (by omega), upd_no _ _ (by omega)]
    show _ = nI (up Q.d (Q.p c) (Q.stk c) x)
    by_cases hq : x = Q.p c
    · subst hq; rw [upd_at, up_self]
    · rw [upd_no _ _ hq, up_ne _ _ hq]; exact H.d x hx
  · intro x hx; rw [hA, upd_no _ _ (by omega), upd_no _ _ (by omega), upd_no _ _ (by omega), upd_no _ _ (by omega)]; exact H.h x hx
  · intro x hx; rw [hA, upd_no _ _ (by omega), upd_no _ _ (by omega), upd_no _ _ (by omega), upd_no _ _ (by omega)]; exact H.s x hx
  · intro x hx
    rw [hA, upd_no _ _ (by omega), upd_no _ _ (by omega)]
    show _ = nI (up Q.p c (Q.next w c) x)
    by_cases hq : x = c
    · subst hq; rw [upd_at, up_self]
    · rw [upd_no _ _ (by omega), up_ne _ _ hq, upd_no _ _ (by omega)]; exact H.p x hx
  · rw [hA, upd_no _ _ (by omega), upd_no _ _ (by omega), upd_no _ _ (by omega), upd_no _ _ (by omega)]; exact H.now
  · rw [hA, upd_no _ _ (by omega), upd_at]; rfl
  · rw [hA, upd_at]; rfl
/-- the first loop -/
theorem m_20 (B : R.Ba) {w : Nat} (hw : w < 4) : ∀ (j c fuel : Nat) (t : MS), c + j = R.n → j < fuel → MRb t (R.lp w c).1 → ∃ t', fX3_goOn_20 fuel (nI w) (nI (R.lp w c).2) (nI c) t = fX3_goOn_188 1000 (nI (R.lp w R.n).2) 0 t' ∧ MRb t' (R.lp w R.n).1 ∧ Sf t t'
  | 0, c, fuel, t, hj, hf, H => by
    obtain ⟨m, rfl⟩ : ∃ m, fuel = m + 1 := ⟨fuel - 1, by omega⟩
    obtain rfl : c = R.n := by omega
    have hn := B.n
    rw [fX3_goOn_20, H.n, (Rc.lp_keep R w R.n).1, if_pos (nI_le (Nat.le_refl _) (by omega))]
    exact ⟨t, rfl, H, Sf.rf t⟩
  | j + 1, c, fuel, t, hj, hf, H => by
    obtain ⟨m, rfl⟩ : ∃ m, fuel = m + 1 := ⟨fuel - 1, by omega⟩
    have hn := B.n
    have hcR : c < R.n := by omega
    have BQ := Rc.lp_Ba B w c (by omega)
    have kp := Rc.lp_keep R w c
    have hc : c < (R.lp w c).1.n := by rw [kp.1]; exact hcR
    have e1 : R.lp w (c + 1) = Rc.t1 w c (R.lp w c) := rfl
    have hk := BQ.k c hc
    rw [fX3_goOn_20, H.n, kp.1, if_neg (nI_ge hcR (by omega)), m_isHome H BQ hc, gm_some]
    by_cases hp : (R.lp w c).1.p c = (R.lp w c).1.W - 1
    · have e2 : R.lp w (c + 1) = R.lp w c := by rw [e1]; unfold Rc.t1; rw [if_neg (fun g => g.1 hp)]
      rw [if_pos hp, if_neg (by decide)]
      unfold fX3_goOn_180
      rw [nI_1]
      have r := m_20 B hw j (c + 1) m t (by omega) (by omega) (by rw [e2]; exact H)
      rw [e2] at r
      exact r
    · rw [if_neg hp, if_pos rfl, m_goes H BQ hc hp hw, gm_some]
      by_cases hg : (R.lp w c).1.goC w c
      · have e2 : R.lp w (c + 1) = ((R.lp w c).1.mv w c, (R.lp w c).2 + 1) := by rw [e1]; unfold Rc.t1; rw [if_pos ⟨hp, hg⟩]
        rw [if_pos hg, if_neg (by decide), ilit 42, nI_add, mald_nI (by omega) (by decide), H.p c hc, m_strikes H BQ hc, gm_some, mald_nI (by omega) (by decide), H.k c hc, ifl 1 (by omega) (by decide)]
        have fin' : ∀ X : Option (Int32 × MS), (∃ t1, X = fX3_goOn_20 m (nI w) (nI ((R.lp w c).2 + 1)) (nI (c + 1)) t1 ∧ MRb t1 ((R.lp w c).1.mv w c) ∧ Sf t t1) → ∃ t', X = fX3_goOn_188 1000 (nI (R.lp w R.n).2) 0 t' ∧ MRb t' (R.lp w R.n).1 ∧ Sf t t' := by
          rintro X ⟨t1, g1, g2, g3⟩
          obtain ⟨t2, q1, q2, q3⟩ := m_20 B hw j (c + 1) m t1 (by omega) (by omega) (by rw [e2]; exact g2)
          rw [e2] at q1
          exact ⟨t2, g1.trans q1, q2, g3.tr q3⟩
        refine fin' _ ?_
        by_cases h1 : (R.lp w c).1.k c = 1
        · rw [if_pos h1, ifl 1 (by omega) (by decide)]
          by_cases hw1 : w = 1
          · have e3 : (R.lp w c).1.far w c = 2 := by unfold Rc.far; rw [if_pos ⟨h1, hw1⟩]
            rw [if_pos hw1, ilit 2, nI_add]
            have g := m_89 H BQ hc hw (q := (R.lp w c).2) (fun a0 a1 a2 a3 => fX3_goOn_20 m a0 a1 a2 a3)
            rw [e3] at g
            exact g
          · have e3 : (R.lp w c).1.far w c = 1 := by unfold Rc.far; rw [if_neg (fun g => hw1 g.2)]
            rw [if_neg hw1]
            unfold fX3_goOn_85
            rw [ilit 1, nI_add]
            have g := m_89 H BQ hc hw (q := (R.lp w c).2) (fun a0 a1 a2 a3 => fX3_goOn_20 m a0 a1 a2 a3)
            rw [e3] at g
            exact g
        · have e3 : (R.lp w c).1.far w c = 1 := by unfold Rc.far; rw [if_neg (fun g => h1 g.1)]
          rw [if_neg h1]
          unfold fX3_goOn_85
          rw [ilit 1, nI_add]
          have g := m_89 H BQ hc hw (q := (R.lp w c).2) (fun a0 a1 a2 a3 => fX3_goOn_20 m a0 a1 a2 a3)
          rw [e3] at g
          exact g
      · have e2 : R.lp w (c + 1) = R.lp w c := by rw [e1]; unfold Rc.t1; rw [if_neg (fun g => hg g.2)]
        rw [if_neg hg, if_pos rfl]
        unfold fX3_goOn_180
        rw [nI_1]
        have r := m_20 B hw j (c + 1) m t (by omega) (by omega) (by rw [e2]; exact H)
        rw [e2] at r
        exact r
/-- the second loop -/
theorem m_188 (B : R.Ba) (q : Nat) : ∀ (j c fuel : Nat) (t : MS), c + j = R.n → j < fuel → MRb t (R.lr c) → ∃ t', fX3_goOn_188 fuel (nI q) (nI c) t = fX3_goOn_220 1000 (nI q) 0 t' ∧ MRb t' (R.lr R.n).later ∧ Sf t t'
  | 0, c, fuel, t, hj, hf, H => by
    obtain ⟨m, rfl⟩ : ∃ m, fuel = m + 1 := ⟨fuel - 1, by omega⟩
    obtain rfl : c = R.n := by omega
    have hn := B.n
    have hnow := B.now
    rw [fX3_goOn_188, H.n, (Rc.lr_keep R R.n).1, if_pos (nI_le (Nat.le_refl _) (by omega)), ilit 60, mald_nI (by decide) (by decide), H.now, nI_1, mast_nI (by decide) (by decide)]
    refine ⟨_, rfl, ?_, Sf.set _ _ (Or.inr (by omega))⟩
    have kp := Rc.lr_keep R R.n
    refine H.put rfl rfl rfl rfl rfl rfl ?_ ?_ ?_ ?_ ?_ ?_ ?_
    · intro x hx; rw [upd_no _ _ (by omega)]; exact H.d x hx
    · intro x hx; rw [kp.1] at hx; rw [upd_no _ _ (by omega)]; exact H.h x (by rw [kp.1]; exact hx)
    · intro x hx; rw [kp.1] at hx; rw [upd_no _ _ (by omega)]; exact H.s x (by rw [kp.1]; exact hx)
    · intro x hx; rw [kp.1] at hx; rw [upd_no _ _ (by omega)]; exact H.p x (by rw [kp.1]; exact hx)
    · rw [upd_at]; rfl
    · rw [upd_no _ _ (by omega)]; exact H.he
    · rw [upd_no _ _ (by omega)]; exact H.so
  | j + 1, c, fuel, t, hj, hf, H => by
    obtain ⟨m, rfl⟩ : ∃ m, fuel = m + 1 := ⟨fuel - 1, by omega⟩
    have hn := B.n
    have BQ := Rc.lr_Ba B c (by omega)
    have kp := Rc.lr_keep R c
    obtain ⟨t1, g1, g2, g3⟩ := m_run H BQ (c := c) (by rw [kp.1]; omega)
    rw [fX3_goOn_188, H.n, kp.1, if_neg (nI_ge (by omega) (by omega)), g1, gm_some, nI_1]
    obtain ⟨t2, q1, q2, q3⟩ := m_188 B q j (c + 1) m t1 (by omega) (by omega) g2
    exact ⟨t2, q1, q2, g3.tr q3⟩
/-- the third loop: who is home, and has no finish yet -/
theorem m_220 (B : R.Ba) (hz : 0 < R.now) (q : Nat) (F : Nat → Nat) (hF : ∀ c, c < R.n → F c < 2 ^ 30) : ∀ (j c fuel : Nat) (t : MS), c + j = R.n → j < fuel → MRb t R → (∀ i, i < R.n → t.2.1 0 (51 + i) = fin (if i < c ∧ R.p i = R.W - 1 ∧ F i = 0 then R.now else F i)) → ∃ t', fX3_goOn_220 fuel (nI q) (nI c) t = some (nI q, t') ∧ MRb t' R ∧ Sm t t' ∧ ∀ i, i < R.n → t'.2.1 0 (51 + i) = fin (if R.p i = R.W - 1 ∧ F i = 0 then R.now else F i)
  | 0, c, fuel, t, hj, hf, H, hA => by
    obtain ⟨m, rfl⟩ : ∃ m, fuel = m + 1 := ⟨fuel - 1, by omega⟩
    obtain rfl : c = R.n := by omega
    have hn := B.n
    rw [fX3_goOn_220, H.n, if_pos (nI_le (Nat.le_refl _) (by omega))]
    refine ⟨t, rfl, H, Sm.rf t, fun i hi => ?_⟩
    rw [hA i hi]
    simp only [hi, true_and]
  | j + 1, c, fuel, t, hj, hf, H, hA => by
    obtain ⟨m, rfl⟩ : ∃ m, fuel = m + 1 := ⟨fuel - 1, by omega⟩
    have hn := B.n
    have hc : c < R.n := by omega
    have hc' : t.2.1 0 (51 + c) = fin (F c) := by
      rw [hA c hc]
      simp only [Nat.lt_irrefl, false_and, if_false]
    have hFc := hF c hc
    have put : ∀ v : Int32, v = fin (if R.p c = R.W - 1 ∧ F c = 0 then R.now else F c) → ∃ t', fX3_goOn_277 (fun a0 a1 a2 => fX3_goOn_220 m a0 a1 a2) (nI q) (nI c) v (nI (51 + c)) t = some (nI q, t') ∧ MRb t' R ∧ Sm t t' ∧ ∀ i, i < R.n → t'.2.1 0 (51 + i) = fin (if R.p i = R.W - 1 ∧ F i = 0 then R.now else F i) := by
      intro v hv
      unfold fX3_goOn_277
      rw [mast_nI (by omega) (by decide), nI_1]
      obtain ⟨t2, q1, q2, q3, q4⟩ := m_220 B hz q F hF j (c + 1) m (setA t 0 (51 + c) v) (by omega) (by omega) (H.to (Sm.set _ _ _) rfl rfl rfl rfl rfl rfl
        (fun x hx => by rw [setA_same, upd_no _ _ (by omega)]; exact H.d x hx) (fun x hx => by rw [setA_same, upd_no _ _ (by omega)]; exact H.h x hx) (fun x hx => by rw [setA_same, upd_no _ _ (by omega)]; exact H.s x hx) (fun x hx => by rw [setA_same, upd_no _ _ (by omega)]; exact H.p x hx)
        (by rw [setA_same, upd_no _ _ (by omega)]; exact H.now) (by rw [setA_same, upd_no _ _ (by omega)]; exact H.he) (by rw [setA_same, upd_no _ _ (by omega)]; exact H.so)) (fun i hi => by
          rw [setA_same]
          by_cases hq : i = c
          · subst hq
            rw [upd_at, hv]
            simp only [Nat.lt_succ_self, true_and]
          · rw [upd_no _ _ (by omega), hA i hi]
            have : (i < c + 1) ↔ (i < c) := by omega
            simp only [this])
      exact ⟨t2, q1, q2, (Sm.set t _ _).tr q3, q4⟩
    rw [fX3_goOn_220, H.n, if_neg (nI_ge hc (by omega)), m_isHome H B hc, gm_some]
    by_cases hp : R.p c = R.W - 1
    · rw [if_pos hp, if_neg (by decide), ilit 51, nI_add, mald_nI (by omega) (by decide), hc']
      by_cases h0 : F c = 0
      · rw [if_pos (by rw [h0]; rfl), ilit 60, mald_nI (by decide) (by decide), H.now]
        exact put _ (by
          rw [if_pos ⟨hp, h0⟩]
          unfold fin
          rw [if_neg (by omega)])
      · rw [if_neg (by
          unfold fin
          rw [if_neg h0]
          intro g
          have := congrArg Int32.toInt g
          rw [nI_toInt (by omega)] at this
          have h4 : (-4 : Int32).toInt = -4 := by decide
          rw [h4] at this
          omega)]
        unfold fX3_goOn_268
        rw [ilit 51, nI_add, mald_nI (by omega) (by decide), hc']
        exact put _ (by rw [if_neg (fun g => h0 g.2)])
    · rw [if_neg hp, if_pos rfl]
      unfold fX3_goOn_268
      rw [ilit 51, nI_add, mald_nI (by omega) (by decide), hc']
      exact put _ (by rw [if_neg (fun g => hp g.1)])
theorem Rc.lp_f {R : Rc} (O : R.OK) (w : Nat) : ∀ c, c ≤ R.n → (∀ i, c ≤ i → (R.lp w c).1.p i = R.p i ∧ (R.lp w c).1.f i = R.f i) ∧ ∀ i, i < R.n → (R.lp w c).1.f i = if (R.lp w c).1.p i = R.W - 1 ∧ R.f i = 0 then R.now + 1 else R.f i
  | 0, _ => ⟨fun i _ => ⟨rfl, rfl⟩, fun i hi => by
      show R.f i = if R.p i = R.W - 1 ∧ R.f i = 0 then _ else _
      rw [if_neg]
      intro g
      exact (O.f i hi).mp g.2 g.1⟩
  | c + 1, hc => by
    obtain ⟨h1, h2⟩ := Rc.lp_f O w c (by omega)
    have kp := Rc.lp_keep R w c
    have e1 : R.lp w (c + 1) = Rc.t1 w c (R.lp w c) := rfl
    by_cases g : (R.lp w c).1.p c ≠ (R.lp w c).1.W - 1 ∧ (R.lp w c).1.goC w c
    · have e2 : R.lp w (c + 1) = ((R.lp w c).1.mv w c, (R.lp w c).2 + 1) := by rw [e1]; unfold Rc.t1; rw [if_pos g]
      rw [e2]
      have hfc : R.f c = 0 := by
        refine (O.f c (by omega)).mpr ?_
        have := g.1
        rw [(h1 c (Nat.le_refl c)).1, kp.2.1] at this
        exact this
      have ef : ((R.lp w c).1.mv w c).f = if (R.lp w c).1.next w c = (R.lp w c).1.W - 1 then up (R.lp w c).1.f c ((R.lp w c).1.now + 1) else (R.lp w c).1.f := rfl
      have ep : ((R.lp w c).1.mv w c).p = up (R.lp w c).1.p c ((R.lp w c).1.next w c) := rfl
      refine ⟨fun i hi => ?_, fun i hi => ?_⟩
      · show ((R.lp w c).1.mv w c).p i = _ ∧ ((R.lp w c).1.mv w c).f i = _
        rw [ep, ef, up_ne _ _ (by omega)]
        refine ⟨(h1 i (by omega)).1, ?_⟩
        split
        · rw [up_ne _ _ (by omega)]; exact (h1 i (by omega)).2
        · exact (h1 i (by omega)).2
      · show ((R.lp w c).1.mv w c).f i = if ((R.lp w c).1.mv w c).p i = _ ∧ _ then _ else _
        rw [ep, ef]
        by_cases hq : i = c
        · subst hq
          rw [up_self, kp.2.1, kp.2.2.2.2.2.2.1]
          by_cases hx : (R.lp w i).1.next w i = R.W - 1
          · rw [if_pos hx, if_pos ⟨hx, hfc⟩, up_self]
          · rw [if_neg hx, if_neg (fun g => hx g.1)]; exact (h1 i (Nat.le_refl i)).2
        · rw [up_ne _ _ hq, ← h2 i hi]
          split
          · rw [up_ne _ _ hq]
          · rfl
    · have e2 : R.lp w (c + 1) = R.lp w c := by rw [e1]; unfold Rc.t1; rw [if_neg g]
      rw [e2]
      exact ⟨fun i hi => h1 i (by omega), h2⟩
theorem MRb.quiet (H : MRb t R) (hn : R.n ≤ 9) : MRb (setA (setA t 0 61 0) 0 62 0) R.quiet := by
  have hA : (setA (setA t 0 61 0) 0 62 0).2.1 0 = upd (upd (t.2.1 0) 61 0) 62 0 := by rw [setA_same, setA_same]
  refine H.to ((Sm.set t _ _).tr (Sm.set _ _ _)) rfl rfl rfl rfl rfl rfl ?_ ?_ ?_ ?_ ?_ ?_ ?_
  · intro x hx; rw [hA, upd_no _ _ (by omega), upd_no _ _ (by omega)]; exact H.d x hx
  · intro x hx; rw [hA, upd_no _ _ (by omega), upd_no _ _ (by omega)]; exact H.h x hx
  · intro x hx; rw [hA, upd_no _ _ (by omega), upd_no _ _ (by omega)]; exact H.s x hx
  · intro x hx; rw [hA, upd_no _ _ (by omega), upd_no _ _ (by omega)]; exact H.p x hx
  · rw [hA, upd_no _ _ (by omega), upd_no _ _ (by omega)]; exact H.now
  · rw [hA, upd_no _ _ (by omega), upd_at]; rfl
  · rw [hA, upd_at]; rfl
theorem m_goOn (H : MR t R) (O : R.OK) (hnow : R.now + 1 < 100000) {w : Nat} (hw : w < 4) : ∃ t', fX3_goOn (nI w) t = some (nI (R.goN w), t') ∧ MR t' (R.go w) ∧ Sm t t' := by
  have B := O.b
  have hn := B.n
  unfold fX3_goOn
  rw [ilit 61, mast_nI (by decide) (by decide), ilit 62, mast_nI (by decide) (by decide)]
  have H0 : MRb (setA (setA t 0 61 0) 0 62 0) (R.lp w 0).1 := H.1.quiet hn
  obtain ⟨t1, r1, H1, s1⟩ := m_20 B hw R.n 0 1000 (setA (setA t 0 61 0) 0 62 0) (by omega) (by omega) H0
  have kp := Rc.lp_keep R w R.n
  have B1 := Rc.lp_Ba B w R.n (Nat.le_refl _)
  obtain ⟨t2, r2, H2, s2⟩ := m_188 B1 (R.lp w R.n).2 R.n 0 1000 t1 (by rw [kp.1]; omega) (by omega) H1
  rw [kp.1] at H2
  have B2 : (R.go w).Ba := by
    have b := Rc.lr_Ba B1 R.n (by rw [kp.1]; exact Nat.le_refl _)
    have kr := Rc.lr_keep (R.lp w R.n).1 R.n
    exact ⟨b.n, b.W0, b.W1, b.d, b.k, b.h, b.r0, b.r1, b.s, b.p, by show ((R.lp w R.n).1.lr R.n).now + 1 < 100000; rw [kr.2.2.2.2.1, kp.2.2.2.2.2.2.1]; exact hnow, b.sk, b.mn0, b.mn1⟩
  have kr := Rc.lr_keep (R.lp w R.n).1 R.n
  have en : (R.go w).n = R.n := kr.1.trans kp.1
  have eW : (R.go w).W = R.W := kr.2.1.trans kp.2.1
  have enow : (R.go w).now = R.now + 1 := by show ((R.lp w R.n).1.lr R.n).now + 1 = _; rw [kr.2.2.2.2.1, kp.2.2.2.2.2.2.1]
  have ep : (R.go w).p = (R.lp w R.n).1.p := kr.2.2.2.2.2.2.2.1
  have ef : (R.go w).f = (R.lp w R.n).1.f := kr.2.2.2.2.2.2.2.2.1
  obtain ⟨t3, r3, H3, s3, f3⟩ := m_220 B2 (by rw [enow]; omega) (R.lp w R.n).2 R.f (fun c hc => by
    have h1 := O.f1 c (by rw [en] at hc; exact hc)
    omega) R.n 0 1000 t2 (by rw [en]; omega) (by omega) H2 (fun i hi => by
      rw [en] at hi
      simp only [Nat.not_lt_zero, false_and, if_false]
      rw [s2.2 i (by omega), s1.2 i (by omega), setA_same, upd_no _ _ (by omega), setA_same, upd_no _ _ (by omega)]
      exact H.2 i hi)
  refine ⟨t3, ?_, ⟨H3, fun i hi => ?_⟩, (((Sm.set t _ _).tr (Sm.set _ _ _)).tr s1.1).tr (s2.1.tr s3)⟩
  · have e0 : (R.lp w 0).2 = 0 := rfl
    rw [e0] at r1
    exact r1.trans (r2.trans r3)
  · rw [f3 i hi, ep, eW, enow, ef, (Rc.lp_f O w R.n (Nat.le_refl _)).2 i (by rw [en] at hi; exact hi)]
end MG
