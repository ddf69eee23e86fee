/-! the component's clocks: strikes, goes, runs -/
set_option maxRecDepth 100000
section CR2
variable {ex : Nat → Option Nat} {z : Nat} {t : St} {A : Ad} {R : Rc} {al : Int32}
theorem c_twin (H : RR t.1 A R al) (B : R.Ba) : ∀ (d z c : Nat), c < R.n → c < d → R.k c = 4 → ∀ t' : St, t'.1 = t.1 → fX8_shown_n ex d z (A.ca c) A.r t' = some (nI (R.sh c), t')
  | 0, _, _, _, h, _, _, _ => absurd h (Nat.not_lt_zero _)
  | d + 1, z, c, hc, hd, hk4, t', ht => by
    have H' : RR t'.1 A R al := by rw [ht]; exact H
    have hn := B.n
    rw [fX8_shown_n]
    unfold fX8_shown_st
    rw [cgI_at (H'.ck c hc) (kin (B.k c hc)) rfl]
    cases c with
    | zero =>
      rw [if_pos (show nI 0 = 0 by decide), ccast_at (H'.ck 0 hc) (by rw [hk4]; decide), c_plainShown (t := (t'.1, 0, 0)) H' B hc, gb_pure]
      show _ = some (nI (if R.k 0 = 3 then _ else _), _)
      rw [if_neg (by omega)]
    | succ c =>
      have e1 : nI (c + 1) - 1 = nI c := nI_sub1 (by omega)
      have e2 : R.sh (c + 1) = R.sh c := by
        show (if R.k (c + 1) = 4 then _ else _) = _
        rw [if_pos hk4]
      rw [if_neg (nI_ne0 (by omega) (by omega)), cgI_at (H'.ck _ hc) (kin (B.k _ hc)) rfl, ccast_at H'.ra (by decide), e1, c_clock (t := (t'.1, 0, 0)) H' B (by omega), gb_pure, ccast_at (H'.ck c (by omega)) (kin (B.k c (by omega)))]
      rw [c_shown_st (t := (t'.1, 0, 0)) H' B (by omega) _ (fun h => c_twin H B d _ c (by omega) (by omega) h (t'.1, 0, 0) ht), gb_pure, e2]
theorem c_shown (H : RR t.1 A R al) (B : R.Ba) {c : Nat} (hc : c < R.n) : fv_X4_shown ex z (A.ca c) A.r t = some (nI (R.sh c), t) := by
  have hn := B.n
  exact c_shown_st H B hc (fun z h0 h1 t => fX8_shown ex z h0 h1 t) (fun h => c_twin H B 10 z c hc (by omega) h t rfl)
theorem c_strikes (H : RR t.1 A R al) (B : R.Ba) {c : Nat} (hc : c < R.n) : fX4_strikes ex z (A.ca c) A.r t = some (nI (R.stk c), t) := by
  have h1 := Rc.sh_lt B c hc
  unfold fX4_strikes
  rw [ccast_at (H.ck c hc) (kin (B.k c hc)), c_shown (t := (t.1, 0, 0)) H B hc, gb_pure, ilit 60, nI_quo (by omega) (by decide)]
  rfl
theorem c_strokes (H : RR t.1 A R al) (B : R.Ba) {c : Nat} (hc : c < R.n) : fX4_strokes ex z (A.ca c) A.r t = some (nI (stro (R.stk c)), t) := by
  have h1 := Rc.stk_lt B hc
  unfold fX4_strokes stro
  rw [ccast_at (H.ck c hc) (kin (B.k c hc)), c_strikes (t := (t.1, 0, 0)) H B hc, gb_pure, ifl 0 (by omega) (by decide)]
  by_cases h : R.stk c = 0
  · rw [if_pos h, if_pos h]; rfl
  · rw [if_neg h, if_neg h, ccast_at (H.ck c hc) (kin (B.k c hc)), c_strikes (t := (t.1, 0, 0)) H B hc, gb_pure]
theorem c_goes4 (H : RR t.1 A R al) (B : R.Ba) {c : Nat} (hc : c < R.n) (hp : R.p c ≠ R.W - 1) : fX4_goes ex z (A.ca c) A.r t = some (if R.d (R.p c + 1) = 12 ∨ R.d (R.p c + 1) = R.stk c then 1 else 0, t) := by
  have hpp := B.p c hc
  have hW := B.W1
  have hs := Rc.stk_lt B hc
  have hd := B.d (R.p c + 1) (by omega)
  unfold fX4_goes
  rw [cgI_at (H.ck c hc) (kin (B.k c hc)) rfl, ccast_at H.ra (by decide), nI_1, c_dial (t := (t.1, 0, 0)) H (by omega), gb_pure, ifl 12 (by omega) (by decide)]
  by_cases h : R.d (R.p c + 1) = 12
  · rw [if_pos h, if_pos (Or.inl h)]
  · rw [if_neg h, ccast_at (H.ck c hc) (kin (B.k c hc)), c_strikes (t := (t.1, 0, 0)) H B hc, gb_pure, ife (R.stk c) rfl (by omega) (by omega)]
    simp only [h, false_or]
    split <;> rfl
theorem c_goes (H : RR t.1 A R al) (B : R.Ba) {c w : Nat} (hc : c < R.n) (hp : R.p c ≠ R.W - 1) (hw : w < 4) (hs : skyOf R al w) : fv_X4_goes ex z (A.ca c) A.r t = some (if R.goC w c then 1 else 0, t) := by
  have hk := B.k c hc
  have hnow := B.now
  unfold fv_X4_goes
  rw [ccls_at (H.ck c hc)]
  have g4 := c_goes4 (ex := ex) (z := z) H B hc hp
  have plain : R.k c ≠ 3 → R.k c ≠ 5 → (if R.goC w c then (1 : Int32) else 0) = if R.d (R.p c + 1) = 12 ∨ R.d (R.p c + 1) = R.stk c then 1 else 0 := by
    intro h3 h5
    simp only [Rc.goC, h3, h5, false_and, not_false_eq_true, true_and, or_false]
  rcases (show R.k c = 0 ∨ R.k c = 1 ∨ R.k c = 2 ∨ R.k c = 3 ∨ R.k c = 4 ∨ R.k c = 5 by omega) with h | h | h | h | h | h
  · rw [plain (by omega) (by omega), if_pos (by omega), g4]
  · rw [plain (by omega) (by omega), if_neg (by omega), if_pos (by omega), g4]
  · rw [plain (by omega) (by omega), if_neg (by omega), if_neg (by omega), if_pos (by omega), g4]
  · rw [if_neg (by omega), if_neg (by omega), if_neg (by omega), if_pos (by omega)]
    unfold fX7_goes
    rw [ccast_at H.ra (by decide), c_sky (t := (t.1, 0, 0)) H B hs, gb_pure, ifl 0 (by omega) (by decide)]
    by_cases h0 : w = 0
    · rw [if_pos h0, ccast_at (H.ck c hc) (by rw [h]; decide), c_goes4 (t := (t.1, 0, 0)) H B hc hp, gb_pure]
      have e : (if R.goC w c then (1 : Int32) else 0) = if R.d (R.p c + 1) = 12 ∨ R.d (R.p c + 1) = R.stk c then 1 else 0 := by
        simp only [Rc.goC, h0, ne_eq, not_true_eq_false, and_false, not_false_eq_true, true_and, h, show ¬ (3 = 5) by decide, false_and, or_false]
      rw [e]
      split
      · rfl
      · rfl
    · rw [if_neg h0, if_neg (fun g => g.1 ⟨h, h0⟩)]
  · rw [plain (by omega) (by omega), if_neg (by omega), if_neg (by omega), if_neg (by omega), if_neg (by omega), if_pos (by omega), g4]
  · rw [if_neg (by omega), if_neg (by omega), if_neg (by omega), if_neg (by omega), if_neg (by omega), if_pos (by omega)]
    unfold fX9_goes
    rw [ccast_at H.ra (by decide), c_hour (t := (t.1, 0, 0)) H, gb_pure, ilit 6, pk_rem' 6 (by omega) (by decide) (by decide), ifl 0 (by omega) (by decide)]
    by_cases h0 : R.now % 6 = 0
    · rw [if_pos h0, if_pos ⟨fun g => by omega, Or.inr (Or.inr ⟨h, h0⟩)⟩]
    · rw [if_neg h0, ccast_at (H.ck c hc) (by rw [h]; decide), c_goes4 (t := (t.1, 0, 0)) H B hc hp, gb_pure]
      have e : (if R.goC w c then (1 : Int32) else 0) = if R.d (R.p c + 1) = 12 ∨ R.d (R.p c + 1) = R.stk c then 1 else 0 := by
        simp only [Rc.goC, h0, h, show ¬ (5 = 3) by decide, false_and, and_false, not_false_eq_true, true_and, or_false]
      rw [e]
      split
      · rfl
      · rfl
theorem c_far (H : RR t.1 A R al) (B : R.Ba) {c w : Nat} (hc : c < R.n) (hw : w < 4) (hs : skyOf R al w) : fv_X4_far ex z (A.ca c) A.r t = some (nI (R.far w c), t) := by
  have hk := B.k c hc
  unfold fv_X4_far
  rw [ccls_at (H.ck c hc)]
  have plain : R.k c ≠ 1 → R.far w c = 1 := by intro h; unfold Rc.far; rw [if_neg (fun g => h g.1)]
  rcases (show R.k c = 0 ∨ R.k c = 1 ∨ R.k c = 2 ∨ R.k c = 3 ∨ R.k c = 4 ∨ R.k c = 5 by omega) with h | h | h | h | h | h
  · rw [plain (by omega), if_pos (by omega)]; rfl
  · rw [if_neg (by omega), if_pos (by omega)]
    unfold fX5_far fX4_far
    rw [ccast_at H.ra (by decide), c_sky (t := (t.1, 0, 0)) H B hs, gb_pure, ifl 1 (by omega) (by decide)]
    by_cases h1 : w = 1
    · rw [if_pos h1, ccast_at (H.ck c hc) (by rw [h]; decide), gb_pure]
      unfold Rc.far
      rw [if_pos ⟨h, h1⟩]; rfl
    · rw [if_neg h1, ccast_at (H.ck c hc) (by rw [h]; decide), gb_pure]
      unfold Rc.far
      rw [if_neg (fun g => h1 g.2)]; rfl
  · rw [plain (by omega), if_neg (by omega), if_neg (by omega), if_pos (by omega)]; rfl
  · rw [plain (by omega), if_neg (by omega), if_neg (by omega), if_neg (by omega), if_pos (by omega)]; rfl
  · rw [plain (by omega), if_neg (by omega), if_neg (by omega), if_neg (by omega), if_neg (by omega), if_pos (by omega)]; rfl
  · rw [plain (by omega), if_neg (by omega), if_neg (by omega), if_neg (by omega), if_neg (by omega), if_neg (by omega), if_pos (by omega)]; rfl
theorem c_isRunning (H : RR t.1 A R al) (B : R.Ba) {c : Nat} (hc : c < R.n) : fv_X4_isRunning ex z (A.ca c) t = some (if R.k c ≠ 2 ∧ R.k c ≠ 3 ∧ 0 < R.s c then 1 else 0, t) := by
  have hk := B.k c hc
  have hs := B.s c hc
  unfold fv_X4_isRunning
  rw [ccls_at (H.ck c hc)]
  have p4 : ∀ t' : St, t'.1 = t.1 → fX4_isRunning ex z (A.ca c) t' = some (if 0 < R.s c then 1 else 0, t') := by
    intro t' ht
    unfold fX4_isRunning
    rw [cgI_at (t := t') (by rw [ht]; exact H.ck c hc) (kin hk) rfl, iflel 0 (by omega) (by decide)]
    by_cases h : 0 < R.s c
    · rw [if_neg (by omega), if_pos h]
    · rw [if_pos (by omega), if_neg h]
  have p6 : R.k c = 2 ∨ R.k c = 3 → fX6_isRunning ex z (A.ca c) t = some (0, t) := by
    intro h
    unfold fX6_isRunning fX4_isRunning
    rw [ccast_at (H.ck c hc) (by rcases h with h | h <;> rw [h] <;> decide), cgI_at (t := (t.1, 0, 0)) (H.ck c hc) (kin hk) rfl, iflel 0 (by omega) (by decide)]
    by_cases h0 : R.s c ≤ 0
    · rw [if_pos h0, gb_pure, if_pos rfl, cgI_at (H.ck c hc) (kin hk) rfl, if_pos (nI_pos' (by omega))]
    · rw [if_neg h0, gb_pure, if_neg (by decide)]
  rcases (show R.k c = 0 ∨ R.k c = 1 ∨ R.k c = 2 ∨ R.k c = 3 ∨ R.k c = 4 ∨ R.k c = 5 by omega) with h | h | h | h | h | h
  · rw [if_pos (by omega), p4 t rfl]; simp only [show R.k c ≠ 2 by omega, show R.k c ≠ 3 by omega, ne_eq, not_false_eq_true, true_and]
  · rw [if_neg (by omega), if_pos (by omega), p4 t rfl]; simp only [show R.k c ≠ 2 by omega, show R.k c ≠ 3 by omega, ne_eq, not_false_eq_true, true_and]
  · rw [if_neg (by omega), if_neg (by omega), if_pos (by omega), p6 (Or.inl h), if_neg (fun g => g.1 h)]
  · rw [if_neg (by omega), if_neg (by omega), if_neg (by omega), if_pos (by omega), p6 (Or.inr h), if_neg (fun g => g.2.1 h)]
  · rw [if_neg (by omega), if_neg (by omega), if_neg (by omega), if_neg (by omega), if_pos (by omega), p4 t rfl]; simp only [show R.k c ≠ 2 by omega, show R.k c ≠ 3 by omega, ne_eq, not_false_eq_true, true_and]
  · rw [if_neg (by omega), if_neg (by omega), if_neg (by omega), if_neg (by omega), if_neg (by omega), if_pos (by omega), p4 t rfl]; simp only [show R.k c ≠ 2 by omega, show R.k c ≠ 3 by omega, ne_eq, not_false_eq_true, true_and]
end CR2
