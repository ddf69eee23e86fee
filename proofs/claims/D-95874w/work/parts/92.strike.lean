/-! strike: the last clock goes, with the bets on it -/
set_option maxRecDepth 100000
/-- the i-th of those that are so -/
def sel (P : Nat → Bool) : Nat → Nat → Nat
  | 0, _ => 0
  | n + 1, i => if P n = true ∧ cnt P n = i then n else sel P n i
theorem cnt_succ (P : Nat → Bool) (n : Nat) : cnt P (n + 1) = cnt P n + if P n = true then 1 else 0 := rfl
theorem cnt_mono (P : Nat → Bool) : ∀ {a b : Nat}, a ≤ b → cnt P a ≤ cnt P b := by
  intro a b h
  induction b with
  | zero => obtain rfl : a = 0 := by omega
            exact Nat.le_refl _
  | succ b ih =>
    by_cases hq : a = b + 1
    · rw [hq]; exact Nat.le_refl _
    · have := ih (by omega)
      rw [cnt_succ]; omega
theorem cnt_lt (P : Nat → Bool) {q n : Nat} (h : q < n) (hq : P q = true) : cnt P q < cnt P n := by
  have h1 := cnt_mono P (show q + 1 ≤ n from h)
  rw [cnt_succ, if_pos hq] at h1; omega
theorem sel_at (P : Nat → Bool) : ∀ {n q : Nat}, q < n → P q = true → sel P n (cnt P q) = q := by
  intro n
  induction n with
  | zero => intro q h; omega
  | succ n ih =>
    intro q h hq
    show (if P n = true ∧ cnt P n = cnt P q then n else sel P n (cnt P q)) = q
    by_cases hqn : q = n
    · subst hqn; rw [if_pos ⟨hq, rfl⟩]
    · have := cnt_lt P (show q < n by omega) hq
      rw [if_neg (fun g => by omega)]
      exact ih (by omega) hq
theorem sel_in (P : Nat → Bool) : ∀ {n i : Nat}, i < cnt P n → sel P n i < n ∧ P (sel P n i) = true ∧ cnt P (sel P n i) = i := by
  intro n
  induction n with
  | zero => intro i h; exact absurd h (Nat.not_lt_zero _)
  | succ n ih =>
    intro i h
    rw [cnt_succ] at h
    show (if P n = true ∧ cnt P n = i then n else sel P n i) < n + 1 ∧ P (if P n = true ∧ cnt P n = i then n else sel P n i) = true ∧ cnt P (if P n = true ∧ cnt P n = i then n else sel P n i) = i
    by_cases hc : P n = true ∧ cnt P n = i
    · rw [if_pos hc]; exact ⟨by omega, hc.1, hc.2⟩
    · rw [if_neg hc]
      have hi : i < cnt P n := by
        by_cases hp : P n = true
        · rw [if_pos hp] at h
          have : cnt P n ≠ i := fun g => hc ⟨hp, g⟩
          omega
        · rw [if_neg hp] at h; omega
      obtain ⟨a, b, c⟩ := ih hi
      exact ⟨by omega, b, c⟩
theorem clr_bit : ∀ c, c < 9 → ∀ x, x < 2 ^ (c + 1) → nI x &&& (nI (2 ^ c) ^^^ (-1)) = nI (x % 2 ^ c) := by decide +kernel
def Rc.less (R : Rc) : Rc := (Rc.mk (R.n - 1) (R.W) (R.d) (R.k) (R.h) (R.r) (R.s) (R.p) (R.f) (R.now) (R.sk) (R.mn) (R.he % 2 ^ (R.n - 1)) (R.so))
theorem Rc.less_OK {R : Rc} (O : R.OK) : R.less.OK := by
  have B := O.b
  have low : ∀ {c : Nat}, c < R.n - 1 → c < R.n := fun h => by omega
  refine ⟨⟨?_, B.W0, B.W1, B.d, fun c hc => B.k c (low hc), fun c hc => B.h c (low hc), fun c hc => B.r0 c (low hc), fun c hc => B.r1 c (low hc), fun c hc => B.s c (low hc), fun c hc => B.p c (low hc), B.now, B.sk, B.mn0, B.mn1⟩, fun c hc => O.f c (low hc), fun c hc => O.f1 c (low hc), ?_, O.so⟩
  · show R.n - 1 ≤ 9
    have := B.n; omega
  · exact Nat.mod_lt _ (Nat.two_pow_pos _)
/-- the world behind it: P tells which bets stay -/
def Co.less (C : Co) (P : Nat → Bool) : Co := (Co.mk (C.R.less) (cnt P C.bn) (fun i => C.bc (sel P C.bn i)) (fun i => C.bs (sel P C.bn i)) (0) (C.uk) (C.uw) (C.ua) (C.dr))
section O92
variable {t : MS} {W : Wv} {σ : Sg} {T : Nat → Nat} {ex : Nat → Option Nat} {z o : Nat} {a : Nat → Nat}
theorem m_st24 {last bn : Nat} {bc bs : Nat → Nat} (P : Nat → Bool) (hP : ∀ b, b < bn → (P b = true ↔ bc b ≠ last)) (hl : last < 9) (hbn : bn ≤ 6) (hbc : ∀ b, b < bn → bc b < 9) (he : Nat) (hhe : he < 512) (hhe2 : he < 2 ^ (last + 1)) : ∀ (j b fuel : Nat) (t : MS), b + j = bn → j < fuel → t.1 10 = nI bn → t.1 3 = nI last → t.2.1 0 61 = nI he → (∀ i, b ≤ i → i < bn → t.2.1 4 i = nI (bc i) ∧ t.2.1 5 i = nI (bs i)) → (∀ i, i < b → P i = true → t.2.1 4 (cnt P i) = nI (bc i) ∧ t.2.1 5 (cnt P i) = nI (bs i)) → ∃ t', fX3_strike_24 fuel (nI (cnt P b)) (nI b) t = some (nI last, t') ∧ (∀ i, i ≠ 10 → i ≠ 12 → t'.1 i = t.1 i) ∧ t'.1 10 = nI (cnt P bn) ∧ t'.1 12 = 0 ∧ (∀ i, i < bn → P i = true → t'.2.1 4 (cnt P i) = nI (bc i) ∧ t'.2.1 5 (cnt P i) = nI (bs i)) ∧ t'.2.1 0 = upd (t.2.1 0) 61 (nI (he % 2 ^ last)) ∧ (∀ j, j ≠ 0 → j ≠ 4 → j ≠ 5 → t'.2.1 j = t.2.1 j) ∧ t'.2.2 = t.2.2
  | 0, b, fuel, t, hj, hf, h10, h3, h61, hA, hB => by
    obtain ⟨m, rfl⟩ : ∃ m, fuel = m + 1 := ⟨fuel - 1, by omega⟩
    obtain rfl : b = bn := by omega
    rw [fX3_strike_24, h10, if_pos (nI_le (Nat.le_refl _) (by omega))]
    simp only [lt]
    have e3 : (setI t 10 (nI (cnt P b))).1 3 = nI last := h3
    have e61 : (setI t 10 (nI (cnt P b))).2.1 0 61 = nI he := h61
    rw [ilit 61, mald_nI (by decide) (by decide), e3, e61, one_shl last hl, clr_bit last hl he hhe2, mast_nI (by decide) (by decide)]
    refine ⟨setI (setA (setI t 10 (nI (cnt P b))) 0 61 (nI (he % 2 ^ last))) 12 0, ?_, fun i h1 h2 => ?_, ?_, setI_at _ _ _, fun i hi hp => ?_, ?_, fun j h0 _ _ => ?_, rfl⟩
    · show some ((setI (setA (setI t 10 (nI (cnt P b))) 0 61 (nI (he % 2 ^ last))) 12 0).1 3, _) = _
      have : (setI (setA (setI t 10 (nI (cnt P b))) 0 61 (nI (he % 2 ^ last))) 12 0).1 3 = nI last := h3
      rw [this]
    · show upd (upd t.1 10 (nI (cnt P b))) 12 0 i = t.1 i
      rw [upd_no _ _ h2, upd_no _ _ h1]
    · show upd (upd t.1 10 (nI (cnt P b))) 12 0 10 = _
      rw [upd_no _ _ (by decide), upd_at]
    · show (setA (setI t 10 (nI (cnt P b))) 0 61 (nI (he % 2 ^ last))).2.1 4 (cnt P i) = _ ∧ (setA (setI t 10 (nI (cnt P b))) 0 61 (nI (he % 2 ^ last))).2.1 5 (cnt P i) = _
      rw [setA_other _ _ _ (by decide), setA_other _ _ _ (by decide)]
      exact hB i hi hp
    · show (setA (setI t 10 (nI (cnt P b))) 0 61 (nI (he % 2 ^ last))).2.1 0 = _
      rw [setA_same]; rfl
    · show (setA (setI t 10 (nI (cnt P b))) 0 61 (nI (he % 2 ^ last))).2.1 j = _
      rw [setA_other _ _ _ h0]; rfl
  | j + 1, b, fuel, t, hj, hf, h10, h3, h61, hA, hB => by
    obtain ⟨m, rfl⟩ : ∃ m, fuel = m + 1 := ⟨fuel - 1, by omega⟩
    have hb : b < bn := by omega
    have hb9 := hbc b hb
    obtain ⟨a4, a5⟩ := hA b (Nat.le_refl _) hb
    have hcb : cnt P b ≤ b := cnt_le P b
    rw [fX3_strike_24, h10, if_neg (nI_ge hb (by omega)), mald_nI (by omega) (by decide), a4, h3, ife last rfl (by omega) (by omega)]
    unfold fX3_strike_72
    by_cases hl' : bc b = last
    · have hPb : ¬ P b = true := fun g => (hP b hb).mp g hl'
      have ec : cnt P (b + 1) = cnt P b := by rw [cnt_succ, if_neg hPb]; rfl
      rw [if_pos hl', nI_1, ← ec]
      exact m_st24 P hP hl hbn hbc he hhe hhe2 j (b + 1) m t (by omega) (by omega) h10 h3 h61 (fun i h1 h2 => hA i (by omega) h2) (fun i h1 hp => by
        by_cases hq : i = b
        · subst hq; exact absurd hp hPb
        · exact hB i (by omega) hp)
    · have hPb : P b = true := (hP b hb).mpr hl'
      have ec : cnt P (b + 1) = cnt P b + 1 := by rw [cnt_succ, if_pos hPb]
      have a5' : (setA t 4 (cnt P b) (nI (bc b))).2.1 5 b = nI (bs b) := by rw [setA_other _ _ _ (by decide)]; exact a5
      rw [if_neg hl', mald_nI (by omega) (by decide), a4, mast_nI (by omega) (by decide), mald_nI (by omega) (by decide), a5', mast_nI (by omega) (by decide), nI_1, nI_1, ← ec]
      generalize hu : setA (setA t 4 (cnt P b) (nI (bc b))) 5 (cnt P b) (nI (bs b)) = u
      have u1 : u.1 = t.1 := by rw [← hu]; rfl
      have u3 : u.2.2 = t.2.2 := by rw [← hu]; rfl
      have u4 : u.2.1 4 = upd (t.2.1 4) (cnt P b) (nI (bc b)) := by rw [← hu, setA_other _ _ _ (by decide), setA_same]
      have u5 : u.2.1 5 = upd (t.2.1 5) (cnt P b) (nI (bs b)) := by rw [← hu, setA_same, setA_other _ _ _ (by decide)]
      have uo : ∀ j, j ≠ 4 → j ≠ 5 → u.2.1 j = t.2.1 j := fun j h4 h5 => by rw [← hu, setA_other _ _ _ h5, setA_other _ _ _ h4]
      obtain ⟨t', q1, q2, q3, q4, q5, q6, q7, q8⟩ := m_st24 P hP hl hbn hbc he hhe hhe2 j (b + 1) m u (by omega) (by omega) (by rw [u1]; exact h10) (by rw [u1]; exact h3) (by rw [uo 0 (by decide) (by decide)]; exact h61) (fun i h1 h2 => by
        rw [u4, u5, upd_no _ _ (by omega), upd_no _ _ (by omega)]; exact hA i (by omega) h2) (fun i h1 hp => by
        rw [u4, u5]
        by_cases hq : i = b
        · subst hq; rw [upd_at, upd_at]; exact ⟨rfl, rfl⟩
        · have := cnt_lt P (show i < b by omega) hp
          rw [upd_no _ _ (by omega), upd_no _ _ (by omega)]; exact hB i (by omega) hp)
      exact ⟨t', q1, fun i h1 h2 => by rw [q2 i h1 h2, u1], q3, q4, q5, by rw [q6, uo 0 (by decide) (by decide)], fun j h0 h4 h5 => by rw [q7 j h0 h4 h5, uo j h4 h5], q8.trans u3⟩
/-- the bets' loop, from the last one down -/
theorem c_st56 {zf last bn n0 : Nat} {bc bs : Nat → Nat} (P : Nat → Bool) (hP : ∀ b, b < bn → (P b = true ↔ bc b ≠ last)) (hl : last < 9) (hbn : bn ≤ 6) (hbc : ∀ b, b < bn → bc b < 9) (F : Fre T z) {dr ty at_ im idr : Int32} (hT : T o = 1) : ∀ (b fuel : Nat) (σ : Sg) (n : Nat) (cl : Nat → Bool × va_E) (c : Nat × Nat), b ≤ bn → b < fuel → σ o = some (obC a dr ty at_ im idr) → IL σ T ex 5 (a 4) n cl → n = b + (cnt P bn - cnt P b) → (∀ i, i < n → obj (cl i)) → (∀ i, i < b → cl i = btC (bc i) (bs i)) → (∀ i, b ≤ i → i < bn → P i = true → cl (b + (cnt P i - cnt P b)) = btC (bc i) (bs i)) → ∃ σ' cl', fX0_strike_56 ex zf fuel o (nI last) (nI b - 1) (σ, c) = fX0_strike_56 ex zf (fuel - b) o (nI last) (-1) (σ', c) ∧ IL σ' T ex 5 (a 4) (cnt P bn) cl' ∧ (∀ i, i < bn → P i = true → cl' (cnt P i) = btC (bc i) (bs i)) ∧ Ow T 5 σ z σ' z
  | 0, fuel, σ, n, cl, c, hb, hf, hob, H, hn, ho, h1, h2 => by
    refine ⟨σ, cl, rfl, ?_, fun i hi hp => ?_, Ow.rf _ _ _ _⟩
    · have : cnt P 0 = 0 := rfl
      rw [show cnt P bn = n by omega]; exact H
    · have := h2 i (Nat.zero_le _) hi hp
      have e0 : cnt P 0 = 0 := rfl
      rw [e0, Nat.sub_zero, Nat.zero_add] at this; exact this
  | b + 1, fuel, σ, n, cl, c, hb, hf, hob, H, hn, ho, h1, h2 => by
    obtain ⟨m, rfl⟩ : ∃ m, fuel = m + 1 := ⟨fuel - 1, by omega⟩
    have hbb : b < bn := by omega
    have hb9 := hbc b hbb
    have hm := cnt_mono P (show b + 1 ≤ bn from hb)
    have hbn' : b < n := by omega
    have hcn := cnt_le P bn
    obtain ⟨mc, e, hli⟩ := H.li
    obtain ⟨v, g1, g2, g3⟩ := H.get hbn'
    have hcell := h1 b (by omega)
    rw [hcell] at g2
    have ef : m + 1 - (b + 1) = m - b := by omega
    rw [fX0_strike_56, nI_sub1 (by omega), Nat.add_sub_cancel, if_neg (nI_pos (by omega)), A_t hob (by decide) rfl, X_t hli (by decide), g1, gb_two, X_t g2 (by decide), I_t g2 (by decide) rfl, ife last rfl (by omega) (by omega), ef]
    unfold fX0_strike_87
    have e1 : nI b + (-1) = nI b - 1 := by rw [Int32.sub_eq_add_neg]
    by_cases hl' : bc b = last
    · have hPb : ¬ P b = true := fun g => (hP b hbb).mp g hl'
      have ec : cnt P (b + 1) = cnt P b := by rw [cnt_succ, if_neg hPb]; rfl
      obtain ⟨σ1, v1, r1, r2, r3, r4, r5⟩ := H.remove (z := z) (i := b) F (by decide) (by omega) ho hbn' (zf + c.1)
      have hob1 := (r3.at F hT (by decide) (by decide)).trans hob
      rw [if_pos hl', A_t hob (by decide) rfl, X_t hli (by decide), r1, gb_z, e1]
      obtain ⟨σ2, cell2, q1, q2, q3, q4⟩ := c_st56 (zf := zf) (n0 := n0) P hP hl hbn hbc F hT b m σ1 (n - 1) (drpA cl b) c (by omega) (by omega) hob1 r2 (by omega) (fun i hi => by
        unfold drpA; split
        · exact ho i (by omega)
        · exact ho (i + 1) (by omega)) (fun i hi => by unfold drpA; rw [if_pos hi]; exact h1 i (by omega)) (fun i hi1 hi2 hp => by
          have hne : i ≠ b := fun g => hPb (g ▸ hp)
          unfold drpA
          rw [if_neg (by omega)]
          have := h2 i (by omega) hi2 hp
          rw [ec] at this
          rw [show b + (cnt P i - cnt P b) + 1 = b + 1 + (cnt P i - cnt P b) by omega]; exact this)
      exact ⟨σ2, cell2, q1, q2, q3, r3.tr0 q4⟩
    · have hPb : P b = true := (hP b hbb).mpr hl'
      have ec : cnt P (b + 1) = cnt P b + 1 := by rw [cnt_succ, if_pos hPb]
      rw [if_neg hl', e1]
      obtain ⟨σ2, cell2, q1, q2, q3, q4⟩ := c_st56 (zf := zf) (n0 := n0) P hP hl hbn hbc F hT b m σ n cl c (by omega) (by omega) hob H (by omega) ho (fun i hi => h1 i (by omega)) (fun i hi1 hi2 hp => by
          by_cases hq : i = b
          · subst hq; rw [Nat.sub_self, Nat.add_zero]; exact hcell
          · have := h2 i (by omega) hi2 hp
            have hlt := cnt_lt P (show b < i by omega) hPb
            rw [ec] at this
            rw [show b + (cnt P i - cnt P b) = b + 1 + (cnt P i - (cnt P b + 1)) by omega]; exact this)
      exact ⟨σ2, cell2, q1, q2, q3, q4⟩
/-- the last clock leaves the race -/
theorem rt_less {A : Ad} {R : Rc} (H : RT σ T 2 ex A R (-4)) (B : R.Ba) (hn : 0 < R.n) (F : Fre T z) (zz : Nat) : ∃ σ' v, fJ2_remove ex zz A.l (nI (R.n - 1)) (σ, 0, 0) = some (v, (σ', 0, 0)) ∧ RT σ' T 2 ex A (Rc.mk (R.n - 1) (R.W) (R.d) (R.k) (R.h) (R.r) (R.s) (R.p) (R.f) (R.now) (R.sk) (R.mn) (R.he) (R.so)) (-4) ∧ Ow T 2 σ z σ' z := by
  have h1 := H.1
  obtain ⟨tr, td, ts, tl, tc⟩ := H.2
  have h9 := B.n
  have E : El σ A.ca R.n := fun c hc => ⟨true, 4 + R.k c, _, h1.ck c hc, kC_csL (B.k c hc)⟩
  obtain ⟨σ1, q1, q2, q3, q4⟩ := al_remove (z := zz) (i := R.n - 1) (c := (0, 0)) tl E (by omega) (by omega)
  have L1 : AL σ1 T 2 ex A.l A.e (R.n - 1) A.ca := by
    obtain ⟨a1, a2, a3⟩ := q2
    refine ⟨a1, a2, ?_⟩
    rcases a3 with a3 | ⟨b1, cap, f, b2, b3, b4, b5, b6⟩
    · exact Or.inl a3
    · exact Or.inr ⟨b1, cap, f, b2, b3, b4, b5, fun i hi => by
        rw [b6 i hi]; unfold drp; rw [if_pos (by omega)]⟩
  refine ⟨σ1, _, q1, ⟨⟨?_, ?_, ?_, ?_, ?_, ?_⟩, tr, td, ts, L1, fun c hc => tc c (by have hc' : c < R.n - 1 := hc; omega)⟩, q3.any⟩
  · show σ1 A.r = some (raC R A (-4))
    rw [q4 _ h1.r_l h1.r_e]; exact h1.ra
  · show ∃ f, σ1 A.d = some (true, .inl (0, 24, .inl f)) ∧ ∀ w, w < 24 → f w = nI (R.d w)
    rw [q4 _ h1.d_l h1.d_e]; exact h1.dl
  · show ∃ f, σ1 A.s = some (true, .inl (0, 12, .inl f)) ∧ ∀ w, w < 12 → f w = nI (R.sk w)
    rw [q4 _ h1.s_l h1.s_e]; exact h1.sk
  · obtain ⟨mc, h⟩ := L1.2.1; exact ⟨mc, h⟩
  · rcases L1.2.2 with ⟨-, h2, -, b, f, h3⟩ | ⟨-, cap, f, h3, h4, h5, h6, h7⟩
    · exact ⟨b, 0, f, h3, by show R.n - 1 ≤ 0; omega, by omega, Or.inr rfl, fun c hc => by have hc' : c < R.n - 1 := hc; omega⟩
    · exact ⟨true, cap, f, h3, h6, h5, Or.inl rfl, h7⟩
  · intro c hc
    have hc' : c < R.n - 1 := hc
    show σ1 (A.ca c) = some (ckC R c)
    rw [q4 _ (h1.ca_l B (by omega)) (h1.ca_e (by omega))]; exact h1.ck c (by omega)
theorem b_strike (M : MW t W) (H : CW σ T ex z o a W) (O : W.OK) : Both σ T ex z o a (fX3_strike t) (fX0_strike ex z o (σ, 0, 0)) := by
  obtain ⟨at_, hob⟩ := H.obj
  obtain ⟨A, hA, R⟩ := H.race
  have h9 := O.n
  have hbn := O.c.bn
  have hun := O.c.un
  unfold fX3_strike fX0_strike
  simp only [lt]
  rw [M.c.r.1.n, ifl 0 (by omega) (by decide), A_t hob (by decide) rfl, ← hA, X_t R.1.ra (by decide), c_size (t := (σ, 0, 0)) R.1, gb_two]
  by_cases h0 : W.C.R.n = 0
  · rw [if_pos h0, h0, if_neg (by decide)]
    exact Both.same M H O _ rfl rfl
  · have hhe := O.c.r.he
    have hpw : 2 ^ W.C.R.n ≤ 2 ^ 9 := Nat.pow_le_pow_right (by decide) h9
    have e29 : (2 : Nat) ^ 9 = 512 := by decide
    have en1 : W.C.R.n - 1 + 1 = W.C.R.n := by omega
    -- which bets stay
    have hP : ∀ b, b < W.C.bn → ((fun b => decide (W.C.bc b ≠ W.C.R.n - 1)) b = true ↔ W.C.bc b ≠ W.C.R.n - 1) := fun b _ => by simp
    have hbc : ∀ b, b < W.C.bn → W.C.bc b < 9 := fun b hb => by have := (O.c.b b hb).1; omega
    generalize (fun b => decide (W.C.bc b ≠ W.C.R.n - 1)) = P at hP
    -- the reference
    obtain ⟨t1, m1, m2, m3, m4, m5, m6, m7, m8⟩ := m_st24 (bs := W.C.bs) P hP (by omega) hbn hbc W.C.R.he (by omega) (by rw [en1]; exact hhe) W.C.bn 0 1000 (setI t 3 (nI (W.C.R.n - 1))) (by omega) (by omega) M.c.bn (setI_at _ _ _) M.c.r.1.he (fun i _ hi => M.c.b i hi) (fun i hi => by omega)
    have m1' : fX3_strike_24 1000 0 0 (setI t 3 (nI (W.C.R.n - 1))) = some (nI (W.C.R.n - 1), t1) := m1
    have M1 : MW t1 (W.s_C (W.C.less P)) := by
      have b := M.c.r.1
      have i3 : t1.1 3 = nI (W.C.R.n - 1) := by rw [m2 3 (by decide) (by decide)]; exact setI_at _ _ _
      have io : ∀ i, i ≠ 3 → i ≠ 10 → i ≠ 12 → t1.1 i = t.1 i := fun i a1 a2 a3 => by
        rw [m2 i a2 a3]; exact upd_no _ _ a1
      have a0 : t1.2.1 0 = upd (t.2.1 0) 61 (nI (W.C.R.he % 2 ^ (W.C.R.n - 1))) := m6
      have ao : ∀ j, j ≠ 0 → j ≠ 4 → j ≠ 5 → t1.2.1 j = t.2.1 j := m7
      refine ⟨⟨⟨⟨i3, ?_, ?_, ?_, ?_, ?_, ?_, ?_, ?_, ?_, ?_, ?_, ?_⟩, ?_⟩, m3, ?_, m4, fun u hu => absurd hu (Nat.not_lt_zero u), ?_⟩, ?_, ?_, ?_, ?_, ?_, ?_⟩
      · rw [io 4 (by decide) (by decide) (by decide)]; exact b.W
      · rw [io 6 (by decide) (by decide) (by decide)]; exact b.mn
      · intro w hw; rw [a0, upd_no _ _ (by omega)]; exact b.d w hw
      · intro c hc; have hc' : c < W.C.R.n - 1 := hc; rw [a0, upd_no _ _ (by omega)]; exact b.h c (by omega)
      · intro c hc; have hc' : c < W.C.R.n - 1 := hc; rw [a0, upd_no _ _ (by omega)]; exact b.s c (by omega)
      · intro c hc; have hc' : c < W.C.R.n - 1 := hc; rw [a0, upd_no _ _ (by omega)]; exact b.p c (by omega)
      · rw [a0, upd_no _ _ (by omega)]; exact b.now
      · rw [a0, upd_at]; rfl
      · rw [a0, upd_no _ _ (by omega)]; exact b.so
      · intro c hc; have hc' : c < W.C.R.n - 1 := hc; rw [ao 1 (by decide) (by decide) (by decide)]; exact b.k c (by omega)
      · intro c hc; have hc' : c < W.C.R.n - 1 := hc; rw [ao 2 (by decide) (by decide) (by decide)]; exact b.r c (by omega)
      · rw [ao 3 (by decide) (by decide) (by decide)]; exact b.sk
      · intro c hc; have hc' : c < W.C.R.n - 1 := hc; rw [a0, upd_no _ _ (by omega)]; exact M.c.r.2 c (by omega)
      · intro i hi
        have hi' : i < cnt P W.C.bn := hi
        obtain ⟨s1, s2, s3⟩ := sel_in P hi'
        have := m5 _ s1 s2
        rw [s3] at this; exact this
      · rw [io 13 (by decide) (by decide) (by decide)]; exact M.c.dr
      · rw [io 7 (by decide) (by decide) (by decide)]; exact M.sky
      · rw [io 21 (by decide) (by decide) (by decide)]; exact M.im
      · rw [ao 11 (by decide) (by decide) (by decide)]; exact M.kp
      · rw [io 15 (by decide) (by decide) (by decide)]; exact M.tn
      · rw [ao 7 (by decide) (by decide) (by decide)]; exact M.tp
      · rw [ao 12 (by decide) (by decide) (by decide), ao 13 (by decide) (by decide) (by decide), m8]; exact M.s
    -- the component: the clock goes
    obtain ⟨σ1, v1, r1, r2, r3⟩ := rt_less R O.ba (by omega) H.fr z
    obtain ⟨s1, s2⟩ := r2.putR (z := z) (R' := W.C.R.less) (al' := -4) (x := raC W.C.R.less A (-4)) rfl rfl rfl (fun _ _ => rfl) rfl
    have hob1 := (r3.at H.fr H.ob.1 (by decide) (by decide)).trans hob
    have hob2 : (g_u σ1 A.r (raC W.C.R.less A (-4))) o = _ := (s2.at H.fr H.ob.1 (by decide) (by decide)).trans hob1
    have O2 : Ow T 2 σ z (g_u σ1 A.r (raC W.C.R.less A (-4))) z := r3.tr0 s2
    have Hb := PBts.il.mp H.bt
    have Hb2 : IL (g_u σ1 A.r (raC W.C.R.less A (-4))) T ex 5 (a 4) W.C.bn (fun b => btC (W.C.bc b) (W.C.bs b)) := PBts.il.mp (H.bt.kp (O2.kp0 H.fr) (by decide) (by decide) (by decide))
    obtain ⟨mcb, eb, hlb⟩ := Hb2.li
    obtain ⟨mcl, hll⟩ := R.1.li
    have hra1 := r2.1.ra
    obtain ⟨σ3, cell3, p1, p2, p3, p4⟩ := c_st56 (zf := z) (n0 := 0) (bs := W.C.bs) P hP (show W.C.R.n - 1 < 9 by omega) hbn hbc H.fr H.ob.1 W.C.bn 1000 _ W.C.bn _ (0, 0) (Nat.le_refl _) (by omega) hob2 Hb2 (by omega) (fun i _ => obj_bt _ _) (fun i _ => rfl) (fun i h1 h2 _ => by omega)
    have K3 : Kp T σ T σ3 (fun i => i ≠ 2 ∧ i ≠ 5) := ((O2.kp0 H.fr).sub (fun i h => h.1)).tr ((p4.kp0 H.fr).sub (fun i h => h.2))
    have H2 : CW (g_u σ1 A.r (raC W.C.R.less A (-4))) T ex z o a (W.s_C (W.C.s_R W.C.R.less)) := H.u_rc (W' := W.s_C (W.C.s_R W.C.R.less)) H.fr (O2.kp0 H.fr) ⟨by decide, A, hA, s1⟩ rfl rfl rfl rfl rfl rfl rfl rfl rfl rfl rfl rfl rfl rfl rfl rfl rfl rfl rfl rfl rfl rfl rfl
    have H3 : CW σ3 T ex z o a (W.s_C (Co.mk (W.C.R.less) (cnt P W.C.bn) (fun i => W.C.bc (sel P W.C.bn i)) (fun i => W.C.bs (sel P W.C.bn i)) (W.C.un) (W.C.uk) (W.C.uw) (W.C.ua) (W.C.dr))) := H2.u_bt (W' := W.s_C (Co.mk (W.C.R.less) (cnt P W.C.bn) (fun i => W.C.bc (sel P W.C.bn i)) (fun i => W.C.bs (sel P W.C.bn i)) (W.C.un) (W.C.uk) (W.C.uw) (W.C.ua) (W.C.dr))) H.fr (p4.kp0 H.fr) (PBts.il.mpr (p2.cong (fun i hi => by
      obtain ⟨s1, s2, s3⟩ := sel_in P hi
      have := p3 _ s1 s2
      rw [s3] at this; exact this.symm))) rfl rfl rfl rfl rfl rfl rfl rfl rfl rfl rfl rfl rfl rfl rfl rfl rfl rfl rfl rfl rfl
    have Hu3 := PUns.il.mp H3.un
    obtain ⟨mcu, eu, hlu⟩ := Hu3.li
    have hob3 := (p4.at H.fr H.ob.1 (by decide) (by decide)).trans hob2
    obtain ⟨σ4, u1, u2, u3⟩ := Hu3.clear (z := z) (show W.C.un ≤ 160 by omega) z
    have H4 : CW σ4 T ex z o a (W.s_C (W.C.less P)) := H3.u_un (W' := W.s_C (W.C.less P)) H.fr (u3.kp0 H.fr) (u2 _) rfl rfl rfl rfl rfl rfl rfl rfl rfl rfl rfl rfl rfl rfl rfl rfl rfl rfl rfl rfl
    rw [if_neg h0, nI_sub1 (by omega), m1', if_pos (nI_pos' (by omega)), A_t hob (by decide) rfl, ← hA, A_t R.1.ra (by decide) rfl, X_t hll (by decide)]
    simp only [Nat.add_zero]
    rw [r1, gb_z, A_t hob1 (by decide) rfl, ← hA, I_t hra1 (by decide) rfl, P_t hra1 (by decide) (by show 7 < 9; decide), one_shl _ (by omega)]
    have eh : nI ((Rc.mk (W.C.R.n - 1) (W.C.R.W) (W.C.R.d) (W.C.R.k) (W.C.R.h) (W.C.R.r) (W.C.R.s) (W.C.R.p) (W.C.R.f) (W.C.R.now) (W.C.R.sk) (W.C.R.mn) (W.C.R.he) (W.C.R.so))).he &&& (nI (2 ^ (W.C.R.n - 1)) ^^^ (-1)) = nI (W.C.R.he % 2 ^ (W.C.R.n - 1)) := clr_bit (W.C.R.n - 1) (by omega) W.C.R.he (by rw [en1]; exact hhe)
    rw [eh]
    have ec : (true, Sum.inr (1, [Value.int (nI W.C.R.W), Value.ref A.d, Value.ref A.l, Value.int (nI W.C.R.now), Value.ref A.s, Value.int (nI W.C.R.mn), Value.int (-4), Value.int (nI W.C.R.he), Value.int (nI W.C.R.so)].set 7 (.int (nI (W.C.R.he % 2 ^ (W.C.R.n - 1)))))) = raC W.C.R.less A (-4) := rfl
    have p1' : fX0_strike_56 ex z 1000 o (nI (W.C.R.n - 1)) (nI W.C.bn - 1) (g_u σ1 A.r (raC W.C.R.less A (-4)), 0, 0) = some (nI (W.C.R.n - 1), (σ4, 0, 0)) := by
      rw [p1]
      obtain ⟨m, hm⟩ : ∃ m, 1000 - W.C.bn = m + 1 := ⟨999 - W.C.bn, by omega⟩
      rw [hm, fX0_strike_56, if_pos (by decide), A_t hob3 (by decide) rfl, X_t hlu (by decide)]
      simp only [Nat.add_zero]
      rw [u1, gb_z]
    have goal2 : ∀ (y : Bool × va_E), y = raC W.C.R.less A (-4) → (cgA [0] 4 (g_u σ1 A.r y, 0, 0) o fun v22 => ccast [15] (g_u σ1 A.r y, 0, 0) v22 (gb (fJ2_size ex (z + 0) v22 (g_u σ1 A.r y, 0, 0)) (g_u σ1 A.r y, 0, 0) fun r23 t24 => fX0_strike_56 ex z 1000 o (nI (W.C.R.n - 1)) (r23 - 1) t24)) = some (nI (W.C.R.n - 1), (σ4, 0, 0)) := by
      rintro y rfl
      rw [A_t hob2 (by decide) rfl, X_t hlb (by decide), Hb2.size, gb_two]
      exact p1'
    refine Both.put (W' := W.s_C (W.C.less P)) _ rfl (goal2 _ ec) M1 H4 ?_ ?_
    · have C := O.c
      refine ⟨⟨Rc.less_OK C.r, C.now, ?_, fun i hi => ?_, by show 0 ≤ 10; omega, fun u hu => absurd hu (Nat.not_lt_zero u), C.dr⟩, O.i, O.im, O.tn, O.tp, O.s⟩
      · show cnt P W.C.bn ≤ 6
        have := cnt_le P W.C.bn; omega
      · have hi' : i < cnt P W.C.bn := hi
        obtain ⟨s1, s2, s3⟩ := sel_in P hi'
        obtain ⟨c1, c2, c3⟩ := C.b _ s1
        have := (hP _ s1).mp s2
        show W.C.bc (sel P W.C.bn i) < W.C.R.n - 1 ∧ _
        exact ⟨by omega, c2, c3⟩
    · exact (K3.sub (fun i hi => by rw [hi]; decide)).tr (u3.k50' H.fr (by decide))
end O92
