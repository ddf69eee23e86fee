/-! the street's clocks come -/
set_option maxRecDepth 100000
/-- a race with the first k of D's clocks -/
def Rc.st (R : Rc) (D : Nat → Nat × Nat × Int × Nat) : Nat → Rc
  | 0 => (Rc.mk (0) (R.W) (R.d) (R.k) (R.h) (R.r) (R.s) (R.p) (R.f) (R.now) (R.sk) (R.mn) (0) (0))
  | k + 1 => (R.st D k).add (D k).1 (D k).2.1 (D k).2.2.1 (D k).2.2.2
theorem Rc.st_n (R : Rc) (D : Nat → Nat × Nat × Int × Nat) : ∀ k, (R.st D k).n = k
  | 0 => rfl
  | k + 1 => by
    show (R.st D k).n + 1 = k + 1
    rw [Rc.st_n R D k]
theorem Rc.st_OK {R : Rc} {D : Nat → Nat × Nat × Int × Nat} (O : R.OK) : ∀ k, k ≤ 9 → (∀ i, i < k → DOK (D i)) → (R.st D k).OK
  | 0, _, _ => by
    have B := O.b
    exact ⟨⟨Nat.zero_le _, B.W0, B.W1, B.d, fun c hc => absurd hc (Nat.not_lt_zero c), fun c hc => absurd hc (Nat.not_lt_zero c), fun c hc => absurd hc (Nat.not_lt_zero c), fun c hc => absurd hc (Nat.not_lt_zero c), fun c hc => absurd hc (Nat.not_lt_zero c), fun c hc => absurd hc (Nat.not_lt_zero c), B.now, B.sk, B.mn0, B.mn1⟩, fun c hc => absurd hc (Nat.not_lt_zero c), fun c hc => absurd hc (Nat.not_lt_zero c), by show 0 < 2 ^ 0; decide, Nat.zero_le _⟩
  | k + 1, hk, hD => by
    obtain ⟨d1, d2, d3, d4, d5⟩ := hD k (by omega)
    exact Rc.add_OK (Rc.st_OK O k (by omega) (fun i hi => hD i (by omega))) (by rw [Rc.st_n]; omega) d1 (by omega) d3 d4 d5
theorem Rc.st_now {R : Rc} {D : Nat → Nat × Nat × Int × Nat} : ∀ k, (R.st D k).now = R.now
  | 0 => rfl
  | k + 1 => by
    show (R.st D k).now = R.now
    exact Rc.st_now k
section O9l
variable {t : MS} {W : Wv} {σ : Sg} {T : Nat → Nat} {ex : Nat → Option Nat} {z o : Nat} {a : Nat → Nat}
theorem m_st48 {R : Rc} {k : Nat} {D : Nat → Nat × Nat × Int × Nat} (hk : k ≤ 9) : ∀ (j i fuel : Nat) (t : MS), i + j = k → j < fuel → MR t (R.st D i) → t.1 17 = nI k → DMs (t.2.1 8) k D → ∃ t', fX3_street_48 fuel (nI i) t = some (nI k, t') ∧ MR t' (R.st D k) ∧ Sr t t' := by
  intro j
  induction j with
  | zero =>
    intro i fuel t hj hf H h17 hD
    obtain ⟨m, rfl⟩ : ∃ m, fuel = m + 1 := ⟨fuel - 1, by omega⟩
    obtain rfl : i = k := by omega
    have e3 : t.1 3 = nI i := by rw [H.1.n, Rc.st_n]
    rw [fX3_street_48, h17, ifle i rfl rfl (by omega) (by omega), if_pos (Nat.le_refl _), e3]
    exact ⟨t, rfl, H, Sr.rf t⟩
  | succ j ih =>
    intro i fuel t hj hf H h17 hD
    obtain ⟨m, rfl⟩ : ∃ m, fuel = m + 1 := ⟨fuel - 1, by omega⟩
    obtain ⟨d1, d2, d3, d4⟩ := hD i (by omega)
    obtain ⟨t1, m1, m2, m3, m4⟩ := m_add H (by rw [Rc.st_n]; omega) (D i).1 (D i).2.1 (D i).2.2.1 (D i).2.2.2
    rw [fX3_street_48, h17, ifle i rfl rfl (by omega) (by omega), if_neg (by omega), show (4 : Int32) = nI 4 from rfl, nI_mul, show (1 : Int32) = nI 1 from rfl, show (2 : Int32) = nI 2 from rfl, show (3 : Int32) = nI 3 from rfl, nI_add, nI_add, nI_add, nI_add, mald_nI (by omega) (by decide), mald_nI (by omega) (by decide), mald_nI (by omega) (by decide), mald_nI (by omega) (by decide), d1, d2, d3, d4, m1, gm_some]
    obtain ⟨t2, q1, q2, q3⟩ := ih (i + 1) m t1 (by omega) (by omega) m2 ((m3.1 17 (by decide) (by decide) (by decide)).trans h17) (by rw [m3.2.1 8 (by decide)]; exact hD)
    exact ⟨t2, q1, q2, m3.tr q3⟩
end O9l
