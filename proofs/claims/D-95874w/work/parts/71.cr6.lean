/-! the component's race: an hour -/
set_option maxRecDepth 100000
theorem fin_ne {v : Nat} (h : v ≠ 0) (hv : v < 2 ^ 31) : fin v ≠ -4 := by
  unfold fin
  rw [if_neg h]
  intro g
  have := congrArg Int32.toInt g
  rw [nI_toInt (by omega)] at this
  have h4 : (-4 : Int32).toInt = -4 := by decide
  rw [h4] at this
  omega
/-- what an hour writes -/
def FW (A : Ad) (n q : Nat) : Prop := q = A.r ∨ q = A.d ∨ ∃ c, c < n ∧ q = A.ca c
theorem skyOf.lp {R : Rc} {al : Int32} {w : Nat} (h : skyOf R al w) (c : Nat) : skyOf (R.lp w c).1 al w := by
  have kp := Rc.lp_keep R w c
  exact h.cong kp.2.2.2.2.2.2.2.1 kp.2.2.2.2.2.2.1 kp.2.2.2.2.2.2.2.2
section CG
variable {ex : Nat → Option Nat} {z : Nat} {t : St} {A : Ad} {R : Rc} {al : Int32}
theorem c_isHome (H : RR t.1 A R al) (B : R.Ba) {c : Nat} (hc : c < R.n) (hf : R.f c < 2 ^ 31) : fX4_isHome ex z (A.ca c) t = some (if R.f c = 0 then 0 else 1, t) := by
  unfold fX4_isHome
  rw [cgI_at (H.ck c hc) (kin (B.k c hc)) rfl]
  by_cases h : R.f c = 0
  · rw [if_pos h, h]; rfl
  · rw [if_neg h, if_neg (fin_ne h hf)]
/-- the second loop: springs run -/
theorem c_71 (B : R.Ba) (q : Nat) : ∀ (j c fuel : Nat) (t : St), c + j = R.n → j < fuel → RR t.1 A (R.lr c) al → ∃ σ', fX1_goes_71 ex z fuel A.r (nI q) (nI c) t = some (nI q, (σ', t.2)) ∧ RR σ' A (R.lr R.n).later al ∧ ∀ q, ¬ FW A R.n q → σ' q = t.1 q
  | 0, c, fuel, t, hj, hf, H => by
    obtain ⟨m, rfl⟩ : ∃ m, fuel = m + 1 := ⟨fuel - 1, by omega⟩
    obtain rfl : c = R.n := by omega
    have hn := B.n
    have kp := Rc.lr_keep R R.n
    obtain ⟨mc, hl⟩ := H.li
    rw [fX1_goes_71, cgA_at H.ra (by decide) rfl, ccast_at hl (by decide), c_listsize (t := (t.1, 0, 0)) H, gb_pure, kp.1, if_pos (nI_le (Nat.le_refl _) (by omega)), cgI_at H.ra (by decide) rfl, nI_1, cput_at H.ra (by decide) (by show 3 < 9; decide)]
    refine ⟨_, rfl, H.putR (R' := (R.lr R.n).later) (al' := al) (by rfl) (by rfl) (by rfl) (fun i hi => by rfl) (by rfl), fun q hq => g_u_ne _ _ (fun g => hq (Or.inl g))⟩
  | j + 1, c, fuel, t, hj, hf, H => by
    obtain ⟨m, rfl⟩ : ∃ m, fuel = m + 1 := ⟨fuel - 1, by omega⟩
    have hn := B.n
    have BQ := Rc.lr_Ba B c (by omega)
    have kp := Rc.lr_keep R c
    have hc : c < (R.lr c).n := by rw [kp.1]; omega
    obtain ⟨mc, hl⟩ := H.li
    obtain ⟨σ1, g1, g2, g3⟩ := c_runs (ex := ex) (z := z + t.2.1) (t := (t.1, 0, 0)) H BQ hc
    rw [fX1_goes_71, cgA_at H.ra (by decide) rfl, ccast_at hl (by decide), c_listsize (t := (t.1, 0, 0)) H, gb_pure, kp.1, if_neg (nI_ge (by omega) (by omega)), cgA_at H.ra (by decide) rfl, ccast_at hl (by decide), c_get (t := (t.1, 0, 0)) H BQ.n hc, gb_pure, ccast_at (H.ck c hc) (kin (BQ.k c hc)), ccast_at (H.ck c hc) (kin (BQ.k c hc)), g1, gb_some]
    obtain ⟨σ2, q1, q2, q3⟩ := c_71 B q j (c + 1) m (σ1, t.2) (by omega) (by omega) g2
    refine ⟨σ2, ?_, q2, fun x hx => ?_⟩
    · rw [nI_1]; exact q1
    · rw [q3 x hx]
      exact g3 x (fun g => hx (Or.inr (Or.inr ⟨c, by omega, g⟩)))
/-- the first loop: who goes -/
theorem c_14 (O : R.OK) {w : Nat} (hw : w < 4) (hs : skyOf R al w) : ∀ (j c fuel : Nat) (t : St), c + j = R.n → j < fuel → RR t.1 A (R.lp w c).1 al → ∃ σ', fX1_goes_14 ex z fuel A.r (nI (R.lp w c).2) (nI c) t = some (nI (R.goN w), (σ', t.2)) ∧ RR σ' A (R.go w) al ∧ ∀ q, ¬ FW A R.n q → σ' q = t.1 q
  | 0, c, fuel, t, hj, hf, H => by
    obtain ⟨m, rfl⟩ : ∃ m, fuel = m + 1 := ⟨fuel - 1, by omega⟩
    obtain rfl : c = R.n := by omega
    have B := O.b
    have hn := B.n
    have kp := Rc.lp_keep R w R.n
    have B1 := Rc.lp_Ba B w R.n (Nat.le_refl _)
    obtain ⟨mc, hl⟩ := H.li
    rw [fX1_goes_14, cgA_at H.ra (by decide) rfl, ccast_at hl (by decide), c_listsize (t := (t.1, 0, 0)) H, gb_pure, kp.1, if_pos (nI_le (Nat.le_refl _) (by omega))]
    have r := c_71 (ex := ex) (z := z) (A := A) (al := al) B1 (R.lp w R.n).2 R.n 0 1000 t (by rw [kp.1]; omega) (by omega) H
    rw [kp.1] at r
    exact r
  | j + 1, c, fuel, t, hj, hf, H => by
    obtain ⟨m, rfl⟩ : ∃ m, fuel = m + 1 := ⟨fuel - 1, by omega⟩
    have B := O.b
    have hn := B.n
    have BQ := Rc.lp_Ba B w c (by omega)
    have kp := Rc.lp_keep R w c
    have pf := (Rc.lp_f O w c (by omega)).1 c (Nat.le_refl c)
    have hc : c < (R.lp w c).1.n := by rw [kp.1]; omega
    have hf1 := O.f1 c (by omega)
    have hnow := B.now
    have e1 : R.lp w (c + 1) = Rc.t1 w c (R.lp w c) := rfl
    have hs1 := hs.lp c
    obtain ⟨mc, hl⟩ := H.li
    have no : R.lp w (c + 1) = R.lp w c → ∃ σ', fX1_goes_63 ex z (fun a0 a1 a2 a3 => fX1_goes_14 ex z m a0 a1 a2 a3) A.r (nI (R.lp w c).2) (nI c) t = some (nI (R.goN w), (σ', t.2)) ∧ RR σ' A (R.go w) al ∧ ∀ q, ¬ FW A R.n q → σ' q = t.1 q := by
      intro e2
      unfold fX1_goes_63
      rw [nI_1]
      have r := c_14 O hw hs j (c + 1) m t (by omega) (by omega) (by rw [e2]; exact H)
      rw [e2] at r
      exact r
    rw [fX1_goes_14, cgA_at H.ra (by decide) rfl, ccast_at hl (by decide), c_listsize (t := (t.1, 0, 0)) H, gb_pure, kp.1, if_neg (nI_ge (by omega) (by omega)), cgA_at H.ra (by decide) rfl, ccast_at hl (by decide), c_get (t := (t.1, 0, 0)) H BQ.n hc, gb_pure, ccast_at (H.ck c hc) (kin (BQ.k c hc)), ccast_at (H.ck c hc) (kin (BQ.k c hc)), c_isHome (t := (t.1, 0, 0)) H BQ hc (by rw [pf.2]; omega), gb_pure]
    by_cases h0 : (R.lp w c).1.f c = 0
    · have hp : (R.lp w c).1.p c ≠ (R.lp w c).1.W - 1 := by
        rw [pf.1, kp.2.1]
        rw [pf.2] at h0
        exact (O.f c (by omega)).mp h0
      rw [if_pos h0, if_pos rfl, ccast_at (H.ck c hc) (kin (BQ.k c hc)), c_goes (t := (t.1, 0, 0)) H BQ hc hp hw hs1, gb_pure]
      by_cases hg : (R.lp w c).1.goC w c
      · have e2 : R.lp w (c + 1) = ((R.lp w c).1.mv w c, (R.lp w c).2 + 1) := by rw [e1]; unfold Rc.t1; rw [if_pos ⟨hp, hg⟩]
        obtain ⟨σ1, g1, g2, g3⟩ := c_moves (ex := ex) (z := z + t.2.1) (t := (t.1, 0, 0)) H BQ hc hp hw hs1
        rw [if_pos hg, if_neg (by decide), ccast_at H.ra (by decide), g1, gb_some]
        unfold fX1_goes_63
        rw [nI_1, nI_1]
        obtain ⟨σ2, q1, q2, q3⟩ := c_14 O hw hs j (c + 1) m (σ1, t.2) (by omega) (by omega) (by rw [e2]; exact g2)
        rw [e2] at q1
        refine ⟨σ2, q1, q2, fun x hx => ?_⟩
        rw [q3 x hx]
        exact g3 x (fun g => hx (Or.inl g)) (fun g => hx (Or.inr (Or.inl g))) (fun g => hx (Or.inr (Or.inr ⟨c, by omega, g⟩)))
      · rw [if_neg hg, if_pos rfl]
        exact no (by rw [e1]; unfold Rc.t1; rw [if_neg (fun g => hg g.2)])
    · have hp : ¬ (R.lp w c).1.p c ≠ (R.lp w c).1.W - 1 := by
        rw [pf.1, kp.2.1]
        rw [pf.2] at h0
        exact fun g => h0 ((O.f c (by omega)).mpr g)
      rw [if_neg h0, if_neg (by decide)]
      exact no (by rw [e1]; unfold Rc.t1; rw [if_neg (fun g => hp g.1)])
/-- an hour -/
theorem c_go (H : RR t.1 A R al) (O : R.OK) {w : Nat} (hw : w < 4) (hs : skyOf R al w) : ∃ σ', fX1_goes ex z A.r t = some (nI (R.goN w), (σ', t.2)) ∧ RR σ' A (R.go w) al ∧ ∀ q, ¬ FW A R.n q → σ' q = t.1 q := by
  unfold fX1_goes
  rw [cput_at H.ra (by decide) (by show 7 < 9; decide), cput_at (g_u_self _ _ _) (by decide) (by show 8 < 9; decide), g_u_twice]
  have H1 : RR (g_u t.1 A.r (raC R.quiet A al)) A R.quiet al := H.putR (by rfl) (by rfl) (by rfl) (fun i hi => by rfl) (by rfl)
  have hn := O.b.n
  obtain ⟨σ', q1, q2, q3⟩ := c_14 (ex := ex) (z := z) O hw hs R.n 0 1000 (g_u t.1 A.r (raC R.quiet A al), t.2) (by omega) (by omega) H1
  refine ⟨σ', q1, q2, fun x hx => ?_⟩
  rw [q3 x hx]
  exact g_u_ne _ _ (fun g => hx (Or.inl g))
end CG
