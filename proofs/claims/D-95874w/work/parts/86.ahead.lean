/-! behind, leads, finish, over -/
set_option maxRecDepth 100000
section O6
variable {t : MS} {W : Wv} {σ : Sg} {T : Nat → Nat} {ex : Nat → Option Nat} {z o : Nat} {a : Nat → Nat}
theorem Rc.place_lt {R : Rc} (h : R.n ≤ 9) (c : Nat) : R.place c ≤ 10 := by
  unfold Rc.place
  have := cnt_le (fun k => R.ahd k c) R.n
  omega
theorem b_behind (M : MW t W) (H : CW σ T ex z o a W) (O : W.OK) (x1 x2 x3 : Int32) : Both σ T ex z o a (fX3_behind x1 x2 x3 t) (fX0_behind ex z o x1 x2 x3 (σ, 0, 0)) := by
  obtain ⟨at_, hob⟩ := H.obj
  have B := O.ba
  have hn := O.n
  have hnow := O.c.now
  unfold fX3_behind fX0_behind
  rw [X_t hob (by decide)]
  by_cases h : ∃ i, i < W.C.R.n ∧ x1 = nI i
  · obtain ⟨i, hi, rfl⟩ := h
    rw [m_clk1 M O hi, gm_some, if_neg n10, c_clk1 H O hi, gb_two, if_neg n10]
    by_cases h : ∃ c, 0 ≤ c ∧ c ≤ 200 ∧ x2 = nI c
    · obtain ⟨n, -, hc, rfl⟩ := h
      rw [m_long1 hc, gm_some, if_neg n10, c_few1 hc, gb_two, if_neg n10]
      by_cases h : ∃ c, 0 ≤ c ∧ c ≤ 1 ∧ x3 = nI c
      · obtain ⟨b, -, hb, rfl⟩ := h
        rw [m_iL1 0 1 t (by omega) hb (by decide), gm_some, if_neg n10, c_iL1 0 1 _ (by omega) hb (by decide), gb_two, if_neg n10, X_t hob (by decide)]
        obtain ⟨t1, k1, k2⟩ := m_keepAside M.c.r
        obtain ⟨t2, g1, g2⟩ := m_goHours (n := n) k2 alOK.no M.sky O.c.r (by omega) (by omega)
        obtain ⟨t3, b1, b2, -⟩ := m_bringBack g2
        obtain ⟨σ1, T1, A1, dc, ds, q1, q2, q3, q4, q5⟩ := ct_runs H O hc
        obtain ⟨at1, hob1⟩ := q2.1.obj
        have OQ := Rc.gos_OK O.c.r none n (by omega)
        have kq := Rc.gos_keep W.C.R none n
        have hiQ : i < (W.C.R.gos none n).n := by rw [kq.1]; exact hi
        rw [k1, gm_some, g1, gm_some]
        simp only [Nat.add_zero]
        rw [q1, gb_app]
        simp only [Nat.zero_add]
        rw [ifl 0 (by omega) (by decide), ifl 0 (by omega) (by decide)]
        by_cases hb0 : b = 0
        · rw [if_pos hb0, if_pos hb0, ilit 42, nI_add, mald_nI (by omega) (by decide), g2.1.1.p i hiQ, b1, gm_some, A_t hob1 (by decide) rfl, X_t q2.ra (by decide), q2.clock OQ.b hiQ, gb_two, I_t (q2.ck hiQ) (kin (OQ.b.k i hiQ)) rfl]
          exact Both.tr M O _ rfl rfl b2 q2.1 q3 (by omega) (by omega)
        · rw [if_neg hb0, if_neg hb0, m_placeOf g2.1 OQ hiQ, gm_some, b1, gm_some, A_t hob1 (by decide) rfl, A_t hob1 (by decide) rfl, X_t q2.ra (by decide), q2.clock OQ.b hiQ, gb_two, X_t q2.ra (by decide), q2.place OQ hiQ, gb_two]
          exact Both.tr M O _ rfl rfl b2 q2.1 q3 (by omega) (by omega)
      · rw [m_iL0 0 1 t (by omega) (by decide) h, gm_some, if_pos rfl, c_iL0 0 1 _ (by omega) (by decide) h, gb_two, if_pos rfl]
        exact Both.same M H O _ rfl rfl
    · rw [m_long0 h, gm_some, if_pos rfl, c_few0 h, gb_two, if_pos rfl]
      exact Both.same M H O _ rfl rfl
  · rw [m_clk0 M O h, gm_some, if_pos rfl, c_clk0 H O h, gb_two, if_pos rfl]
    exact Both.same M H O _ rfl rfl
/-- who leads, as bits -/
def Rc.lead (R : Rc) : Nat → Nat
  | 0 => 0
  | c + 1 => Rc.lead R c ||| (if R.place c = 1 then 2 ^ c else 0)
theorem m_le22 {t0 : MS} {Q : Rc} (O : Q.OK) {t t3 : MS} (H : MT t0 t Q) (hb : fX3_bringBack t = some ((), t3)) : ∀ (j c fuel : Nat), c + j = Q.n → j < fuel → fX3_leads_22 fuel (nI (Q.lead c)) (nI c) t = some (nI (Q.lead Q.n), t3)
  | 0, c, fuel, hj, hf => by
    obtain ⟨m, rfl⟩ : ∃ m, fuel = m + 1 := ⟨fuel - 1, by omega⟩
    obtain rfl : c = Q.n := by omega
    have hn := O.b.n
    rw [fX3_leads_22, H.1.1.n, if_pos (nI_le (Nat.le_refl _) (by omega)), hb, gm_some]
  | j + 1, c, fuel, hj, hf => by
    obtain ⟨m, rfl⟩ : ∃ m, fuel = m + 1 := ⟨fuel - 1, by omega⟩
    have hn := O.b.n
    have hp := Rc.place_lt (R := Q) hn c
    have ih := m_le22 O H hb j (c + 1) m (by omega) (by omega)
    rw [fX3_leads_22, H.1.1.n, if_neg (nI_ge (by omega) (by omega)), m_placeOf H.1 O (by omega), gm_some, ifl 1 (by omega) (by decide)]
    unfold fX3_leads_47
    simp only [lt]
    by_cases h : Q.place c = 1
    · have e : Q.lead (c + 1) = Q.lead c ||| 2 ^ c := by show _ ||| (if Q.place c = 1 then _ else _) = _; rw [if_pos h]
      rw [if_pos h, one_shl c (by omega), nI_or, nI_1, ← e]
      exact ih
    · have e : Q.lead (c + 1) = Q.lead c := by show _ ||| (if Q.place c = 1 then _ else _) = _; rw [if_neg h, Nat.or_zero]
      rw [if_neg h, ilit 0, nI_or, Nat.or_zero, nI_1, ← e]
      exact ih
theorem c_le18 {zf zc : Nat} {A : Ad} {Q : Rc} {al : Option Nat} (O : Q.OK) (H : CT σ T ex zc o a W A Q al) (cc : Nat × Nat) : ∀ (j c fuel : Nat), c + j = Q.n → j < fuel → fX0_leads_18 ex zf fuel o (nI (Q.lead c)) (nI c) (σ, cc) = some (nI (Q.lead Q.n), (σ, cc))
  | 0, c, fuel, hj, hf => by
    obtain ⟨m, rfl⟩ : ∃ m, fuel = m + 1 := ⟨fuel - 1, by omega⟩
    obtain rfl : c = Q.n := by omega
    have hn := O.b.n
    obtain ⟨at_, hob⟩ := H.1.obj
    rw [fX0_leads_18, A_t hob (by decide) rfl, X_t H.ra (by decide), H.size, gb_two, if_pos (nI_le (Nat.le_refl _) (by omega))]
  | j + 1, c, fuel, hj, hf => by
    obtain ⟨m, rfl⟩ : ∃ m, fuel = m + 1 := ⟨fuel - 1, by omega⟩
    have hn := O.b.n
    have hp := Rc.place_lt (R := Q) hn c
    obtain ⟨at_, hob⟩ := H.1.obj
    have ih := c_le18 (zf := zf) O H cc j (c + 1) m (by omega) (by omega)
    rw [fX0_leads_18, A_t hob (by decide) rfl, X_t H.ra (by decide), H.size, gb_two, if_neg (nI_ge (by omega) (by omega)), A_t hob (by decide) rfl, A_t hob (by decide) rfl, X_t H.ra (by decide), H.clock O.b (by omega), gb_two, X_t H.ra (by decide), H.place O (by omega), gb_two, ifl 1 (by omega) (by decide)]
    unfold fX0_leads_56
    simp only [lt]
    by_cases h : Q.place c = 1
    · have e : Q.lead (c + 1) = Q.lead c ||| 2 ^ c := by show _ ||| (if Q.place c = 1 then _ else _) = _; rw [if_pos h]
      rw [if_pos h, one_shl c (by omega), nI_or, nI_1, ← e]
      exact ih
    · have e : Q.lead (c + 1) = Q.lead c := by show _ ||| (if Q.place c = 1 then _ else _) = _; rw [if_neg h, Nat.or_zero]
      rw [if_neg h, ilit 0, nI_or, Nat.or_zero, nI_1, ← e]
      exact ih
theorem b_leads (M : MW t W) (H : CW σ T ex z o a W) (O : W.OK) (x1 : Int32) : Both σ T ex z o a (fX3_leads x1 t) (fX0_leads ex z o x1 (σ, 0, 0)) := by
  obtain ⟨at_, hob⟩ := H.obj
  have hn := O.n
  have hnow := O.c.now
  unfold fX3_leads fX0_leads
  by_cases h : ∃ c, 0 ≤ c ∧ c ≤ 200 ∧ x1 = nI c
  · obtain ⟨n, -, hc, rfl⟩ := h
    rw [m_long1 hc, gm_some, if_neg n10, c_few1 hc, gb_two, if_neg n10, X_t hob (by decide)]
    obtain ⟨t1, k1, k2⟩ := m_keepAside M.c.r
    obtain ⟨t2, g1, g2⟩ := m_goHours (n := n) k2 alOK.no M.sky O.c.r (by omega) (by omega)
    obtain ⟨t3, b1, b2, -⟩ := m_bringBack g2
    obtain ⟨σ1, T1, A1, dc, ds, q1, q2, q3, q4, q5⟩ := ct_runs H O hc
    have OQ := Rc.gos_OK O.c.r none n (by omega)
    have kq := Rc.gos_keep W.C.R none n
    rw [k1, gm_some, g1, gm_some]
    simp only [Nat.add_zero]
    rw [q1, gb_app]
    simp only [Nat.zero_add]
    exact Both.tr M O _ (m_le22 OQ g2 b1 (W.C.R.gos none n).n 0 1000 (by omega) (by rw [kq.1]; omega)) (c_le18 OQ q2 (dc, ds) (W.C.R.gos none n).n 0 1000 (by omega) (by rw [kq.1]; omega)) b2 q2.1 q3 (by omega) (by omega)
  · rw [m_long0 h, gm_some, if_pos rfl, c_few0 h, gb_two, if_pos rfl]
    exact Both.same M H O _ rfl rfl
/-- one that is home has its finish for good -/
theorem Rc.go_f {R : Rc} (O : R.OK) (w : Nat) {c : Nat} (hc : c < R.n) (h : R.f c ≠ 0) : (R.go w).f c = R.f c := by
  rw [(Rc.go_keep R w).2.2.2.2.2.2.2.2.1, (Rc.lp_f O w R.n (Nat.le_refl _)).2 c hc, if_neg (fun g => h g.2)]
theorem Rc.gos_f {R : Rc} (O : R.OK) (al : Option Nat) {c i : Nat} (hc : c < R.n) (h : (R.gos al i).f c ≠ 0) : ∀ d, R.now + i + d < 100000 → (R.gos al (i + d)).f c = (R.gos al i).f c
  | 0, _ => rfl
  | d + 1, hd => by
    have ih := Rc.gos_f O al hc h d (by omega)
    have Oi := Rc.gos_OK O al (i + d) (by omega)
    rw [← ih]
    exact Rc.go_f Oi _ (by rw [(Rc.gos_keep R al (i + d)).1]; exact hc) (by rw [ih]; exact h)
theorem c_fi32 {zf zc : Nat} {A : Ad} (O : W.OK) {c : Nat} (hc : c < W.C.R.n) : ∀ (j i fuel : Nat) (σ : Sg) (cc : Nat × Nat), i + j = 200 → j < fuel → CT σ T ex zc o a W A (W.C.R.gos none i) none → ∃ σ', fX0_finish_32 ex zf fuel o (A.ca c) (nI i) (σ, cc) = some (fin ((W.C.R.gos none 200).f c), (σ', cc)) ∧ CW σ' T ex zc o a W ∧ Kp T σ T σ' (fun i => i ≠ 3)
  | 0, i, fuel, σ, cc, hj, hf, H => by
    obtain ⟨m, rfl⟩ : ∃ m, fuel = m + 1 := ⟨fuel - 1, by omega⟩
    obtain rfl : i = 200 := by omega
    have hnow := O.c.now
    have Oi := Rc.gos_OK O.c.r none 200 (by omega)
    have ki := Rc.gos_keep W.C.R none 200
    have hci : c < (W.C.R.gos none 200).n := by rw [ki.1]; exact hc
    rw [fX0_finish_32, ifler 200 (by decide) (by decide), if_pos (Nat.le_refl _), I_t (H.ck hci) (kin (Oi.b.k c hci)) rfl]
    exact ⟨σ, rfl, H.1, Kp.rf _ _ _⟩
  | j + 1, i, fuel, σ, cc, hj, hf, H => by
    obtain ⟨m, rfl⟩ : ∃ m, fuel = m + 1 := ⟨fuel - 1, by omega⟩
    have hnow := O.c.now
    have Oi := Rc.gos_OK O.c.r none i (by omega)
    have ki := Rc.gos_keep W.C.R none i
    have hci : c < (W.C.R.gos none i).n := by rw [ki.1]; exact hc
    obtain ⟨at_, hob⟩ := H.1.obj
    rw [fX0_finish_32, ifler 200 (by decide) (by omega), if_neg (by omega), X_t (H.ck hci) (kin (Oi.b.k c hci)), H.home1 Oi hci, gb_two]
    by_cases h : (W.C.R.gos none i).f c = 0
    · obtain ⟨σ1, q1, q2, q3⟩ := ct_go H Oi alOK.no (by rw [ki.2.2.2.2.1]; omega) (zf + cc.1)
      rw [if_pos h, if_pos rfl, A_t hob (by decide) rfl, X_t H.ra (by decide), q1, gb_z, nI_1]
      obtain ⟨σ2, r1, r2, r3⟩ := c_fi32 (zf := zf) O hc j (i + 1) m σ1 cc (by omega) (by omega) q2
      exact ⟨σ2, r1, r2, q3.tr r3⟩
    · have e := Rc.gos_f O.c.r none hc h (j + 1) (by omega)
      rw [hj] at e
      rw [if_neg h, if_neg n10, I_t (H.ck hci) (kin (Oi.b.k c hci)) rfl, e]
      exact ⟨σ, rfl, H.1, Kp.rf _ _ _⟩
theorem b_finish (M : MW t W) (H : CW σ T ex z o a W) (O : W.OK) (x1 : Int32) : Both σ T ex z o a (fX3_finish x1 t) (fX0_finish ex z o x1 (σ, 0, 0)) := by
  obtain ⟨at_, hob⟩ := H.obj
  have B := O.ba
  have hn := O.n
  have hnow := O.c.now
  unfold fX3_finish fX0_finish
  rw [X_t hob (by decide)]
  by_cases h : ∃ i, i < W.C.R.n ∧ x1 = nI i
  · obtain ⟨i, hi, rfl⟩ := h
    obtain ⟨t1, k1, k2⟩ := m_keepAside M.c.r
    obtain ⟨t2, g1, g2⟩ := m_goHours (n := 200) k2 alOK.no M.sky O.c.r (by omega) (by omega)
    obtain ⟨t3, b1, b2, -⟩ := m_bringBack g2
    obtain ⟨Q3, A3, al3, h3⟩ := H.tra
    obtain ⟨σ1, T1, A1, dc, ds, q1, q2, q3, q4, q5⟩ := ct_takes H O
    obtain ⟨at1, hob1⟩ := q2.1.obj
    have kq := Rc.gos_keep W.C.R none 200
    have hiQ : i < (W.C.R.gos none 200).n := by rw [kq.1]; exact hi
    obtain ⟨σ2, p1, p2, p3⟩ := c_fi32 (zf := z) O hi 200 0 1000 σ1 (dc, ds) (by omega) (by omega) q2
    rw [m_clk1 M O hi, gm_some, if_neg n10, c_clk1 H O hi, gb_two, if_neg n10, k1, gm_some, ilit 200, g1, gm_some, ilit 51, nI_add, mald_nI (by omega) (by decide), g2.1.2 i hiQ, b1, gm_some, A_t hob (by decide) rfl, A_t hob (by decide) rfl, X_t h3 (by decide)]
    simp only [Nat.add_zero]
    rw [q1, gb_app]
    simp only [Nat.zero_add]
    rw [A_t hob1 (by decide) rfl, X_t q2.ra (by decide), q2.clock B hi, gb_two]
    exact Both.tr M O _ rfl p1 b2 p2 (q3.tr p3) (by omega) (by omega)
  · rw [m_clk0 M O h, gm_some, if_pos rfl, c_clk0 H O h, gb_two, if_pos rfl]
    exact Both.same M H O _ rfl rfl
theorem b_ov {t0 : MS} {zf zc : Nat} {A : Ad} (O : W.OK) (h7 : t0.1 7 = -1) : ∀ (j i fuel fuel' : Nat) (t : MS) (σ : Sg) (cc : Nat × Nat), i + j = 200 → j < fuel → j + 1 < fuel' → MT t0 t (W.C.R.gos none i) → CT σ T ex zc o a W A (W.C.R.gos none i) none → ∃ v t' σ', fX3_over_6 fuel (nI i) t = some (v, t') ∧ fX0_over_13 ex zf fuel' o (nI i) (σ, cc) = some (v, (σ', cc)) ∧ Sb t0 t' ∧ CW σ' T ex zc o a W ∧ Kp T σ T σ' (fun i => i ≠ 3) := by
  intro j
  induction j with
  | zero =>
    intro i fuel fuel' t σ cc hj hf hf' HM H
    obtain ⟨m, rfl⟩ : ∃ m, fuel = m + 1 := ⟨fuel - 1, by omega⟩
    obtain ⟨m', rfl⟩ : ∃ m', fuel' = m' + 1 + 1 := ⟨fuel' - 2, by omega⟩
    obtain rfl : i = 200 := by omega
    have hn := O.n
    have hnow := O.c.now
    have Oi := Rc.gos_OK O.c.r none 200 (by omega)
    have ki := Rc.gos_keep W.C.R none 200
    have hle : (W.C.R.gos none 200).homes ≤ (W.C.R.gos none 200).n := cnt_le _ _
    rw [ki.1] at hle
    obtain ⟨at_, hob⟩ := H.1.obj
    obtain ⟨t3, b1, b2, -⟩ := m_bringBack HM
    rw [fX3_over_6, ifler 200 (by decide) (by decide), if_pos (Nat.le_refl _), fX0_over_13, ifltr 200 (by decide) (by decide), if_neg (by omega), A_t hob (by decide) rfl, X_t H.ra (by decide), H.homes Oi, gb_two, A_t hob (by decide) rfl, X_t H.ra (by decide), H.size, gb_two]
    unfold fX3_over_39
    rw [m_homes HM.1 Oi, gm_some, HM.1.1.n, ki.1, ifle (W.C.R.gos none 200).homes rfl rfl (by omega) (by omega), ife W.C.R.n rfl (by omega) (by omega)]
    by_cases h : (W.C.R.gos none 200).homes = W.C.R.n
    · rw [if_pos (by omega), b1, gm_some, if_pos h]
      exact ⟨_, t3, σ, rfl, rfl, b2, H.1, Kp.rf _ _ _⟩
    · obtain ⟨σ1, q1, q2, q3⟩ := ct_go H Oi alOK.no (by rw [ki.2.2.2.2.1]; omega) (zf + cc.1)
      rw [if_neg (by omega), b1, gm_some, if_neg h, A_t hob (by decide) rfl, X_t H.ra (by decide), q1, gb_z, nI_1, fX0_over_13, ifltr 200 (by decide) (by decide), if_pos (by omega)]
      exact ⟨_, t3, σ1, rfl, rfl, b2, q2.1, q3⟩
  | succ j ih =>
    intro i fuel fuel' t σ cc hj hf hf' HM H
    obtain ⟨m, rfl⟩ : ∃ m, fuel = m + 1 := ⟨fuel - 1, by omega⟩
    obtain ⟨m', rfl⟩ : ∃ m', fuel' = m' + 1 := ⟨fuel' - 1, by omega⟩
    have hn := O.n
    have hnow := O.c.now
    have Oi := Rc.gos_OK O.c.r none i (by omega)
    have ki := Rc.gos_keep W.C.R none i
    have hle : (W.C.R.gos none i).homes ≤ (W.C.R.gos none i).n := cnt_le _ _
    rw [ki.1] at hle
    obtain ⟨at_, hob⟩ := H.1.obj
    rw [fX3_over_6, ifler 200 (by decide) (by omega), if_neg (by omega), fX0_over_13, ifltr 200 (by decide) (by omega), if_neg (by omega), A_t hob (by decide) rfl, X_t H.ra (by decide), H.homes Oi, gb_two, A_t hob (by decide) rfl, X_t H.ra (by decide), H.size, gb_two, m_homes HM.1 Oi, gm_some, HM.1.1.n, ki.1, ifle (W.C.R.gos none i).homes rfl rfl (by omega) (by omega), ife W.C.R.n rfl (by omega) (by omega)]
    by_cases h : (W.C.R.gos none i).homes = W.C.R.n
    · obtain ⟨t3, b1, b2, -⟩ := m_bringBack HM
      unfold fX3_over_39
      rw [if_pos (by omega), m_homes HM.1 Oi, gm_some, HM.1.1.n, ki.1, ifle (W.C.R.gos none i).homes rfl rfl (by omega) (by omega), if_pos (by omega), b1, gm_some, if_pos h]
      exact ⟨_, t3, σ, rfl, rfl, b2, H.1, Kp.rf _ _ _⟩
    · obtain ⟨σ1, q1, q2, q3⟩ := ct_go H Oi alOK.no (by rw [ki.2.2.2.2.1]; omega) (zf + cc.1)
      obtain ⟨t1, p1, p2, p3⟩ := m_goOn HM.1 Oi (by rw [ki.2.2.2.2.1]; omega) (Rc.wea_lt Oi.b alOK.no)
      rw [if_neg (by omega), m_wea (al := none) HM.1.1 Oi.b alOK.no (by rw [HM.2.1]; exact h7), gm_some, p1, gm_some, nI_1, if_neg h, A_t hob (by decide) rfl, X_t H.ra (by decide), q1, gb_z]
      obtain ⟨v, t', σ', r1, r2, r3, r4, r5⟩ := ih (i + 1) m m' t1 σ1 cc (by omega) (by omega) (by omega) (HM.sm p3 p2) q2
      exact ⟨v, t', σ', r1, r2, r3, r4, q3.tr r5⟩
theorem b_over (M : MW t W) (H : CW σ T ex z o a W) (O : W.OK) : Both σ T ex z o a (fX3_over t) (fX0_over ex z o (σ, 0, 0)) := by
  obtain ⟨at_, hob⟩ := H.obj
  obtain ⟨Q3, A3, al3, h3⟩ := H.tra
  obtain ⟨t1, k1, k2⟩ := m_keepAside M.c.r
  obtain ⟨σ1, T1, A1, dc, ds, q1, q2, q3, q4, q5⟩ := ct_takes H O
  obtain ⟨v, t', σ', r1, r2, r3, r4, r5⟩ := b_ov (zf := z) O M.sky 200 0 1000 1000 t1 σ1 (dc, ds) (by omega) (by omega) (by omega) k2 q2
  unfold fX3_over fX0_over
  rw [k1, gm_some, A_t hob (by decide) rfl, A_t hob (by decide) rfl, X_t h3 (by decide)]
  simp only [Nat.add_zero]
  rw [q1, gb_app]
  simp only [Nat.zero_add]
  exact Both.tr M O v r1 r2 r3 r4 (q3.tr r5) (by omega) (by omega)
end O6
