/-! calls that only tell -/
set_option maxRecDepth 100000
theorem n10 : ¬ (1 : Int32) = 0 := by decide
section O1
variable {t : MS} {W : Wv} {σ : Sg} {T : Nat → Nat} {ex : Nat → Option Nat} {z o : Nat} {a : Nat → Nat}
theorem b_told (M : MW t W) (H : CW σ T ex z o a W) (O : W.OK) (x1 x2 : Int32) : Both σ T ex z o a (fX3_told x1 x2 t) (fX0_told ex z o x1 x2 (σ, 0, 0)) := by
  obtain ⟨A, hA, R⟩ := H.race
  obtain ⟨at_, hob⟩ := H.obj
  have B := O.ba
  have hn := O.n
  unfold fX3_told fX0_told
  rw [X_t hob (by decide)]
  by_cases h : ∃ i, i < W.C.R.n ∧ x1 = nI i
  · obtain ⟨i, hi, rfl⟩ := h
    rw [m_clk1 M O hi, gm_some, if_neg n10, c_clk1 H O hi, gb_two, if_neg n10, A_t hob (by decide) rfl, ← hA, X_t R.1.ra (by decide), c_clock (t := (σ, 0, 0)) R.1 B hi, gb_two]
    have hck := R.1.ck i hi
    have hk := kin (B.k i hi)
    by_cases h0 : x2 = 0
    · rw [if_pos h0, if_pos h0, mald_nI (by omega) (by decide), M.c.r.1.k i hi, X_t hck hk, c_kind (B.k i hi) (by rw [← ckC_eq]; exact hck), gb_two]
      exact Both.same M H O _ rfl rfl
    · rw [if_neg h0, if_neg h0]
      by_cases h1 : x2 = 1
      · rw [if_pos h1, if_pos h1, ilit 24, nI_add, mald_nI (by omega) (by decide), M.c.r.1.h i hi, I_t hck hk rfl]
        exact Both.same M H O _ rfl rfl
      · rw [if_neg h1, if_neg h1]
        by_cases h2 : x2 = 2
        · rw [if_pos h2, if_pos h2, ilit 33, nI_add, mald_nI (by omega) (by decide), M.c.r.1.s i hi, I_t hck hk rfl]
          exact Both.same M H O _ rfl rfl
        · rw [if_neg h2, if_neg h2]
          by_cases h3 : x2 = 3
          · rw [if_pos h3, if_pos h3, ilit 42, nI_add, mald_nI (by omega) (by decide), M.c.r.1.p i hi, I_t hck hk rfl]
            exact Both.same M H O _ rfl rfl
          · rw [if_neg h3, if_neg h3]
            by_cases h4 : x2 = 4
            · rw [if_pos h4, if_pos h4, ilit 51, nI_add, mald_nI (by omega) (by decide), M.c.r.2 i hi, I_t hck hk rfl]
              exact Both.same M H O _ rfl rfl
            · rw [if_neg h4, if_neg h4]
              by_cases h5 : x2 = 5
              · rw [if_pos h5, if_pos h5, m_shownBy M.c.r.1 B hi, gm_some, A_t hob (by decide) rfl, ← hA, X_t hck hk, c_shown (t := (σ, 0, 0)) R.1 B hi, gb_two]
                exact Both.same M H O _ rfl rfl
              · rw [if_neg h5, if_neg h5]
                by_cases h6 : x2 = 6
                · rw [if_pos h6, if_pos h6, m_strikes M.c.r.1 B hi, gm_some, A_t hob (by decide) rfl, ← hA, X_t hck hk, c_strikes (t := (σ, 0, 0)) R.1 B hi, gb_two]
                  exact Both.same M H O _ rfl rfl
                · rw [if_neg h6, if_neg h6]
                  exact Both.same M H O _ rfl rfl
  · rw [m_clk0 M O h, gm_some, if_pos rfl, c_clk0 H O h, gb_two, if_pos rfl]
    exact Both.same M H O _ rfl rfl
theorem b_rate (M : MW t W) (H : CW σ T ex z o a W) (O : W.OK) (x1 : Int32) : Both σ T ex z o a (fX3_rate x1 t) (fX0_rate ex z o x1 (σ, 0, 0)) := by
  obtain ⟨A, hA, R⟩ := H.race
  obtain ⟨at_, hob⟩ := H.obj
  have B := O.ba
  have hn := O.n
  unfold fX3_rate fX0_rate
  rw [X_t hob (by decide)]
  by_cases h : ∃ i, i < W.C.R.n ∧ x1 = nI i
  · obtain ⟨i, hi, rfl⟩ := h
    rw [m_clk1 M O hi, gm_some, if_neg n10, c_clk1 H O hi, gb_two, if_neg n10, A_t hob (by decide) rfl, ← hA, X_t R.1.ra (by decide), c_clock (t := (σ, 0, 0)) R.1 B hi, gb_two, I_t (R.1.ck i hi) (kin (B.k i hi)) rfl, mald_nI (by omega) (by decide), M.c.r.1.r i hi]
    exact Both.same M H O _ rfl rfl
  · rw [m_clk0 M O h, gm_some, if_pos rfl, c_clk0 H O h, gb_two, if_pos rfl]
    exact Both.same M H O _ rfl rfl
theorem b_dial (M : MW t W) (H : CW σ T ex z o a W) (O : W.OK) (x1 : Int32) : Both σ T ex z o a (fX3_dial x1 t) (fX0_dial ex z o x1 (σ, 0, 0)) := by
  obtain ⟨A, hA, R⟩ := H.race
  obtain ⟨at_, hob⟩ := H.obj
  have hW := O.ba.W1
  unfold fX3_dial fX0_dial
  rw [X_t hob (by decide)]
  by_cases h : ∃ i, i < W.C.R.W ∧ x1 = nI i
  · obtain ⟨i, hi, rfl⟩ := h
    rw [m_win1 M O hi, gm_some, if_neg n10, c_win1 H O hi, gb_two, if_neg n10, A_t hob (by decide) rfl, ← hA, X_t R.1.ra (by decide), c_dial (t := (σ, 0, 0)) R.1 (by omega), gb_two, mald_nI (by omega) (by decide), M.c.r.1.d i (by omega)]
    exact Both.same M H O _ rfl rfl
  · rw [m_win0 M O h, gm_some, if_pos rfl, c_win0 H O h, gb_two, if_pos rfl]
    exact Both.same M H O _ rfl rfl
theorem b_weather (M : MW t W) (H : CW σ T ex z o a W) (O : W.OK) (x1 : Int32) : Both σ T ex z o a (fX3_weather x1 t) (fX0_weather ex z o x1 (σ, 0, 0)) := by
  obtain ⟨A, hA, R⟩ := H.race
  obtain ⟨at_, hob⟩ := H.obj
  have h0 := O.ba.mn0
  have h1 := O.ba.mn1
  obtain ⟨f, hs, hf⟩ := R.1.sk
  unfold fX3_weather fX0_weather
  by_cases h : ∃ c, 0 ≤ c ∧ c ≤ 9999 ∧ x1 = nI c
  · obtain ⟨c, -, hc, rfl⟩ := h
    have hlt : c % W.C.R.mn < 12 := Nat.lt_of_lt_of_le (Nat.mod_lt _ (by omega)) h1
    rw [m_iL1 0 9999 t (by omega) hc (by decide), gm_some, if_neg n10, c_iL1 0 9999 _ (by omega) hc (by decide), gb_two, if_neg n10, A_t hob (by decide) rfl, ← hA, A_t R.1.ra (by decide) rfl, A_t hob (by decide) rfl, ← hA, I_t R.1.ra (by decide) rfl, M.c.r.1.mn, if_neg (nI_ne0 (by omega) (by omega)), if_neg (nI_ne0 (by omega) (by omega)), pk_rem' W.C.R.mn (by omega) (by omega) (by omega), mald_nI hlt (by decide), ald_t hs hlt (by decide), M.c.r.1.sk _ hlt, hf _ hlt]
    exact Both.same M H O _ rfl rfl
  · rw [m_iL0 0 9999 t (by omega) (by decide) h, gm_some, if_pos rfl, c_iL0 0 9999 _ (by omega) (by decide) h, gb_two, if_pos rfl]
    exact Both.same M H O _ rfl rfl
theorem b_heard (M : MW t W) (H : CW σ T ex z o a W) (O : W.OK) : Both σ T ex z o a (fX3_heard t) (fX0_heard ex z o (σ, 0, 0)) := by
  obtain ⟨A, hA, R⟩ := H.race
  obtain ⟨at_, hob⟩ := H.obj
  unfold fX3_heard fX0_heard
  rw [ilit 61, mald_nI (by decide) (by decide), M.c.r.1.he, A_t hob (by decide) rfl, ← hA, I_t R.1.ra (by decide) rfl]
  exact Both.same M H O _ rfl rfl
theorem b_place (M : MW t W) (H : CW σ T ex z o a W) (O : W.OK) (x1 : Int32) : Both σ T ex z o a (fX3_place x1 t) (fX0_place ex z o x1 (σ, 0, 0)) := by
  obtain ⟨A, hA, R⟩ := H.race
  obtain ⟨at_, hob⟩ := H.obj
  have B := O.ba
  unfold fX3_place fX0_place
  rw [X_t hob (by decide)]
  by_cases h : ∃ i, i < W.C.R.n ∧ x1 = nI i
  · obtain ⟨i, hi, rfl⟩ := h
    rw [m_clk1 M O hi, gm_some, if_neg n10, c_clk1 H O hi, gb_two, if_neg n10, A_t hob (by decide) rfl, A_t hob (by decide) rfl, ← hA, X_t R.1.ra (by decide), c_clock (t := (σ, 0, 0)) R.1 B hi, gb_two, X_t R.1.ra (by decide), c_place (t := (σ, 0, 0)) R.1 O.c.r hi, gb_two, m_placeOf M.c.r O.c.r hi, gm_some]
    exact Both.same M H O _ rfl rfl
  · rw [m_clk0 M O h, gm_some, if_pos rfl, c_clk0 H O h, gb_two, if_pos rfl]
    exact Both.same M H O _ rfl rfl
theorem b_count (M : MW t W) (H : CW σ T ex z o a W) (O : W.OK) (x1 : Int32) : Both σ T ex z o a (fX3_count x1 t) (fX0_count ex z o x1 (σ, 0, 0)) := by
  obtain ⟨A, hA, R⟩ := H.race
  obtain ⟨at_, hob⟩ := H.obj
  obtain ⟨-, eb, gb, Hb, -⟩ := H.bt
  obtain ⟨-, eu, gu, Hu, -⟩ := H.un
  obtain ⟨mcb, hlb⟩ := Hb.2.1
  obtain ⟨mcu, hlu⟩ := Hu.2.1
  unfold fX3_count fX0_count
  by_cases h0 : x1 = 0
  · rw [if_pos h0, if_pos h0, A_t hob (by decide) rfl, ← hA, I_t R.1.ra (by decide) rfl, M.c.r.1.W]
    exact Both.same M H O _ rfl rfl
  · rw [if_neg h0, if_neg h0]
    by_cases h1 : x1 = 1
    · rw [if_pos h1, if_pos h1, A_t hob (by decide) rfl, ← hA, X_t R.1.ra (by decide), c_size (t := (σ, 0, 0)) R.1, gb_two, M.c.r.1.n]
      exact Both.same M H O _ rfl rfl
    · rw [if_neg h1, if_neg h1]
      by_cases h2 : x1 = 2
      · rw [if_pos h2, if_pos h2, A_t hob (by decide) rfl, ← hA, I_t R.1.ra (by decide) rfl, ilit 60, mald_nI (by decide) (by decide), M.c.r.1.now]
        exact Both.same M H O _ rfl rfl
      · rw [if_neg h2, if_neg h2]
        by_cases h3 : x1 = 3
        · rw [if_pos h3, if_pos h3, A_t hob (by decide) rfl, ← hA, X_t R.1.ra (by decide), c_homes (t := (σ, 0, 0)) R.1 O.c.r, gb_two, m_homes M.c.r O.c.r, gm_some]
          exact Both.same M H O _ rfl rfl
        · rw [if_neg h3, if_neg h3]
          by_cases h4 : x1 = 4
          · rw [if_pos h4, if_pos h4, A_t hob (by decide) rfl, ← hA, I_t R.1.ra (by decide) rfl, ilit 62, mald_nI (by decide) (by decide), M.c.r.1.so]
            exact Both.same M H O _ rfl rfl
          · rw [if_neg h4, if_neg h4]
            by_cases h5 : x1 = 5
            · rw [if_pos h5, if_pos h5, A_t hob (by decide) rfl, X_t hlb (by decide), al_size Hb, gb_two, M.c.bn]
              exact Both.same M H O _ rfl rfl
            · rw [if_neg h5, if_neg h5]
              by_cases h6 : x1 = 6
              · rw [if_pos h6, if_pos h6, A_t hob (by decide) rfl, X_t hlu (by decide), al_size Hu, gb_two, M.c.un]
                exact Both.same M H O _ rfl rfl
              · rw [if_neg h6, if_neg h6]
                by_cases h7 : x1 = 7
                · rw [if_pos h7, if_pos h7, A_t hob (by decide) rfl, ← hA, X_t R.1.ra (by decide), c_ties (t := (σ, 0, 0)) R.1 O.c.r, gb_two, m_tied M.c.r O.c.r, gm_some]
                  exact Both.same M H O _ rfl rfl
                · rw [if_neg h7, if_neg h7]
                  exact Both.same M H O _ rfl rfl
end O1
