/-! who is ahead, places, homes, ties: both sides -/
set_option maxRecDepth 100000
/-- how many below n are so -/
def cnt (P : Nat → Bool) : Nat → Nat
  | 0 => 0
  | n + 1 => cnt P n + if P n = true then 1 else 0
theorem cnt_le (P : Nat → Bool) : ∀ n, cnt P n ≤ n
  | 0 => Nat.le_refl 0
  | n + 1 => by have := cnt_le P n; unfold cnt; split <;> omega
def Rc.ahd (R : Rc) (a b : Nat) : Bool := if R.f a ≠ 0 ∧ R.f b ≠ 0 then decide (R.f a < R.f b) else decide (R.f a ≠ 0 ∨ (R.f b = 0 ∧ R.p b < R.p a))
theorem Rc.ahd_self (R : Rc) (a : Nat) : R.ahd a a = false := by
  unfold Rc.ahd; split
  · simp
  · simp; omega
def Rc.place (R : Rc) (c : Nat) : Nat := 1 + cnt (fun k => R.ahd k c) R.n
def Rc.homes (R : Rc) : Nat := cnt (fun c => decide (R.f c ≠ 0)) R.n
def Rc.tie (R : Rc) (a b : Nat) : Bool := !R.ahd a b && !R.ahd b a
def Rc.ties (R : Rc) : Nat → Nat
  | 0 => 0
  | a + 1 => Rc.ties R a + cnt (fun b => R.tie a b) a
def b2 (b : Bool) : Int32 := if b = true then 1 else 0
theorem b2_0 {b : Bool} : b2 b = 0 ↔ b = false := by cases b <;> decide
section P1
variable {t : MS} {R : Rc}
theorem m_isHome' (H : MR t R) (O : R.OK) {c : Nat} (hc : c < R.n) : fX3_isHome (nI c) t = some (if R.f c = 0 then 0 else 1, t) := by
  rw [m_isHome H.1 O.b hc]
  have := O.f c hc
  by_cases h : R.f c = 0
  · rw [if_pos h, if_neg (this.mp h)]
  · rw [if_neg h, if_pos (Decidable.byContradiction fun g => h (this.mpr g))]
theorem m_ah43 (H : MR t R) (O : R.OK) {a b : Nat} (ha : a < R.n) (hb : b < R.n) (h : ¬ (R.f a ≠ 0 ∧ R.f b ≠ 0)) : fX3_isAhead_43 (nI a) (nI b) t = some (b2 (R.ahd a b), t) := by
  have hn := O.b.n
  have hpa := O.b.p a ha
  have hpb := O.b.p b hb
  have hW := O.b.W1
  unfold fX3_isAhead_43 Rc.ahd
  rw [if_neg h, m_isHome' H O ha, gm_some]
  by_cases h1 : R.f a = 0
  · rw [if_pos h1, if_pos rfl, m_isHome' H O hb, gm_some]
    by_cases h2 : R.f b = 0
    · rw [if_pos h2, if_pos rfl, ilit 42, nI_add, nI_add, mald_nI (by omega) (by decide), mald_nI (by omega) (by decide), H.1.p a ha, H.1.p b hb, ifle (R.p b) rfl rfl (by omega) (by omega)]
      by_cases h3 : R.p a ≤ R.p b
      · rw [if_pos h3]; simp [h1, h2, b2, Nat.not_lt.mpr h3]
      · rw [if_neg h3]; simp [h1, h2, b2, Nat.not_le.mp h3]
    · rw [if_neg h2, if_neg (by decide)]; simp [h1, h2, b2]
  · rw [if_neg h1, if_neg (by decide)]; simp [h1, b2]
theorem m_isAhead (H : MR t R) (O : R.OK) {a b : Nat} (ha : a < R.n) (hb : b < R.n) : fX3_isAhead (nI a) (nI b) t = some (b2 (R.ahd a b), t) := by
  have hn := O.b.n
  have hfa := O.f1 a ha
  have hfb := O.f1 b hb
  have hnow := O.b.now
  unfold fX3_isAhead
  rw [m_isHome' H O ha, gm_some]
  by_cases h1 : R.f a = 0
  · rw [if_pos h1, if_pos rfl, m_ah43 H O ha hb (fun g => g.1 h1)]
  · rw [if_neg h1, if_neg (by decide), m_isHome' H O hb, gm_some]
    by_cases h2 : R.f b = 0
    · rw [if_pos h2, if_pos rfl, m_ah43 H O ha hb (fun g => g.2 h2)]
    · have e1 : fin (R.f a) = nI (R.f a) := by unfold fin; rw [if_neg h1]
      have e2 : fin (R.f b) = nI (R.f b) := by unfold fin; rw [if_neg h2]
      rw [if_neg h2, if_neg (by decide), ilit 51, nI_add, nI_add, mald_nI (by omega) (by decide), mald_nI (by omega) (by decide), H.2 a ha, H.2 b hb, e1, e2, ifle (R.f a) rfl rfl (by omega) (by omega)]
      have e3 : R.ahd a b = decide (R.f a < R.f b) := by unfold Rc.ahd; rw [if_pos (And.intro h1 h2)]
      rw [e3]
      by_cases h3 : R.f b ≤ R.f a
      · rw [if_pos h3]; simp [b2, Nat.not_lt.mpr h3]
      · rw [if_neg h3]; simp [b2, Nat.not_le.mp h3]
theorem m_pl4 (H : MR t R) (O : R.OK) {c : Nat} (hc : c < R.n) : ∀ (j k fuel : Nat), k + j = R.n → j < fuel → fX3_placeOf_4 fuel (nI c) (nI (1 + cnt (fun k => R.ahd k c) k)) (nI k) t = some (nI (R.place c), t)
  | 0, k, fuel, hj, hf => by
    obtain ⟨m, rfl⟩ : ∃ m, fuel = m + 1 := ⟨fuel - 1, by omega⟩
    obtain rfl : k = R.n := by omega
    have hn := O.b.n
    rw [fX3_placeOf_4, H.1.n, if_pos (nI_le (Nat.le_refl _) (by omega))]; rfl
  | j + 1, k, fuel, hj, hf => by
    obtain ⟨m, rfl⟩ : ∃ m, fuel = m + 1 := ⟨fuel - 1, by omega⟩
    have hn := O.b.n
    have ih := m_pl4 H O hc j (k + 1) m (by omega) (by omega)
    have e0 : R.ahd k c = false → 1 + cnt (fun k => R.ahd k c) (k + 1) = 1 + cnt (fun k => R.ahd k c) k := by intro h; simp [cnt, h]
    have no : R.ahd k c = false → fX3_placeOf_31 (fun a0 a1 a2 a3 => fX3_placeOf_4 m a0 a1 a2 a3) (nI c) (nI k) (nI (1 + cnt (fun k => R.ahd k c) k)) t = some (nI (R.place c), t) := by
      intro h
      rw [e0 h] at ih
      unfold fX3_placeOf_31 fX3_placeOf_32 lt
      rw [ilit 0, nI_add, nI_1]
      exact ih
    rw [fX3_placeOf_4, H.1.n, if_neg (nI_ge (by omega) (by omega)), ife c rfl (by omega) (by omega)]
    by_cases hkc : k = c
    · rw [if_pos hkc]; exact no (by rw [hkc]; exact R.ahd_self c)
    · rw [if_neg hkc, m_isAhead H O (by omega) hc, gm_some]
      by_cases h : R.ahd k c = false
      · rw [if_pos (b2_0.mpr h)]; exact no h
      · rw [if_neg (fun g => h (b2_0.mp g))]
        have e1 : 1 + cnt (fun k => R.ahd k c) (k + 1) = 1 + cnt (fun k => R.ahd k c) k + 1 := by simp at h; simp [cnt, h]; omega
        rw [e1] at ih
        unfold fX3_placeOf_32 lt
        rw [nI_1, nI_1]
        exact ih
theorem m_placeOf (H : MR t R) (O : R.OK) {c : Nat} (hc : c < R.n) : fX3_placeOf (nI c) t = some (nI (R.place c), t) := by
  have hn := O.b.n
  exact m_pl4 H O hc R.n 0 1000 (by omega) (by omega)
theorem m_ho4 (H : MR t R) (O : R.OK) : ∀ (j k fuel : Nat), k + j = R.n → j < fuel → fX3_homes_4 fuel (nI (cnt (fun c => decide (R.f c ≠ 0)) k)) (nI k) t = some (nI R.homes, t)
  | 0, k, fuel, hj, hf => by
    obtain ⟨m, rfl⟩ : ∃ m, fuel = m + 1 := ⟨fuel - 1, by omega⟩
    obtain rfl : k = R.n := by omega
    have hn := O.b.n
    rw [fX3_homes_4, H.1.n, if_pos (nI_le (Nat.le_refl _) (by omega))]; rfl
  | j + 1, k, fuel, hj, hf => by
    obtain ⟨m, rfl⟩ : ∃ m, fuel = m + 1 := ⟨fuel - 1, by omega⟩
    have hn := O.b.n
    have ih := m_ho4 H O j (k + 1) m (by omega) (by omega)
    rw [fX3_homes_4, H.1.n, if_neg (nI_ge (by omega) (by omega)), m_isHome' H O (by omega), gm_some]
    unfold fX3_homes_26 lt
    by_cases h : R.f k = 0
    · rw [if_pos h, if_pos rfl, ilit 0, nI_add, nI_1]
      simpa [cnt, h] using ih
    · rw [if_neg h, if_neg (by decide), nI_1, nI_1]
      simpa [cnt, h] using ih
theorem m_homes (H : MR t R) (O : R.OK) : fX3_homes t = some (nI R.homes, t) := by
  have hn := O.b.n
  exact m_ho4 H O R.n 0 1000 (by omega) (by omega)
theorem m_ti14 (H : MR t R) (O : R.OK) (kc : Int32 → Int32 → MS → Option (Int32 × MS)) {a s : Nat} (ha : a < R.n) : ∀ (j b fuel : Nat), b + j = a → j < fuel → fX3_tied_14 kc fuel (nI (s + cnt (fun b => R.tie a b) b)) (nI a) (nI b) t = kc (nI (s + cnt (fun b => R.tie a b) a)) (nI (a + 1)) t
  | 0, b, fuel, hj, hf => by
    obtain ⟨m, rfl⟩ : ∃ m, fuel = m + 1 := ⟨fuel - 1, by omega⟩
    obtain rfl : b = a := by omega
    have hn := O.b.n
    rw [fX3_tied_14, if_pos (nI_le (Nat.le_refl _) (by omega)), nI_1]
  | j + 1, b, fuel, hj, hf => by
    obtain ⟨m, rfl⟩ : ∃ m, fuel = m + 1 := ⟨fuel - 1, by omega⟩
    have hn := O.b.n
    have ih := m_ti14 H O kc (s := s) ha j (b + 1) m (by omega) (by omega)
    have no : R.tie a b = false → fX3_tied_42 kc (fun a0 a1 a2 a3 => fX3_tied_14 kc m a0 a1 a2 a3) (nI a) (nI b) (nI (s + cnt (fun b => R.tie a b) b)) t = kc (nI (s + cnt (fun b => R.tie a b) a)) (nI (a + 1)) t := by
      intro h
      have e1 : s + cnt (fun b => R.tie a b) (b + 1) = s + cnt (fun b => R.tie a b) b := by simp [cnt, h]
      rw [e1] at ih
      unfold fX3_tied_42 fX3_tied_43 lt
      rw [ilit 0, nI_add, nI_1]
      exact ih
    rw [fX3_tied_14, if_neg (nI_ge (by omega) (by omega)), m_isAhead H O ha (by omega), gm_some]
    by_cases h1 : R.ahd a b = false
    · rw [if_pos (b2_0.mpr h1), m_isAhead H O (by omega) ha, gm_some]
      by_cases h2 : R.ahd b a = false
      · have e1 : s + cnt (fun b => R.tie a b) (b + 1) = s + cnt (fun b => R.tie a b) b + 1 := by simp [cnt, Rc.tie, h1, h2]; omega
        rw [e1] at ih
        rw [if_pos (b2_0.mpr h2)]
        unfold fX3_tied_43 lt
        rw [nI_1, nI_1]
        exact ih
      · rw [if_neg (fun g => h2 (b2_0.mp g))]; exact no (by simp at h2; simp [Rc.tie, h2])
    · rw [if_neg (fun g => h1 (b2_0.mp g))]; exact no (by simp at h1; simp [Rc.tie, h1])
theorem m_ti4 (H : MR t R) (O : R.OK) : ∀ (j a fuel : Nat), a + j = R.n → j < fuel → fX3_tied_4 fuel (nI (R.ties a)) (nI a) t = some (nI (R.ties R.n), t)
  | 0, a, fuel, hj, hf => by
    obtain ⟨m, rfl⟩ : ∃ m, fuel = m + 1 := ⟨fuel - 1, by omega⟩
    obtain rfl : a = R.n := by omega
    have hn := O.b.n
    rw [fX3_tied_4, H.1.n, if_pos (nI_le (Nat.le_refl _) (by omega))]
  | j + 1, a, fuel, hj, hf => by
    obtain ⟨m, rfl⟩ : ∃ m, fuel = m + 1 := ⟨fuel - 1, by omega⟩
    have hn := O.b.n
    have ih := m_ti4 H O j (a + 1) m (by omega) (by omega)
    rw [fX3_tied_4, H.1.n, if_neg (nI_ge (by omega) (by omega))]
    have r := m_ti14 H O (fun a0 a1 a2 => fX3_tied_4 m a0 a1 a2) (a := a) (s := R.ties a) (by omega) a 0 1000 (by omega) (by omega)
    exact r.trans ih
theorem m_tied (H : MR t R) (O : R.OK) : fX3_tied t = some (nI (R.ties R.n), t) := by
  have hn := O.b.n
  exact m_ti4 H O R.n 0 1000 (by omega) (by omega)
end P1
section P2
variable {ex : Nat → Option Nat} {z : Nat} {t : St} {A : Ad} {R : Rc} {al : Int32}
theorem c_home1 (H : RR t.1 A R al) (O : R.OK) {c : Nat} (hc : c < R.n) : fX4_isHome ex z (A.ca c) t = some (if R.f c = 0 then 0 else 1, t) := by
  have h1 := O.f1 c hc
  have h2 := O.b.now
  exact c_isHome H O.b hc (by omega)
theorem c_ah31 (H : RR t.1 A R al) (O : R.OK) {a b : Nat} (ha : a < R.n) (hb : b < R.n) (h : ¬ (R.f a ≠ 0 ∧ R.f b ≠ 0)) : fX4_isAhead_31 ex z (A.ca a) (A.ca b) t = some (b2 (R.ahd a b), t) := by
  have hpa := O.b.p a ha
  have hpb := O.b.p b hb
  have hW := O.b.W1
  have ka := kin (O.b.k a ha)
  have kb := kin (O.b.k b hb)
  unfold fX4_isAhead_31 Rc.ahd
  rw [if_neg h, ccast_at (H.ck a ha) ka, c_home1 (t := (t.1, 0, 0)) H O ha, gb_pure]
  by_cases h1 : R.f a = 0
  · rw [if_pos h1, if_pos rfl, ccast_at (H.ck b hb) kb, c_home1 (t := (t.1, 0, 0)) H O hb, gb_pure]
    by_cases h2 : R.f b = 0
    · rw [if_pos h2, if_pos rfl, cgI_at (H.ck a ha) ka rfl, cgI_at (H.ck b hb) kb rfl, ifle (R.p b) rfl rfl (by omega) (by omega)]
      by_cases h3 : R.p a ≤ R.p b
      · rw [if_pos h3]; simp [h1, h2, b2, Nat.not_lt.mpr h3]
      · rw [if_neg h3]; simp [h1, h2, b2, Nat.not_le.mp h3]
    · rw [if_neg h2, if_neg (by decide)]; simp [h1, h2, b2]
  · rw [if_neg h1, if_neg (by decide)]; simp [h1, b2]
theorem c_isAhead (H : RR t.1 A R al) (O : R.OK) {a b : Nat} (ha : a < R.n) (hb : b < R.n) : fX4_isAhead ex z (A.ca a) (A.ca b) t = some (b2 (R.ahd a b), t) := by
  have hfa := O.f1 a ha
  have hfb := O.f1 b hb
  have hnow := O.b.now
  have ka := kin (O.b.k a ha)
  have kb := kin (O.b.k b hb)
  unfold fX4_isAhead
  rw [ccast_at (H.ck a ha) ka, c_home1 (t := (t.1, 0, 0)) H O ha, gb_pure]
  by_cases h1 : R.f a = 0
  · rw [if_pos h1, if_pos rfl, c_ah31 H O ha hb (fun g => g.1 h1)]
  · rw [if_neg h1, if_neg (by decide), ccast_at (H.ck b hb) kb, c_home1 (t := (t.1, 0, 0)) H O hb, gb_pure]
    by_cases h2 : R.f b = 0
    · rw [if_pos h2, if_pos rfl, c_ah31 H O ha hb (fun g => g.2 h2)]
    · have e1 : fin (R.f a) = nI (R.f a) := by unfold fin; rw [if_neg h1]
      have e2 : fin (R.f b) = nI (R.f b) := by unfold fin; rw [if_neg h2]
      rw [if_neg h2, if_neg (by decide), cgI_at (H.ck a ha) ka rfl, cgI_at (H.ck b hb) kb rfl, e1, e2, ifle (R.f a) rfl rfl (by omega) (by omega)]
      have e3 : R.ahd a b = decide (R.f a < R.f b) := by unfold Rc.ahd; rw [if_pos (And.intro h1 h2)]
      rw [e3]
      by_cases h3 : R.f b ≤ R.f a
      · rw [if_pos h3]; simp [b2, Nat.not_lt.mpr h3]
      · rw [if_neg h3]; simp [b2, Nat.not_le.mp h3]
theorem c_pl4 (H : RR t.1 A R al) (O : R.OK) {c : Nat} (hc : c < R.n) : ∀ (j k fuel : Nat), k + j = R.n → j < fuel → fX1_place_4 ex z fuel A.r (A.ca c) (nI (1 + cnt (fun k => R.ahd k c) k)) (nI k) t = some (nI (R.place c), t)
  | 0, k, fuel, hj, hf => by
    obtain ⟨m, rfl⟩ : ∃ m, fuel = m + 1 := ⟨fuel - 1, by omega⟩
    obtain rfl : k = R.n := by omega
    have hn := O.b.n
    obtain ⟨mc, hl⟩ := H.li
    rw [fX1_place_4, cgA_at H.ra (by decide) rfl, ccast_at hl (by decide), c_listsize (t := (t.1, 0, 0)) H, gb_pure, if_pos (nI_le (Nat.le_refl _) (by omega))]; rfl
  | j + 1, k, fuel, hj, hf => by
    obtain ⟨m, rfl⟩ : ∃ m, fuel = m + 1 := ⟨fuel - 1, by omega⟩
    have hn := O.b.n
    have hk : k < R.n := by omega
    have kk := kin (O.b.k k hk)
    obtain ⟨mc, hl⟩ := H.li
    have ih := c_pl4 H O hc j (k + 1) m (by omega) (by omega)
    rw [fX1_place_4, cgA_at H.ra (by decide) rfl, ccast_at hl (by decide), c_listsize (t := (t.1, 0, 0)) H, gb_pure, if_neg (nI_ge (by omega) (by omega)), cgA_at H.ra (by decide) rfl, ccast_at hl (by decide), c_get (t := (t.1, 0, 0)) H hn hk, gb_pure, ccast_at (H.ck k hk) kk, ccast_at (H.ck k hk) kk, c_isAhead (t := (t.1, 0, 0)) H O hk hc, gb_pure]
    unfold fX1_place_39 lt
    by_cases h : R.ahd k c = false
    · rw [if_pos (b2_0.mpr h), ilit 0, nI_add, nI_1]
      have e0 : 1 + cnt (fun k => R.ahd k c) (k + 1) = 1 + cnt (fun k => R.ahd k c) k := by simp [cnt, h]
      rw [e0] at ih
      exact ih
    · rw [if_neg (fun g => h (b2_0.mp g)), nI_1, nI_1]
      have e1 : 1 + cnt (fun k => R.ahd k c) (k + 1) = 1 + cnt (fun k => R.ahd k c) k + 1 := by simp at h; simp [cnt, h]; omega
      rw [e1] at ih
      exact ih
theorem c_place (H : RR t.1 A R al) (O : R.OK) {c : Nat} (hc : c < R.n) : fX1_place ex z A.r (A.ca c) t = some (nI (R.place c), t) := by
  have hn := O.b.n
  exact c_pl4 H O hc R.n 0 1000 (by omega) (by omega)
theorem c_ho4 (H : RR t.1 A R al) (O : R.OK) : ∀ (j k fuel : Nat), k + j = R.n → j < fuel → fX1_homes_4 ex z fuel A.r (nI (cnt (fun c => decide (R.f c ≠ 0)) k)) (nI k) t = some (nI R.homes, t)
  | 0, k, fuel, hj, hf => by
    obtain ⟨m, rfl⟩ : ∃ m, fuel = m + 1 := ⟨fuel - 1, by omega⟩
    obtain rfl : k = R.n := by omega
    have hn := O.b.n
    obtain ⟨mc, hl⟩ := H.li
    rw [fX1_homes_4, cgA_at H.ra (by decide) rfl, ccast_at hl (by decide), c_listsize (t := (t.1, 0, 0)) H, gb_pure, if_pos (nI_le (Nat.le_refl _) (by omega))]; rfl
  | j + 1, k, fuel, hj, hf => by
    obtain ⟨m, rfl⟩ : ∃ m, fuel = m + 1 := ⟨fuel - 1, by omega⟩
    have hn := O.b.n
    have hk : k < R.n := by omega
    have kk := kin (O.b.k k hk)
    obtain ⟨mc, hl⟩ := H.li
    have ih := c_ho4 H O j (k + 1) m (by omega) (by omega)
    rw [fX1_homes_4, cgA_at H.ra (by decide) rfl, ccast_at hl (by decide), c_listsize (t := (t.1, 0, 0)) H, gb_pure, if_neg (nI_ge (by omega) (by omega)), cgA_at H.ra (by decide) rfl, ccast_at hl (by decide), c_get (t := (t.1, 0, 0)) H hn hk, gb_pure, ccast_at (H.ck k hk) kk, ccast_at (H.ck k hk) kk, c_home1 (t := (t.1, 0, 0)) H O hk, gb_pure]
    unfold fX1_homes_38 lt
    by_cases h : R.f k = 0
    · rw [if_pos h, if_pos rfl, ilit 0, nI_add, nI_1]
      simpa [cnt, h] using ih
    · rw [if_neg h, if_neg (by decide), nI_1, nI_1]
      simpa [cnt, h] using ih
theorem c_homes (H : RR t.1 A R al) (O : R.OK) : fX1_homes ex z A.r t = some (nI R.homes, t) := by
  have hn := O.b.n
  exact c_ho4 H O R.n 0 1000 (by omega) (by omega)
theorem c_ti17 (H : RR t.1 A R al) (O : R.OK) (kc : Nat → Int32 → Int32 → St → Option (Int32 × St)) {a s : Nat} (ha : a < R.n) : ∀ (j b fuel : Nat), b + j = a → j < fuel → fX1_ties_17 ex z kc fuel A.r (nI (s + cnt (fun b => R.tie a b) b)) (nI a) (nI b) t = kc A.r (nI (s + cnt (fun b => R.tie a b) a)) (nI (a + 1)) t
  | 0, b, fuel, hj, hf => by
    obtain ⟨m, rfl⟩ : ∃ m, fuel = m + 1 := ⟨fuel - 1, by omega⟩
    obtain rfl : b = a := by omega
    have hn := O.b.n
    rw [fX1_ties_17, if_pos (nI_le (Nat.le_refl _) (by omega)), nI_1]
  | j + 1, b, fuel, hj, hf => by
    obtain ⟨m, rfl⟩ : ∃ m, fuel = m + 1 := ⟨fuel - 1, by omega⟩
    have hn := O.b.n
    have hb : b < R.n := by omega
    have ka := kin (O.b.k a ha)
    have kb := kin (O.b.k b hb)
    obtain ⟨mc, hl⟩ := H.li
    have ih := c_ti17 H O kc (s := s) ha j (b + 1) m (by omega) (by omega)
    have no : R.tie a b = false → fX1_ties_79 ex z kc (fun a0 a1 a2 a3 a4 => fX1_ties_17 ex z kc m a0 a1 a2 a3 a4) A.r (nI a) (nI b) (nI (s + cnt (fun b => R.tie a b) b)) t = kc A.r (nI (s + cnt (fun b => R.tie a b) a)) (nI (a + 1)) t := by
      intro h
      have e1 : s + cnt (fun b => R.tie a b) (b + 1) = s + cnt (fun b => R.tie a b) b := by simp [cnt, h]
      rw [e1] at ih
      unfold fX1_ties_79 fX1_ties_84 lt
      rw [ilit 0, nI_add, nI_1]
      exact ih
    rw [fX1_ties_17, if_neg (nI_ge (by omega) (by omega)), cgA_at H.ra (by decide) rfl, ccast_at hl (by decide), c_get (t := (t.1, 0, 0)) H hn ha, gb_pure, ccast_at (H.ck a ha) ka, cgA_at H.ra (by decide) rfl, ccast_at hl (by decide), c_get (t := (t.1, 0, 0)) H hn hb, gb_pure, ccast_at (H.ck b hb) kb, ccast_at (H.ck a ha) ka, c_isAhead (t := (t.1, 0, 0)) H O ha hb, gb_pure]
    by_cases h1 : R.ahd a b = false
    · rw [if_pos (b2_0.mpr h1), cgA_at H.ra (by decide) rfl, ccast_at hl (by decide), c_get (t := (t.1, 0, 0)) H hn hb, gb_pure, ccast_at (H.ck b hb) kb, cgA_at H.ra (by decide) rfl, ccast_at hl (by decide), c_get (t := (t.1, 0, 0)) H hn ha, gb_pure, ccast_at (H.ck a ha) ka, ccast_at (H.ck b hb) kb, c_isAhead (t := (t.1, 0, 0)) H O hb ha, gb_pure]
      by_cases h2 : R.ahd b a = false
      · have e1 : s + cnt (fun b => R.tie a b) (b + 1) = s + cnt (fun b => R.tie a b) b + 1 := by simp [cnt, Rc.tie, h1, h2]; omega
        rw [e1] at ih
        rw [if_pos (b2_0.mpr h2)]
        unfold fX1_ties_84 lt
        rw [nI_1, nI_1]
        exact ih
      · rw [if_neg (fun g => h2 (b2_0.mp g))]; exact no (by simp at h2; simp [Rc.tie, h2])
    · rw [if_neg (fun g => h1 (b2_0.mp g))]; exact no (by simp at h1; simp [Rc.tie, h1])
theorem c_ti4 (H : RR t.1 A R al) (O : R.OK) : ∀ (j a fuel : Nat), a + j = R.n → j < fuel → fX1_ties_4 ex z fuel A.r (nI (R.ties a)) (nI a) t = some (nI (R.ties R.n), t)
  | 0, a, fuel, hj, hf => by
    obtain ⟨m, rfl⟩ : ∃ m, fuel = m + 1 := ⟨fuel - 1, by omega⟩
    obtain rfl : a = R.n := by omega
    have hn := O.b.n
    obtain ⟨mc, hl⟩ := H.li
    rw [fX1_ties_4, cgA_at H.ra (by decide) rfl, ccast_at hl (by decide), c_listsize (t := (t.1, 0, 0)) H, gb_pure, if_pos (nI_le (Nat.le_refl _) (by omega))]
  | j + 1, a, fuel, hj, hf => by
    obtain ⟨m, rfl⟩ : ∃ m, fuel = m + 1 := ⟨fuel - 1, by omega⟩
    have hn := O.b.n
    obtain ⟨mc, hl⟩ := H.li
    have ih := c_ti4 H O j (a + 1) m (by omega) (by omega)
    rw [fX1_ties_4, cgA_at H.ra (by decide) rfl, ccast_at hl (by decide), c_listsize (t := (t.1, 0, 0)) H, gb_pure, if_neg (nI_ge (by omega) (by omega))]
    have r := c_ti17 (ex := ex) (z := z) H O (fun a0 a1 a2 a3 => fX1_ties_4 ex z m a0 a1 a2 a3) (a := a) (s := R.ties a) (by omega) a 0 1000 (by omega) (by omega)
    exact r.trans ih
theorem c_ties (H : RR t.1 A R al) (O : R.OK) : fX1_ties ex z A.r t = some (nI (R.ties R.n), t) := by
  have hn := O.b.n
  exact c_ti4 H O R.n 0 1000 (by omega) (by omega)
end P2
