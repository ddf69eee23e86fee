/-! sheets: film, seen -/
set_option maxRecDepth 100000
/-- the windows of the first k, from q on -/
def flm (R : Rc) (q k : Nat) (it : Nat → Int64) : Nat → Int64 := fun j => if q ≤ j ∧ j < q + k then (nI (R.p (j - q))).toInt64 else it j
theorem flm_0 (R : Rc) (q : Nat) (it : Nat → Int64) : flm R q 0 it = it := by
  funext j; unfold flm; rw [if_neg (by omega)]
theorem flm_s (R : Rc) (q k : Nat) (it : Nat → Int64) : up (flm R q k it) (q + k) (nI (R.p k)).toInt64 = flm R q (k + 1) it := by
  funext j
  unfold flm
  by_cases h : j = q + k
  · subst h
    rw [up_self, if_pos (by omega)]
    congr 3; omega
  · rw [up_ne _ _ h]
    by_cases g : q ≤ j ∧ j < q + k
    · rw [if_pos g, if_pos (by omega)]
    · rw [if_neg g, if_neg (by omega)]
section S99
variable {t : MS} {W : Wv} {σ : Sg} {T : Nat → Nat} {ex : Nat → Option Nat} {z o : Nat} {a : Nat → Nat}
theorem m_fi34 {t0 : MS} (M : MW t0 W) (O : W.OK) {i q : Nat} (hi : i < 4) (hq : q + W.C.R.n ≤ 24) : ∀ (j k fuel : Nat) (t : MS), k + j = W.C.R.n → j < fuel → t.1 = t0.1 → t.2.1 = t0.2.1 → (∀ p, t.2.2 0 p = if 24 * i + q ≤ p ∧ p < 24 * i + q + k then (nI (W.C.R.p (p - (24 * i + q)))).toInt64 else t0.2.2 0 p) → ∃ t', fX3_film_34 fuel (nI i) (nI q) (nI k) t = some (nI W.C.R.n, t') ∧ t'.1 = t0.1 ∧ t'.2.1 = t0.2.1 ∧ ∀ p, t'.2.2 0 p = if 24 * i + q ≤ p ∧ p < 24 * i + q + W.C.R.n then (nI (W.C.R.p (p - (24 * i + q)))).toInt64 else t0.2.2 0 p
  | 0, k, fuel, t, hj, hf, h1, h2, h3 => by
    obtain ⟨m, rfl⟩ : ∃ m, fuel = m + 1 := ⟨fuel - 1, by omega⟩
    obtain rfl : k = W.C.R.n := by omega
    have h9 := O.n
    have e3 : t.1 3 = nI W.C.R.n := by rw [h1]; exact M.c.r.1.n
    rw [fX3_film_34, e3, if_pos (nI_le (Nat.le_refl _) (by omega))]
    exact ⟨t, rfl, h1, h2, h3⟩
  | j + 1, k, fuel, t, hj, hf, h1, h2, h3 => by
    obtain ⟨m, rfl⟩ : ∃ m, fuel = m + 1 := ⟨fuel - 1, by omega⟩
    have h9 := O.n
    have e3 : t.1 3 = nI W.C.R.n := by rw [h1]; exact M.c.r.1.n
    have ep : t.2.1 0 (42 + k) = nI (W.C.R.p k) := by rw [h2]; exact M.c.r.1.p k (by omega)
    rw [fX3_film_34, e3, if_neg (nI_ge (by omega) (by omega)), ilit 42, nI_add, mald_nI (by omega) (by decide), ep, ilit 24, nI_mul, nI_add, nI_add, mstl_nI (by omega) (by decide), nI_1]
    refine m_fi34 M O hi hq j (k + 1) m _ (by omega) (by omega) h1 h2 (fun p => ?_)
    rw [setL_same]
    by_cases hp : p = 24 * i + q + k
    · subst hp
      rw [updL_at, if_pos (by omega)]
      congr 3; omega
    · rw [updL_no _ _ hp, h3 p]
      by_cases g : 24 * i + q ≤ p ∧ p < 24 * i + q + k
      · rw [if_pos g, if_pos (by omega)]
      · rw [if_neg g, if_neg (by omega)]
theorem c_fi47 {zf i L q n r : Nat} {A : Ad} {it : Nat → Int64} {f : Nat → Option Nat} {hd : Nat} {dr ty at_ im idr : Int32} (O : W.OK) (hi : i < 4) (hL : L < 4) (hn : n ≤ 24) (hq : q + W.C.R.n ≤ n) (F : Fre T z) (hA : A.r = a 0) (hTo : T o = 1) (hTp : T (a 17) = 15) (hTh : T hd = 30 + i) (hTr : T r = 40 + i) (hf : f i = some hd) : ∀ (j k fuel : Nat) (σ : Sg) (c : Nat × Nat), k + j = W.C.R.n → j < fuel → σ o = some (obC a dr ty at_ im idr) → σ (a 17) = some (true, .inl (5, 4, .inr (.inr (.inr (.inr f))))) → σ hd = some (true, .inr (2, [.ref r])) → RT σ T 2 ex A W.C.R (-4) → Row σ r L n (flm W.C.R q k it) → ∃ σ', fX0_film_47 ex zf fuel o (nI i) (nI L) (nI q) (nI W.C.R.n) (nI k) (σ, c) = some (nI W.C.R.n, (σ', c)) ∧ Row σ' r L n (flm W.C.R q W.C.R.n it) ∧ Ow T (40 + i) σ z σ' z
  | 0, k, fuel, σ, c, hj, hfu, hob, hp, hh, HR, hr => by
    obtain ⟨m, rfl⟩ : ∃ m, fuel = m + 1 := ⟨fuel - 1, by omega⟩
    obtain rfl : k = W.C.R.n := by omega
    have h9 := O.n
    rw [fX0_film_47, if_pos (nI_le (Nat.le_refl _) (by omega))]
    exact ⟨σ, rfl, hr, Ow.rf _ _ _ _⟩
  | j + 1, k, fuel, σ, c, hj, hfu, hob, hp, hh, HR, hr => by
    obtain ⟨m, rfl⟩ : ∃ m, fuel = m + 1 := ⟨fuel - 1, by omega⟩
    have h9 := O.n
    have hk : k < W.C.R.n := by omega
    have hpk := O.ba.p k hk
    have hW := O.ba.W1
    obtain ⟨y, p1, p2⟩ := puts_ok (ex := ex) (i := q + k) (nI (W.C.R.p k)).toInt64 hr (by omega) hn
    rw [laneV_small (by omega), flm_s] at p2
    have o1 : Ow T (40 + i) σ z (g_u σ r y) z := Ow.put hTr _
    rw [fX0_film_47, if_neg (nI_ge (by omega) (by omega)), A_t hob (by decide) rfl, aldA_t hp hi (by decide) hf, cgQ_ref hh (by decide) rfl, A_t hob (by decide) rfl, ← hA, X_t HR.1.ra (by decide), c_clock (t := (σ, 0, 0)) HR.1 O.ba hk, gb_two, I_t (HR.1.ck k hk) (kin (O.ba.k k hk)) rfl, nI_add, p1, gbT_l, nI_1]
    obtain ⟨σ2, q1, q2, q3⟩ := c_fi47 (zf := zf) O hi hL hn hq F hA hTo hTp hTh hTr hf j (k + 1) m _ c (by omega) (by omega) ((o1.at F hTo (by decide) (by omega)).trans hob) ((o1.at F hTp (by decide) (by omega)).trans hp) ((o1.at F hTh (by omega) (by omega)).trans hh) (HR.ow0 F o1 (by decide) (by omega) (by omega)) p2
    exact ⟨σ2, q1, q2, o1.tr0 q3⟩
theorem b_film (M : MW t W) (H : CW σ T ex z o a W) (O : W.OK) (x1 x2 x3 : Int32) : Both σ T ex z o a (fX3_film x1 x2 x3 t) (fX0_film ex z o x1 x2 x3 (σ, 0, 0)) := by
  obtain ⟨at_, hob⟩ := H.obj
  obtain ⟨A, hA, R⟩ := H.race
  have h9 := O.n
  unfold fX3_film fX0_film
  rcases sh_args x1 x2 with ⟨i, L, hi, hL, rfl, rfl⟩ | ⟨h1, h2 | ⟨h2, h3⟩⟩
  · obtain ⟨σ1, T1, dc, ds, q1, q2, q3, q4, q5, q6⟩ := c_refusal H O (w := W.C.R.n) hi hL (by omega) x3
    rw [m_sh1 hi hL, gm_some, if_neg n10, c_sh1 hi, gb_two, if_neg n10, c_ln1 hL, gb_two, if_neg n10, M.c.r.1.n, m_lacks M O hi hL (by omega), gm_some, A_t hob (by decide) rfl, ← hA, X_t R.1.ra (by decide), c_size (t := (σ, 0, 0)) R.1, gb_two, X_t hob (by decide)]
    simp only [Nat.add_zero]
    rw [q1, gb_app]
    have hs := lackV_sign (W.sl i) L (W.sz i) W.C.R.n x3
    by_cases h0 : lackV (W.sl i) L (W.sz i) W.C.R.n x3 = 0
    · obtain ⟨q, ft, rfl, hq, hl, rfl, rfl, hft, hft2⟩ := q6 h0
      have hl0 : W.sl i ≠ 0 := by omega
      have hsz := ((O.s i hi).2 hl0).1
      rw [h0, if_pos (by decide), if_pos (by decide)]
      simp only [Nat.zero_add, Nat.add_zero] at q2 ⊢
      obtain ⟨t1, m1, m2, m3, m4⟩ := m_fi34 M O (q := q) hi (by omega) W.C.R.n 0 1000 t (by omega) (by omega) rfl rfl (fun p => by rw [if_neg (by omega)])
      have m1' : fX3_film_34 1000 (nI i) (nI q) 0 t = some (nI W.C.R.n, t1) := m1
      obtain ⟨at1, hob1⟩ := q2.obj
      obtain ⟨A1, hA1, R1⟩ := q2.race
      obtain ⟨f, hd, hp, hh⟩ := q2.shs
      obtain ⟨hf, hT, hS⟩ := hh i hi
      rcases hS with ⟨h0', -⟩ | ⟨r, y1, y2, y3, y4, y5, y6⟩
      · exact absurd h0' hl0
      rw [show W.sl i - 1 = L by omega] at y6
      obtain ⟨σ2, c1, c2, c3⟩ := c_fi47 (zf := z) (it := W.it i) (q := q) (n := W.sz i) O hi hL y3 hq q2.fr hA1 q2.ob.1 q2.sh.1 hT y5 hf W.C.R.n 0 1000 σ1 (0, 0) (by omega) (by omega) hob1 hp y4 R1 (by rw [flm_0]; exact y6)
      have c1' : fX0_film_47 ex z 1000 o (nI i) (nI L) (nI q) (nI W.C.R.n) 0 (σ1, 0, 0) = some (nI W.C.R.n, (σ2, 0, 0)) := c1
      rw [m1', c1']
      have K2 := c3.kp0 q2.fr
      have H2 := q2.shput (l := L + 1) (n := W.sz i) (it := flm W.C.R q W.C.R.n (W.it i)) hp hh q2.fr (K2.sub (fun q h => h.2)) hi hT (Or.inr ⟨r, by omega, by omega, y3, (c3.at q2.fr hT (by omega) (by omega)).trans y4, y5, by rw [Nat.add_sub_cancel]; exact c2⟩)
      refine ⟨_, t1, _, σ2, T1, 0, 0, rfl, rfl, M.sheets (sl := up W.sl i (L + 1)) (sz := up W.sz i (W.sz i)) (it := up W.it i (flm W.C.R q W.C.R.n (W.it i))) m2 (fun j _ _ => by rw [m3]) (fun j hj => ?_), H2, O.sheets (fun j hj => ?_), (q3.sub (fun i h => by rw [h]; decide)).tr (K2.sub (fun q h => by rw [h]; omega)), by omega, by omega⟩
      · rw [m3]
        by_cases hji : j = i
        · subst hji
          rw [up_self, up_self, up_self, ← hl]
          refine ⟨(M.s j hj).1, fun g => ⟨((M.s j hj).2 g).1, fun k hk => ?_⟩⟩
          rw [m4]
          unfold flm
          by_cases hkq : q ≤ k ∧ k < q + W.C.R.n
          · rw [if_pos (by omega), if_pos hkq]
            congr 3; omega
          · rw [if_neg (by omega), if_neg hkq]; exact ((M.s j hj).2 g).2 k hk
        · rw [up_ne _ _ hji, up_ne _ _ hji, up_ne _ _ hji]
          refine ⟨(M.s j hj).1, fun g => ⟨((M.s j hj).2 g).1, fun k hk => ?_⟩⟩
          have := ((O.s j hj).2 g).1
          rw [m4, if_neg (by omega)]
          exact ((M.s j hj).2 g).2 k hk
      · by_cases hji : j = i
        · subst hji
          rw [up_self, up_self, up_self]
          refine ⟨by omega, fun _ => ⟨y3, fun k hk => ?_⟩⟩
          unfold flm
          by_cases hkq : q ≤ k ∧ k < q + W.C.R.n
          · rw [if_pos hkq]
            have hp' := O.ba.p (k - q) (by omega)
            have hW := O.ba.W1
            have := laneV_in L (nI (W.C.R.p (k - q))).toInt64
            rw [laneV_small (by omega)] at this
            exact this
          · rw [if_neg hkq, ← hl]; exact ((O.s j hj).2 hl0).2 k hk
        · rw [up_ne _ _ hji, up_ne _ _ hji, up_ne _ _ hji]; exact O.s j hj
    · rw [if_neg (fun g => h0 (hs.mp g)), if_neg (fun g => h0 (hs.mp g))]
      refine ⟨_, t, W, σ1, T1, dc, ds, rfl, ?_, M, q2, O, q3.sub (fun i h => by rw [h]; decide), by omega, by omega⟩
      rw [Nat.zero_add, Nat.zero_add]
  · rw [h1, gm_some, if_pos rfl, h2, gb_two, if_pos rfl]
    exact Both.same M H O _ rfl rfl
  · rw [h1, gm_some, if_pos rfl, h2, gb_two, if_neg n10, h3, gb_two, if_pos rfl]
    exact Both.same M H O _ rfl rfl
/-- whether the windows of the first k are so -/
def soB (Q : Rc) (g : Nat → Int64) : Nat → Bool
  | 0 => true
  | k + 1 => soB Q g k && decide (g k = (nI (Q.p k)).toInt64)
theorem m_so4 {t0 : MS} {Q : Rc} (H : MT t0 t Q) (B : Q.Ba) {at_ : Nat} {g : Nat → Int64} (hat : at_ + Q.n ≤ 96) (hg : ∀ c, c < Q.n → t0.2.2 0 (at_ + c) = g c) : ∀ (j k fuel : Nat), k + j = Q.n → j < fuel → fX3_areSo_4 fuel (nI at_) (b2 (soB Q g k)) (nI k) t = some (b2 (soB Q g Q.n), t)
  | 0, k, fuel, hj, hf => by
    obtain ⟨m, rfl⟩ : ∃ m, fuel = m + 1 := ⟨fuel - 1, by omega⟩
    obtain rfl : k = Q.n := by omega
    have h9 := B.n
    rw [fX3_areSo_4, H.1.1.n, if_pos (nI_le (Nat.le_refl _) (by omega)), if_pos]
    unfold b2; split
    · exact Or.inr rfl
    · exact Or.inl rfl
  | j + 1, k, fuel, hj, hf => by
    obtain ⟨m, rfl⟩ : ∃ m, fuel = m + 1 := ⟨fuel - 1, by omega⟩
    have h9 := B.n
    have ih := m_so4 H B hat hg j (k + 1) m (by omega) (by omega)
    rw [fX3_areSo_4, H.1.1.n, if_neg (nI_ge (by omega) (by omega))]
    unfold fX3_areSo_42 fX3_areSo_43
    rw [nI_1]
    by_cases hs : soB Q g k = false
    · have e : soB Q g (k + 1) = false := by show (soB Q g k && _) = false; rw [hs]; rfl
      rw [if_pos (b2_0.mpr hs)]
      rw [e] at ih; exact ih
    · have hs' : soB Q g k = true := by simpa using hs
      have e : soB Q g (k + 1) = decide (g k = (nI (Q.p k)).toInt64) := by show (soB Q g k && _) = _; rw [hs']; rfl
      have hv : t.2.2 0 (at_ + k) = g k := by rw [H.2.2.2.1]; exact hg k (by omega)
      rw [if_neg (fun x => hs (b2_0.mp x)), nI_add, mldl_nI (by omega) (by decide), hv, ilit 42, nI_add, mald_nI (by omega) (by decide), H.1.1.p k (by omega)]
      rw [e] at ih
      by_cases hc : g k = (nI (Q.p k)).toInt64
      · rw [if_pos ((lcmp0 _ _).mpr hc)]
        rw [decide_eq_true hc] at ih; exact ih
      · rw [if_neg (fun x => hc ((lcmp0 _ _).mp x))]
        rw [decide_eq_false hc] at ih; exact ih
theorem soB_false {Q : Rc} {g : Nat → Int64} {k : Nat} (h : soB Q g k = false) : ∀ d, soB Q g (k + d) = false
  | 0 => h
  | d + 1 => by
    show (soB Q g (k + d) && _) = false
    rw [soB_false h d]; rfl
theorem soB_cong {Q : Rc} {g g' : Nat → Int64} : ∀ k, (∀ c, c < k → g c = g' c) → soB Q g k = soB Q g' k
  | 0, _ => rfl
  | k + 1, h => by
    show (soB Q g k && decide (g k = _)) = (soB Q g' k && decide (g' k = _))
    rw [soB_cong k (fun c hc => h c (by omega)), h k (by omega)]
theorem c_so4 {zf zc : Nat} {A : Ad} {Q : Rc} {al : Option Nat} (H : CT σ T ex zc o a W A Q al) (B : Q.Ba) {ft : Nat → Int64} (ha : σ (a 18) = some (true, .inl (3, 24, .inr (.inl ft)))) (cc : Nat × Nat) : ∀ (j k fuel : Nat), k + j = Q.n → j < fuel → fX0_isAsTaken_4 ex zf fuel o (b2 (soB Q ft k)) (nI k) (σ, cc) = some (b2 (soB Q ft Q.n), (σ, cc))
  | 0, k, fuel, hj, hf => by
    obtain ⟨m, rfl⟩ : ∃ m, fuel = m + 1 := ⟨fuel - 1, by omega⟩
    obtain rfl : k = Q.n := by omega
    have h9 := B.n
    obtain ⟨at_, hob⟩ := H.1.obj
    rw [fX0_isAsTaken_4, A_t hob (by decide) rfl, X_t H.ra (by decide), H.size, gb_two, if_pos (nI_le (Nat.le_refl _) (by omega)), if_pos]
    unfold b2; split
    · exact Or.inr rfl
    · exact Or.inl rfl
  | j + 1, k, fuel, hj, hf => by
    obtain ⟨m, rfl⟩ : ∃ m, fuel = m + 1 := ⟨fuel - 1, by omega⟩
    have h9 := B.n
    have hk : k < Q.n := by omega
    obtain ⟨at_, hob⟩ := H.1.obj
    have ih := c_so4 (zf := zf) H B ha cc j (k + 1) m (by omega) (by omega)
    rw [fX0_isAsTaken_4, A_t hob (by decide) rfl, X_t H.ra (by decide), H.size, gb_two, if_neg (nI_ge (by omega) (by omega))]
    by_cases hs : soB Q ft k = false
    · have e := soB_false hs (j + 1)
      rw [hj] at e
      rw [hs, e, if_pos (by decide), if_pos (Or.inl (by decide))]
    · have hs' : soB Q ft k = true := by simpa using hs
      have e : soB Q ft (k + 1) = decide (ft k = (nI (Q.p k)).toInt64) := by show (soB Q ft k && _) = _; rw [hs']; rfl
      rw [if_neg (fun x => hs (b2_0.mp x)), A_t hob (by decide) rfl, X_t H.ra (by decide), H.clock B hk, gb_two, I_t (H.ck hk) (kin (B.k k hk)) rfl, A_t hob (by decide) rfl, caldl_t ha (by omega) (by decide)]
      unfold fX0_isAsTaken_46
      rw [nI_1]
      rw [e] at ih
      by_cases hc : ft k = (nI (Q.p k)).toInt64
      · rw [if_pos ((lcmp0 _ _).mpr hc.symm)]
        rw [decide_eq_true hc] at ih; exact ih
      · rw [if_neg (fun x => hc ((lcmp0 _ _).mp x).symm)]
        rw [decide_eq_false hc] at ih; exact ih
theorem b_se {t0 : MS} {zf zc at_ : Nat} {A : Ad} {g ft : Nat → Int64} (O : W.OK) (h7 : t0.1 7 = -1) (hat : at_ + W.C.R.n ≤ 96) (hg : ∀ c, c < W.C.R.n → t0.2.2 0 (at_ + c) = g c) (hgf : ∀ c, c < W.C.R.n → ft c = g c) (h14 : T (a 18) = 14) : ∀ (j i fuel fuel' : Nat) (t : MS) (σ : Sg) (cc : Nat × Nat), i + j = 200 → j < fuel → j + 1 < fuel' → MT t0 t (W.C.R.gos none i) → CT σ T ex zc o a W A (W.C.R.gos none i) none → σ (a 18) = some (true, .inl (3, 24, .inr (.inl ft))) → ∃ v t' σ', fX3_seen_46 fuel (nI at_) (nI i) t = some (v, t') ∧ fX0_seen_54 ex zf fuel' o (nI i) (σ, cc) = some (v, (σ', cc)) ∧ Sb t0 t' ∧ CW σ' T ex zc o a W ∧ Kp T σ T σ' (fun i => i ≠ 3) := by
  intro j
  induction j with
  | zero =>
    intro i fuel fuel' t σ cc hj hf hf' HM H ha
    obtain ⟨m, rfl⟩ : ∃ m, fuel = m + 1 := ⟨fuel - 1, by omega⟩
    obtain ⟨m', rfl⟩ : ∃ m', fuel' = m' + 1 + 1 := ⟨fuel' - 2, by omega⟩
    obtain rfl : i = 200 := by omega
    have hn := O.n
    have hnow := O.c.now
    have Oi := Rc.gos_OK O.c.r none 200 (by omega)
    have ki := Rc.gos_keep W.C.R none 200
    obtain ⟨atx, hob⟩ := H.1.obj
    obtain ⟨t3, b1, b2', -⟩ := m_bringBack HM
    have hm : fX3_areSo (nI at_) t = some (b2 (soB (W.C.R.gos none 200) g (W.C.R.gos none 200).n), t) := m_so4 HM Oi.b (by rw [ki.1]; exact hat) (by rw [ki.1]; exact hg) (W.C.R.gos none 200).n 0 1000 (by omega) (by rw [ki.1]; omega)
    have hc : ∀ zz cc, fX0_isAsTaken ex zz o (σ, cc) = some (b2 (soB (W.C.R.gos none 200) ft (W.C.R.gos none 200).n), (σ, cc)) := fun zz cc => c_so4 (zf := zz) H Oi.b ha cc (W.C.R.gos none 200).n 0 1000 (by omega) (by rw [ki.1]; omega)
    rw [fX3_seen_46, ifler 200 (by decide) (by decide), if_pos (Nat.le_refl _), fX0_seen_54, ifltr 200 (by decide) (by decide), if_neg (by omega), X_t hob (by decide), hc, gb_two, soB_cong (g := ft) (g' := g) _ (by rw [ki.1]; exact hgf)]
    unfold fX3_seen_78
    rw [hm, gm_some]
    by_cases h : soB (W.C.R.gos none 200) g (W.C.R.gos none 200).n = false
    · obtain ⟨σ1, q1, q2, q3⟩ := ct_go H Oi alOK.no (by rw [ki.2.2.2.2.1]; omega) (zf + cc.1)
      rw [if_pos (b2_0.mpr h), b1, gm_some, if_pos (b2_0.mpr h), A_t hob (by decide) rfl, X_t H.ra (by decide), q1, gb_z, nI_1, fX0_seen_54, ifltr 200 (by decide) (by decide), if_pos (by omega)]
      exact ⟨_, t3, σ1, rfl, rfl, b2', q2.1, q3⟩
    · rw [if_neg (fun x => h (b2_0.mp x)), b1, gm_some, if_neg (fun x => h (b2_0.mp x))]
      exact ⟨_, t3, σ, rfl, rfl, b2', H.1, Kp.rf _ _ _⟩
  | succ j ih =>
    intro i fuel fuel' t σ cc hj hf hf' HM H ha
    obtain ⟨m, rfl⟩ : ∃ m, fuel = m + 1 := ⟨fuel - 1, by omega⟩
    obtain ⟨m', rfl⟩ : ∃ m', fuel' = m' + 1 := ⟨fuel' - 1, by omega⟩
    have hn := O.n
    have hnow := O.c.now
    have Oi := Rc.gos_OK O.c.r none i (by omega)
    have ki := Rc.gos_keep W.C.R none i
    obtain ⟨atx, hob⟩ := H.1.obj
    have hm : fX3_areSo (nI at_) t = some (b2 (soB (W.C.R.gos none i) g (W.C.R.gos none i).n), t) := m_so4 HM Oi.b (by rw [ki.1]; exact hat) (by rw [ki.1]; exact hg) (W.C.R.gos none i).n 0 1000 (by omega) (by rw [ki.1]; omega)
    have hc : ∀ zz cc, fX0_isAsTaken ex zz o (σ, cc) = some (b2 (soB (W.C.R.gos none i) ft (W.C.R.gos none i).n), (σ, cc)) := fun zz cc => c_so4 (zf := zz) H Oi.b ha cc (W.C.R.gos none i).n 0 1000 (by omega) (by rw [ki.1]; omega)
    rw [fX3_seen_46, ifler 200 (by decide) (by omega), if_neg (show ¬ 200 ≤ i by omega), hm, gm_some, fX0_seen_54, ifltr 200 (by decide) (by omega), if_neg (show ¬ 200 < i by omega), X_t hob (by decide), hc, gb_two, soB_cong (g := ft) (g' := g) _ (by rw [ki.1]; exact hgf)]
    by_cases h : soB (W.C.R.gos none i) g (W.C.R.gos none i).n = false
    · obtain ⟨σ1, q1, q2, q3⟩ := ct_go H Oi alOK.no (by rw [ki.2.2.2.2.1]; omega) (zf + cc.1)
      obtain ⟨t1, p1, p2, p3⟩ := m_goOn HM.1 Oi (by rw [ki.2.2.2.2.1]; omega) (Rc.wea_lt Oi.b alOK.no)
      rw [if_pos (b2_0.mpr h), if_pos (b2_0.mpr h), m_wea (al := none) HM.1.1 Oi.b alOK.no (by rw [HM.2.1]; exact h7), gm_some, p1, gm_some, nI_1, A_t hob (by decide) rfl, X_t H.ra (by decide), q1, gb_z]
      obtain ⟨v, t', σ', r1, r2, r3, r4, r5⟩ := ih (i + 1) m m' t1 σ1 cc (by omega) (by omega) (by omega) (HM.sm p3 p2) q2 ((q3.at h14 (by decide) (by decide)).2.trans ha)
      exact ⟨v, t', σ', r1, r2, r3, r4, q3.tr r5⟩
    · obtain ⟨t3, b1, b2', -⟩ := m_bringBack HM
      rw [if_neg (fun x => h (b2_0.mp x)), if_neg (fun x => h (b2_0.mp x))]
      unfold fX3_seen_78
      rw [hm, gm_some, if_neg (fun x => h (b2_0.mp x)), b1, gm_some]
      exact ⟨_, t3, σ, rfl, rfl, b2', H.1, Kp.rf _ _ _⟩
theorem b_seen (M : MW t W) (H : CW σ T ex z o a W) (O : W.OK) (x1 x2 x3 : Int32) : Both σ T ex z o a (fX3_seen x1 x2 x3 t) (fX0_seen ex z o x1 x2 x3 (σ, 0, 0)) := by
  obtain ⟨at_, hob⟩ := H.obj
  obtain ⟨A, hA, R⟩ := H.race
  have h9 := O.n
  unfold fX3_seen fX0_seen
  rcases sh_args x1 x2 with ⟨i, L, hi, hL, rfl, rfl⟩ | ⟨h1, h2 | ⟨h2, h3⟩⟩
  · obtain ⟨σ1, T1, dc, ds, q1, q2, q3, q4, q5, q6⟩ := c_refusal H O (w := W.C.R.n) hi hL (by omega) x3
    rw [m_sh1 hi hL, gm_some, if_neg n10, c_sh1 hi, gb_two, if_neg n10, c_ln1 hL, gb_two, if_neg n10, M.c.r.1.n, m_lacks M O hi hL (by omega), gm_some, A_t hob (by decide) rfl, ← hA, X_t R.1.ra (by decide), c_size (t := (σ, 0, 0)) R.1, gb_two, X_t hob (by decide)]
    simp only [Nat.add_zero]
    rw [q1, gb_app]
    have hs := lackV_sign (W.sl i) L (W.sz i) W.C.R.n x3
    by_cases h0 : lackV (W.sl i) L (W.sz i) W.C.R.n x3 = 0
    · obtain ⟨q, ft, rfl, hq, hl, rfl, rfl, hft, hft2⟩ := q6 h0
      have hl0 : W.sl i ≠ 0 := by omega
      have hsz := ((O.s i hi).2 hl0).1
      rw [h0, if_pos (by decide), if_pos (by decide)]
      simp only [Nat.zero_add, Nat.add_zero, lt] at q2 ⊢
      obtain ⟨at1, hob1⟩ := q2.obj
      obtain ⟨Q3, A3, al3, h3⟩ := q2.tra
      obtain ⟨t1, k1, k2⟩ := m_keepAside M.c.r
      obtain ⟨σ2, T2, A2, dc2, ds2, p1, p2, p3, p4, p5⟩ := ct_takes q2 O
      have h14 := p2.1.tkn.1
      have ha2 := (p3.at q2.tkn.1 (by decide) (by decide)).2.trans hft
      obtain ⟨v, t', σ', r1, r2, r3, r4, r5⟩ := b_se (zf := z) (at_ := 24 * i + q) (g := fun c => W.it i (q + c)) O M.sky (by omega) (fun c hc => by
        rw [Nat.add_assoc]; exact ((M.s i hi).2 hl0).2 (q + c) (by omega)) hft2 h14 200 0 1000 1000 t1 σ2 (dc2, ds2) (by omega) (by omega) (by omega) k2 p2 ha2
      have r1' : fX3_seen_46 1000 (nI (24 * i + q)) 0 t1 = some (v, t') := r1
      rw [ilit 24, nI_mul, nI_add, k1, gm_some, r1', A_t hob1 (by decide) rfl, A_t hob1 (by decide) rfl, X_t h3 (by decide), p1, gb_app]
      simp only [Nat.zero_add]
      exact ⟨v, t', W, σ', T2, dc2, ds2, rfl, r2, M.sb r3 O.n, r4, O, (q3.sub (fun i h => by rw [h]; decide)).tr ((p3.tr r5).sub (fun i h => by rw [h]; decide)), by omega, by omega⟩
    · rw [if_neg (fun g => h0 (hs.mp g)), if_neg (fun g => h0 (hs.mp g))]
      refine ⟨_, t, W, σ1, T1, dc, ds, rfl, ?_, M, q2, O, q3.sub (fun i h => by rw [h]; decide), by omega, by omega⟩
      rw [Nat.zero_add, Nat.zero_add]
  · rw [h1, gm_some, if_pos rfl, h2, gb_two, if_pos rfl]
    exact Both.same M H O _ rfl rfl
  · rw [h1, gm_some, if_pos rfl, h2, gb_two, if_neg n10, h3, gb_two, if_pos rfl]
    exact Both.same M H O _ rfl rfl
end S99
