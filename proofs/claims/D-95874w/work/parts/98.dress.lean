/-! sheets: dress, film, seen -/
set_option maxRecDepth 100000
theorem lcmp0 (x y : Int64) : ((if y < x then 1 else if x = y then 0 else -1 : Int32) = 0) ↔ x = y := by
  by_cases h : y < x
  · rw [if_pos h]
    constructor
    · intro g; exact absurd g (by decide)
    · intro g; subst g; simp only [Int64.lt_iff_toInt_lt] at h; omega
  · rw [if_neg h]
    by_cases g : x = y
    · rw [if_pos g]; exact ⟨fun _ => g, fun _ => rfl⟩
    · rw [if_neg g]; exact ⟨fun k => absurd k (by decide), fun k => absurd k g⟩
theorem good_nat {x : Int64} (h : (0 : Int64) ≤ x ∧ x ≤ 12) : ∃ v, v ≤ 12 ∧ x.toInt32 = nI v ∧ x.toInt = v := by
  have h0 : (0 : Int64).toInt = 0 := by decide
  have h12 : (12 : Int64).toInt = 12 := by decide
  rw [Int64.le_iff_toInt_le, Int64.le_iff_toInt_le, h0, h12] at h
  refine ⟨x.toInt.toNat, by omega, ?_, by omega⟩
  refine Int32.toInt_inj.mp ?_
  rw [Int64.toInt_toInt32, nI_toInt (by omega)]
  have : Int.bmod x.toInt (2 ^ 32) = x.toInt := Int.bmod_eq_of_le (by omega) (by omega)
  rw [this]; omega
theorem laneV_small {L v : Nat} (h : v < 128) : laneV L (nI v).toInt64 = (nI v).toInt64 := by
  have e : (nI v).toInt64.toInt = v := by rw [Int32.toInt_toInt64, nI_toInt (by omega)]
  unfold laneV
  by_cases h0 : L = 0
  · rw [if_pos h0]
    refine Int64.toInt_inj.mp ?_
    rw [Int8.toInt_toInt64, Int64.toInt_toInt8, e]
    exact Int.bmod_eq_of_le (by omega) (by omega)
  rw [if_neg h0]
  by_cases h1 : L = 1
  · rw [if_pos h1]
    refine Int64.toInt_inj.mp ?_
    rw [Int16.toInt_toInt64, Int64.toInt_toInt16, e]
    exact Int.bmod_eq_of_le (by omega) (by omega)
  rw [if_neg h1]
  by_cases h2 : L = 2
  · rw [if_pos h2]
    refine Int64.toInt_inj.mp ?_
    rw [Int32.toInt_toInt64, Int64.toInt_toInt32, e]
    exact Int.bmod_eq_of_le (by omega) (by omega)
  rw [if_neg h2]
section S98
variable {t : MS} {W : Wv} {σ : Sg} {T : Nat → Nat} {ex : Nat → Option Nat} {z o : Nat} {a : Nat → Nat}
theorem CW.tkn (H : CW σ T ex z o a W) : T (a 18) = 14 ∧ ∃ f, σ (a 18) = some (true, .inl (3, 24, .inr (.inl f))) := H.tk
theorem c_la39 {zf i L n r q w : Nat} {it : Nat → Int64} (hw : w ≤ 24) (hqw : q + w ≤ n) (hn : n ≤ 24) (hr : T r = 40 + i) : ∀ (j k fuel : Nat) (σ : Sg) (c : Nat × Nat) (ft : Nat → Int64), k + j = w → j < fuel → CW σ T ex z o a W → σ (a 18) = some (true, .inl (3, 24, .inr (.inl ft))) → (∀ p, p < k → ft p = it (q + p)) → Row σ r L n it → ∃ σ' ft', fX0_looksAt_39 ex zf fuel o (some r) (nI L) (nI q) (nI w) (nI k) (σ, c) = some (.inl (), (σ', c)) ∧ CW σ' T ex z o a W ∧ Kp T σ T σ' (fun i => i ≠ 14) ∧ σ' (a 18) = some (true, .inl (3, 24, .inr (.inl ft'))) ∧ ∀ p, p < w → ft' p = it (q + p)
  | 0, k, fuel, σ, c, ft, hj, hf, H, ha, hft, hR => by
    obtain ⟨m, rfl⟩ : ∃ m, fuel = m + 1 := ⟨fuel - 1, by omega⟩
    obtain rfl : k = w := by omega
    rw [fX0_looksAt_39, if_pos (nI_le (Nat.le_refl _) (by omega))]
    exact ⟨σ, ft, rfl, H, Kp.rf _ _ _, ha, hft⟩
  | j + 1, k, fuel, σ, c, ft, hj, hf, H, ha, hft, hR => by
    obtain ⟨m, rfl⟩ : ∃ m, fuel = m + 1 := ⟨fuel - 1, by omega⟩
    obtain ⟨at_, hob⟩ := H.obj
    have hT14 := H.tkn.1
    have o1 : Ow T 14 σ z (g_u σ (a 18) (true, .inl (3, 24, .inr (.inl (vp_updL ft k (it (q + k))))))) z := Ow.put hT14 _
    have K1 := o1.kp0 H.fr
    have H1 := H.u_tk (W' := W) H.fr K1 ⟨hT14, _, g_u_self _ _ _⟩ rfl rfl rfl rfl rfl rfl rfl rfl rfl rfl rfl rfl rfl rfl rfl rfl rfl rfl rfl rfl rfl rfl rfl rfl
    have hne : r ≠ a 18 := fun g => by rw [g, hT14] at hr; omega
    have hR1 : Row (g_u σ (a 18) (true, .inl (3, 24, .inr (.inl (vp_updL ft k (it (q + k))))))) r L n it := by
      unfold Row; rw [g_u_ne _ _ hne]; exact hR
    rw [fX0_looksAt_39, if_neg (nI_ge (by omega) (by omega)), A_t hob (by decide) rfl, nI_add, item_ok hR (by omega) hn, gb_two, castl_t ha (by omega) (by decide), nI_1]
    obtain ⟨σ2, ft2, r1, r2, r3, r4, r5⟩ := c_la39 (zf := zf) hw hqw hn hr j (k + 1) m _ c (vp_updL ft k (it (q + k))) (by omega) (by omega) H1 (g_u_self _ _ _) (fun p hp => by
      by_cases hq : p = k
      · subst hq; rw [updL_at]
      · rw [updL_no _ _ hq]; exact hft p (by omega)) hR1
    exact ⟨σ2, ft2, r1, r2, K1.tr r3, r4, r5⟩
theorem gbT_l2 {α β : Type} {σ' : Sg} {c : Nat × Nat} {r : α} {k : α → St → Option (β × St)} {kx : Nat → St → Option (β × St)} : gbT (some (.inl r, (σ', c))) (σ, 0, 0) k kx = k r (σ', 0 + c.1, 0 + c.2) := rfl
theorem c_refusal (H : CW σ T ex z o a W) (O : W.OK) {i L w : Nat} (hi : i < 4) (hL : L < 4) (hw : w ≤ 24) (x : Int32) : ∃ σ' T' dc ds, fX0_refusal ex z o (nI i) (nI L) x (nI w) (σ, 0, 0) = some (lackV (W.sl i) L (W.sz i) w x, (σ', dc, ds)) ∧ CW σ' T' ex (z + dc) o a W ∧ Kp T σ T' σ' (fun i => i ≠ 14) ∧ dc ≤ 3 ∧ ds ≤ 800 ∧ (lackV (W.sl i) L (W.sz i) w x = 0 → ∃ q ft, x = nI q ∧ q + w ≤ W.sz i ∧ W.sl i = L + 1 ∧ dc = 0 ∧ ds = 0 ∧ σ' (a 18) = some (true, .inl (3, 24, .inr (.inl ft))) ∧ ∀ p, p < w → ft p = W.it i (q + p)) := by
  obtain ⟨at_, hob⟩ := H.obj
  obtain ⟨f, hd, hp, hh⟩ := H.shs
  obtain ⟨hf, hT, hS⟩ := hh i hi
  obtain ⟨o1, o2⟩ := O.s i hi
  have thrown : ∀ (k ci : Nat) (v : Int32), k ≤ 2 → v ≠ 0 → lackV (W.sl i) L (W.sz i) w x = v → fX0_refusal ex z o (nI i) (nI L) x (nI w) (σ, 0, 0) = some (v, (g_u σ (z + k) (true, .inr (ci, [])), k + 1, 800)) → ∃ σ' T' dc ds, fX0_refusal ex z o (nI i) (nI L) x (nI w) (σ, 0, 0) = some (lackV (W.sl i) L (W.sz i) w x, (σ', dc, ds)) ∧ CW σ' T' ex (z + dc) o a W ∧ Kp T σ T' σ' (fun i => i ≠ 14) ∧ dc ≤ 3 ∧ ds ≤ 800 ∧ (lackV (W.sl i) L (W.sz i) w x = 0 → ∃ q ft, x = nI q ∧ q + w ≤ W.sz i ∧ W.sl i = L + 1 ∧ dc = 0 ∧ ds = 0 ∧ σ' (a 18) = some (true, .inl (3, 24, .inr (.inl ft))) ∧ ∀ p, p < w → ft p = W.it i (q + p)) := by
    intro k ci v hk hv e1 e2
    obtain ⟨H2, K2⟩ := H.xnew k (true, .inr (ci, []))
    exact ⟨_, _, k + 1, 800, by rw [e1]; exact e2, H2, K2.sub (fun _ _ => trivial), by omega, by omega, fun g => absurd (e1.symm.trans g) hv⟩
  have ccr : ∀ {β : Type} {cs : List Nat} {F : Option β} {c : Nat × Nat}, 0 ∈ cs → ccast cs (σ, c) o F = F := fun h => X_t hob h
  rcases hS with ⟨h0, hn⟩ | ⟨r, y1, y2, y3, y4, y5, y6⟩
  · refine thrown 0 27 (-11) (by decide) (by decide) (by unfold lackV; rw [if_neg (by omega), if_pos h0]) ?_
    unfold fX0_refusal fX0_looksAt
    rw [A_t hob (by decide) rfl, aldA_t hp hi (by decide) hf, cgQ_null hn (by decide) rfl, ccr (by decide), size_null hL]
    unfold xNew
    rw [gbT_r, gbT_r]
    simp only [Nat.add_zero, Nat.zero_add]
    rw [cif_t (g_u_self _ _ _), if_pos rfl]
    rfl
  · obtain ⟨hk, y, hy⟩ := y6.cell
    by_cases hl : W.sl i = L + 1
    · have hl' : W.sl i - 1 = L := by omega
      rw [hl'] at y6 hy
      have pre : ∀ (zz : Nat), fX0_sizeOf ex zz (some r) (nI L) (σ, 0, 0) = some (.inl (nI (W.sz i)), (σ, 0, 0)) := fun zz => size_ok hL hy
      by_cases hin : ∃ q, q + w ≤ W.sz i ∧ x = nI q
      · obtain ⟨q, hq, rfl⟩ := hin
        have e0 : lackV (W.sl i) L (W.sz i) w (nI q) = 0 := by unfold lackV; rw [if_pos hl, if_pos ((chkS (by omega) (by omega)).mpr ⟨q, hq, rfl⟩)]
        obtain ⟨-, ft, hft⟩ := H.tkn
        obtain ⟨σ1, ft1, r1, r2, r3, r4, r5⟩ := c_la39 (zf := z) (w := w) hw hq y3 y5 w 0 1000 σ (0, 0) ft (by omega) (by omega) H hft (fun p hp => by omega) y6
        have r1' : fX0_looksAt_39 ex z 1000 o (some r) (nI L) (nI q) (nI w) 0 (σ, 0, 0) = some (.inl (), (σ1, 0, 0)) := r1
        refine ⟨σ1, T, 0, 0, ?_, r2, r3, by omega, by omega, fun _ => ⟨q, ft1, rfl, hq, hl, rfl, rfl, r4, r5⟩⟩
        rw [e0]
        unfold fX0_refusal fX0_looksAt
        rw [A_t hob (by decide) rfl, aldA_t hp hi (by decide) hf, cgQ_ref y4 (by decide) rfl, ccr (by decide), pre, gbT_l, c_in1 _ ((chkL _ (by omega)).mpr ⟨q, by omega, rfl⟩), gb_two, if_neg n10, nI_sub (by omega), if_pos ((nI_leI (by omega) (by omega)).mpr (by omega))]
        simp only [Nat.add_zero]
        rw [r1', gbT_l]
      · have e1 : lackV (W.sl i) L (W.sz i) w x = -13 := by
          unfold lackV
          rw [if_pos hl, if_neg (fun g => by
            obtain ⟨q, hq, e⟩ := (chkS (by omega) (by omega)).mp g
            exact hin ⟨q, hq, e⟩)]
        refine thrown 0 29 (-13) (by decide) (by decide) e1 ?_
        unfold fX0_refusal fX0_looksAt
        rw [A_t hob (by decide) rfl, aldA_t hp hi (by decide) hf, cgQ_ref y4 (by decide) rfl, ccr (by decide), pre, gbT_l]
        by_cases h1 : ∃ q, q ≤ W.sz i ∧ x = nI q
        · obtain ⟨q, hq, rfl⟩ := h1
          have hno : ¬ q + w ≤ W.sz i := fun g => hin ⟨q, g, rfl⟩
          rw [c_in1 _ ((chkL _ (by omega)).mpr ⟨q, by omega, rfl⟩), gb_two, if_neg n10, nI_sub (by omega), if_neg (fun g => by have := (nI_leI (by omega) (by omega)).mp g; omega)]
          unfold xNew
          rw [gbT_r]
          simp only [Nat.add_zero, Nat.zero_add]
          rw [cif_t (g_u_self _ _ _), if_neg (by decide), cif_t (g_u_self _ _ _), if_neg (by decide), cif_t (g_u_self _ _ _), if_pos rfl]
          rfl
        · rw [c_in0 _ (fun g => h1 ((chkL _ (by omega)).mp g)), gb_two, if_pos rfl]
          unfold xNew
          rw [gbT_r]
          simp only [Nat.add_zero, Nat.zero_add]
          rw [cif_t (g_u_self _ _ _), if_neg (by decide), cif_t (g_u_self _ _ _), if_neg (by decide), cif_t (g_u_self _ _ _), if_pos rfl]
          rfl
    · refine thrown 2 28 (-12) (by decide) (by decide) (by unfold lackV; rw [if_neg hl, if_neg (by omega)]) ?_
      unfold fX0_refusal fX0_looksAt
      rw [A_t hob (by decide) rfl, aldA_t hp hi (by decide) hf, cgQ_ref y4 (by decide) rfl, ccr (by decide), size_bad hL hk (by omega) hy]
      unfold xNew
      rw [gbT_r, gbT_r]
      simp only [Nat.add_zero, Nat.zero_add]
      rw [cif_t (g_u_self _ _ _), if_neg (by decide), cif_t (g_u_self _ _ _), if_pos rfl]
      rfl
theorem lackV_sign (l L n w : Nat) (x : Int32) : (0 ≤ lackV l L n w x) ↔ lackV l L n w x = 0 := by
  unfold lackV
  split
  · split <;> decide
  · split <;> decide
/-- dress: the new dials -/
def Rc.drs (R : Rc) (w : Nat) (g : Nat → Nat) : Rc := (Rc.mk (R.n) (R.W) (fun k => if k < w then g k else R.d k) (R.k) (R.h) (R.r) (R.s) (R.p) (R.f) (R.now) (R.sk) (R.mn) (R.he) (R.so))
theorem Rc.drs0 (R : Rc) (g : Nat → Nat) (p : Nat) : (R.drs 0 g).d p = R.d p := by
  show (if p < 0 then g p else R.d p) = _
  rw [if_neg (Nat.not_lt_zero p)]
theorem m_d39 (M : MW t W) (O : W.OK) {i q w : Nat} (hi : i < 4) (hl : W.sl i ≠ 0) (hq : q + w ≤ W.sz i) (hw : w ≤ 24) : ∀ (j k fuel : Nat), k + j = w → j < fuel → ((∀ p, k ≤ p → p < w → (0 : Int64) ≤ W.it i (q + p) ∧ W.it i (q + p) ≤ 12) → fX3_dress_39 fuel (nI i) (nI q) (nI w) 0 (nI k) t = fX3_dress_100 1000 (nI i) (nI q) (nI w) 0 t) ∧ ((∃ p, k ≤ p ∧ p < w ∧ ¬ ((0 : Int64) ≤ W.it i (q + p) ∧ W.it i (q + p) ≤ 12)) → fX3_dress_39 fuel (nI i) (nI q) (nI w) 0 (nI k) t = some (-2, t))
  | 0, k, fuel, hj, hf => by
    obtain ⟨m, rfl⟩ : ∃ m, fuel = m + 1 := ⟨fuel - 1, by omega⟩
    obtain rfl : k = w := by omega
    refine ⟨fun _ => ?_, fun ⟨p, h1, h2, _⟩ => by omega⟩
    rw [fX3_dress_39, if_pos (nI_le (Nat.le_refl _) (by omega))]
    unfold fX3_dress_89
    rw [if_pos (by decide)]
  | j + 1, k, fuel, hj, hf => by
    obtain ⟨m, rfl⟩ : ∃ m, fuel = m + 1 := ⟨fuel - 1, by omega⟩
    have ih := m_d39 M O hi hl hq hw j (k + 1) m (by omega) (by omega)
    have hsz := ((O.s i hi).2 hl).1
    have hv : t.2.2 0 (24 * i + (q + k)) = W.it i (q + k) := ((M.s i hi).2 hl).2 (q + k) (by omega)
    have e0 : fX3_dress_39 (m + 1) (nI i) (nI q) (nI w) 0 (nI k) t = if (0 : Int64) ≤ W.it i (q + k) ∧ W.it i (q + k) ≤ 12 then fX3_dress_39 m (nI i) (nI q) (nI w) 0 (nI (k + 1)) t else fX3_dress_39 m (nI i) (nI q) (nI w) (-2) (nI (k + 1)) t := by
      rw [fX3_dress_39, if_neg (nI_ge (by omega) (by omega)), if_pos rfl, ilit 24, nI_mul, nI_add, nI_add, mldl_nI (by omega) (by decide), Nat.add_assoc, hv, m_in, gm_some]
      unfold fX3_dress_81
      rw [nI_1]
      by_cases h : (0 : Int64) ≤ W.it i (q + k) ∧ W.it i (q + k) ≤ 12
      · rw [if_pos h, if_neg n10, if_pos h]
      · rw [if_neg h, if_pos rfl, if_neg h]
    rw [e0]
    refine ⟨fun hg => ?_, fun ⟨p, h1, h2, h3⟩ => ?_⟩
    · rw [if_pos (hg k (Nat.le_refl _) (by omega))]
      exact ih.1 (fun p h1 h2 => hg p (by omega) h2)
    · by_cases h : (0 : Int64) ≤ W.it i (q + k) ∧ W.it i (q + k) ≤ 12
      · rw [if_pos h]
        exact ih.2 ⟨p, by rcases Nat.lt_or_ge k p with g | g
                          · exact g
                          · obtain rfl : p = k := by omega
                            exact absurd h h3, h2, h3⟩
      · rw [if_neg h]
        obtain ⟨m', rfl⟩ : ∃ m', m = m' + 1 := ⟨m - 1, by omega⟩
        rw [fX3_dress_39]
        unfold fX3_dress_89
        rw [if_neg (show ¬ (-2 : Int32) = 0 by decide), if_neg (show ¬ (0 : Int32) ≤ -2 by decide)]
        split <;> rfl
theorem m_d100 {R : Rc} {i q w n : Nat} {it : Nat → Int64} {g : Nat → Nat} (hi : i < 4) (hq : q + w ≤ n) (hn : n ≤ 24) (h9 : R.n ≤ 9) (hg : ∀ p, p < w → it (q + p) = it (q + p) ∧ (it (q + p)).toInt32 = nI (g p)) : ∀ (j k fuel : Nat) (t : MS), k + j = w → j < fuel → (∀ p, p < n → t.2.2 0 (24 * i + p) = it p) → MR t (R.drs k g) → ∃ t', fX3_dress_100 fuel (nI i) (nI q) (nI w) (nI k) t = some (nI w, t') ∧ MR t' (R.drs w g) ∧ Sm t t'
  | 0, k, fuel, t, hj, hf, hv, H => by
    obtain ⟨m, rfl⟩ : ∃ m, fuel = m + 1 := ⟨fuel - 1, by omega⟩
    obtain rfl : k = w := by omega
    rw [fX3_dress_100, if_pos (nI_le (Nat.le_refl _) (by omega))]
    exact ⟨t, rfl, H, Sm.rf t⟩
  | j + 1, k, fuel, t, hj, hf, hv, H => by
    obtain ⟨m, rfl⟩ : ∃ m, fuel = m + 1 := ⟨fuel - 1, by omega⟩
    rw [fX3_dress_100, if_neg (nI_ge (by omega) (by omega)), ilit 24, nI_mul, nI_add, nI_add, mldl_nI (by omega) (by decide), Nat.add_assoc, hv _ (by omega), (hg k (by omega)).2, mast_nI (by omega) (by decide), nI_1]
    have H1 : MR (setA t 0 k (nI (g k))) (R.drs (k + 1) g) := by
      have h1 := H.d1 (w := k) (v := g k) h9 (by omega)
      refine h1.cong rfl rfl rfl (fun p hp => ?_) (fun _ _ => rfl) (fun _ _ => rfl) (fun _ _ => rfl) (fun _ _ => rfl) (fun _ _ => rfl) (fun _ _ => rfl) (fun _ _ => rfl) rfl rfl rfl
      show (if p < k + 1 then g p else R.d p) = up (fun p => if p < k then g p else R.d p) k (g k) p
      by_cases hpk : p = k
      · subst hpk; rw [up_self, if_pos (by omega)]
      · rw [up_ne _ _ hpk]
        by_cases hlt : p < k
        · rw [if_pos hlt, if_pos (by omega)]
        · rw [if_neg hlt, if_neg (by omega)]
    obtain ⟨t', q1, q2, q3⟩ := m_d100 hi hq hn h9 hg j (k + 1) m (setA t 0 k (nI (g k))) (by omega) (by omega) hv H1
    exact ⟨t', q1, q2, (Sm.set t _ _).tr q3⟩
theorem c_d56 (H : CW σ T ex z o a W) {zf w : Nat} {ft : Nat → Int64} (hw : w ≤ 24) (ha : σ (a 18) = some (true, .inl (3, 24, .inr (.inl ft)))) (c : Nat × Nat) : ∀ (j k fuel : Nat), k + j = w → j < fuel → ((∀ p, k ≤ p → p < w → (0 : Int64) ≤ ft p ∧ ft p ≤ 12) → fX0_dress_56 ex zf fuel o (nI w) (nI k) (σ, c) = fX0_dress_92 ex zf 1000 o (nI w) 0 (σ, c)) ∧ ((∃ p, k ≤ p ∧ p < w ∧ ¬ ((0 : Int64) ≤ ft p ∧ ft p ≤ 12)) → fX0_dress_56 ex zf fuel o (nI w) (nI k) (σ, c) = some (-2, (σ, c)))
  | 0, k, fuel, hj, hf => by
    obtain ⟨m, rfl⟩ : ∃ m, fuel = m + 1 := ⟨fuel - 1, by omega⟩
    obtain rfl : k = w := by omega
    refine ⟨fun _ => ?_, fun ⟨p, h1, h2, _⟩ => by omega⟩
    rw [fX0_dress_56, if_pos (nI_le (Nat.le_refl _) (by omega))]
  | j + 1, k, fuel, hj, hf => by
    obtain ⟨m, rfl⟩ : ∃ m, fuel = m + 1 := ⟨fuel - 1, by omega⟩
    obtain ⟨at_, hob⟩ := H.obj
    have ih := c_d56 (zf := zf) H hw ha c j (k + 1) m (by omega) (by omega)
    have e0 : fX0_dress_56 ex zf (m + 1) o (nI w) (nI k) (σ, c) = if (0 : Int64) ≤ ft k ∧ ft k ≤ 12 then fX0_dress_56 ex zf m o (nI w) (nI (k + 1)) (σ, c) else some (-2, (σ, c)) := by
      rw [fX0_dress_56, if_neg (nI_ge (by omega) (by omega)), A_t hob (by decide) rfl, caldl_t ha (by omega) (by decide), c_in, gb_two, nI_1]
      by_cases h : (0 : Int64) ≤ ft k ∧ ft k ≤ 12
      · rw [if_pos h, if_neg n10, if_pos h]
      · rw [if_neg h, if_pos rfl, if_neg h]
    rw [e0]
    refine ⟨fun hg => ?_, fun ⟨p, h1, h2, h3⟩ => ?_⟩
    · rw [if_pos (hg k (Nat.le_refl _) (by omega))]
      exact ih.1 (fun p h1 h2 => hg p (by omega) h2)
    · by_cases h : (0 : Int64) ≤ ft k ∧ ft k ≤ 12
      · rw [if_pos h]
        exact ih.2 ⟨p, by rcases Nat.lt_or_ge k p with g | g
                          · exact g
                          · obtain rfl : p = k := by omega
                            exact absurd h h3, h2, h3⟩
      · rw [if_neg h]
theorem Rc.drs_OK {R : Rc} (O : R.OK) (w : Nat) {g : Nat → Nat} (hg : ∀ p, p < w → g p ≤ 12) : (R.drs w g).OK := by
  have B := O.b
  exact ⟨⟨B.n, B.W0, B.W1, fun p hp => by
    show (if p < w then g p else R.d p) ≤ 12
    by_cases h : p < w
    · rw [if_pos h]; exact hg p h
    · rw [if_neg h]; exact B.d p hp, B.k, B.h, B.r0, B.r1, B.s, B.p, B.now, B.sk, B.mn0, B.mn1⟩, O.f, O.f1, O.he, O.so⟩
theorem c_d92 {zf w : Nat} {A : Ad} {R : Rc} {ft : Nat → Int64} {g : Nat → Nat} {dr ty at_ im idr : Int32} (hw : w ≤ 24) (F : Fre T z) (hA : A.r = a 0) (h14 : T (a 18) = 14) (h1 : T o = 1) (hg : ∀ p, p < w → g p ≤ 12 ∧ (ft p).toInt32 = nI (g p)) : ∀ (j k fuel : Nat) (σ : Sg) (c : Nat × Nat), k + j = w → j < fuel → σ o = some (obC a dr ty at_ im idr) → σ (a 18) = some (true, .inl (3, 24, .inr (.inl ft))) → RT σ T 2 ex A (R.drs k g) (-4) → ∃ σ', fX0_dress_92 ex zf fuel o (nI w) (nI k) (σ, c) = some (nI w, (σ', c)) ∧ RT σ' T 2 ex A (R.drs w g) (-4) ∧ Ow T 2 σ z σ' z
  | 0, k, fuel, σ, c, hj, hf, hob, ha, HR => by
    obtain ⟨m, rfl⟩ : ∃ m, fuel = m + 1 := ⟨fuel - 1, by omega⟩
    obtain rfl : k = w := by omega
    rw [fX0_dress_92, if_pos (nI_le (Nat.le_refl _) (by omega))]
    exact ⟨σ, rfl, HR, Ow.rf _ _ _ _⟩
  | j + 1, k, fuel, σ, c, hj, hf, hob, ha, HR => by
    obtain ⟨m, rfl⟩ : ∃ m, fuel = m + 1 := ⟨fuel - 1, by omega⟩
    obtain ⟨g1, g2⟩ := hg k (by omega)
    obtain ⟨f, hd, hdf⟩ := HR.1.dl
    obtain ⟨r1, r2⟩ := HR.putD (z := z) (R' := R.drs (k + 1) g) (f := upd f k (nI (g k))) rfl rfl rfl (fun _ _ => rfl) (fun p hp => by
      show upd f k (nI (g k)) p = nI (if p < k + 1 then g p else R.d p)
      by_cases hpk : p = k
      · subst hpk; rw [upd_at, if_pos (by omega)]
      · have := hdf p hp
        rw [upd_no _ _ hpk, this]
        show nI (if p < k then g p else R.d p) = _
        by_cases hlt : p < k
        · rw [if_pos hlt, if_pos (by omega)]
        · rw [if_neg hlt, if_neg (by omega)])
    rw [fX0_dress_92, if_neg (nI_ge (by omega) (by omega)), A_t hob (by decide) rfl, ← hA, A_t HR.1.ra (by decide) rfl, A_t hob (by decide) rfl, caldl_t ha (by omega) (by decide), g2, ast_t hd (by omega) (by decide), nar_byte (by omega), nI_1]
    obtain ⟨σ2, q1, q2, q3⟩ := c_d92 (zf := zf) hw F hA h14 h1 hg j (k + 1) m _ c (by omega) (by omega) ((r2.at F h1 (by decide) (by decide)).trans hob) ((r2.at F h14 (by decide) (by decide)).trans ha) r1
    exact ⟨σ2, q1, q2, r2.tr0 q3⟩
theorem b_dress (M : MW t W) (H : CW σ T ex z o a W) (O : W.OK) (x1 x2 x3 x4 : Int32) : Both σ T ex z o a (fX3_dress x1 x2 x3 x4 t) (fX0_dress ex z o x1 x2 x3 x4 (σ, 0, 0)) := by
  obtain ⟨at_, hob⟩ := H.obj
  obtain ⟨A, hA, R⟩ := H.race
  have hW := O.ba.W1
  have hW0 := O.ba.W0
  have h9 := O.n
  unfold fX3_dress fX0_dress
  rcases sh_args x1 x2 with ⟨i, L, hi, hL, rfl, rfl⟩ | ⟨h1, h2 | ⟨h2, h3⟩⟩
  · rw [m_sh1 hi hL, gm_some, if_neg n10, c_sh1 hi, gb_two, if_neg n10, c_ln1 hL, gb_two, if_neg n10, M.c.r.1.W, A_t hob (by decide) rfl, ← hA, I_t R.1.ra (by decide) rfl, show (1 : Int64) = (nI 1).toInt64 from rfl, m_inI, c_inI, gm_some, gb_two]
    by_cases h : nI 1 ≤ x4 ∧ x4 ≤ nI W.C.R.W
    · obtain ⟨w, hw0, hw, rfl⟩ := (chkM 1 W.C.R.W (by omega) (by omega)).mp h
      have hw24 : w ≤ 24 := by omega
      obtain ⟨σ1, T1, dc, ds, q1, q2, q3, q4, q5, q6⟩ := c_refusal H O (w := w) hi hL hw24 x3
      rw [if_pos h, if_neg n10, if_neg n10, m_lacks M O hi hL (by omega), gm_some, X_t hob (by decide)]
      simp only [Nat.add_zero]
      rw [q1, gb_app]
      by_cases h0 : lackV (W.sl i) L (W.sz i) w x3 = 0
      · obtain ⟨q, ft, rfl, hq, hl, rfl, rfl, hft, hft2⟩ := q6 h0
        have hl0 : W.sl i ≠ 0 := by omega
        have hsz := ((O.s i hi).2 hl0).1
        rw [h0, if_pos (by decide)]
        simp only [Nat.zero_add, Nat.add_zero] at q2 ⊢
        have hm := m_d39 M O hi hl0 hq hw24 w 0 1000 (by omega) (by omega)
        have hc := c_d56 (zf := z) q2 hw24 hft (0, 0) w 0 1000 (by omega) (by omega)
        by_cases hgood : ∀ p, p < w → (0 : Int64) ≤ W.it i (q + p) ∧ W.it i (q + p) ≤ 12
        · have hm1 : fX3_dress_39 1000 (nI i) (nI q) (nI w) 0 0 t = fX3_dress_100 1000 (nI i) (nI q) (nI w) 0 t := hm.1 (fun p _ hp => hgood p hp)
          have hc1 : fX0_dress_56 ex z 1000 o (nI w) 0 (σ1, 0, 0) = fX0_dress_92 ex z 1000 o (nI w) 0 (σ1, 0, 0) := hc.1 (fun p _ hp => by rw [hft2 p hp]; exact hgood p hp)
          have hgx : ∀ p, p < w → (W.it i (q + p)).toInt.toNat ≤ 12 ∧ (W.it i (q + p)).toInt32 = nI (W.it i (q + p)).toInt.toNat := fun p hp => by
            obtain ⟨v, v1, v2, v3⟩ := good_nat (hgood p hp)
            rw [v3, v2]; exact ⟨by omega, by congr 1⟩
          obtain ⟨t1, m1, m2, m3⟩ := m_d100 (R := W.C.R) (g := fun p => (W.it i (q + p)).toInt.toNat) hi hq hsz h9 (fun p hp => ⟨rfl, (hgx p hp).2⟩) w 0 1000 t (by omega) (by omega) (((M.s i hi).2 hl0).2) (M.c.r.cong rfl rfl rfl (fun p _ => Rc.drs0 _ _ p) (fun _ _ => rfl) (fun _ _ => rfl) (fun _ _ => rfl) (fun _ _ => rfl) (fun _ _ => rfl) (fun _ _ => rfl) (fun _ _ => rfl) rfl rfl rfl)
          obtain ⟨at1, hob1⟩ := q2.obj
          obtain ⟨A1, hA1, R1⟩ := q2.race
          obtain ⟨σ2, c1, c2, c3⟩ := c_d92 (zf := z) (R := W.C.R) (g := fun p => (W.it i (q + p)).toInt.toNat) hw24 q2.fr hA1 q2.tkn.1 q2.ob.1 (fun p hp => by rw [hft2 p hp]; exact hgx p hp) w 0 1000 σ1 (0, 0) (by omega) (by omega) hob1 hft (R1.cong rfl rfl (fun p _ => Rc.drs0 _ _ p) (fun _ _ => rfl) (fun _ _ => rfl))
          have m1' : fX3_dress_100 1000 (nI i) (nI q) (nI w) 0 t = some (nI w, t1) := m1
          have c1' : fX0_dress_92 ex z 1000 o (nI w) 0 (σ1, 0, 0) = some (nI w, (σ2, 0, 0)) := c1
          rw [hm1, m1', hc1, c1']
          have OR := Rc.drs_OK O.c.r w (g := fun p => (W.it i (q + p)).toInt.toNat) (fun p hp => (hgx p hp).1)
          exact ⟨_, t1, W.s_C (W.C.s_R (W.C.R.drs w (fun p => (W.it i (q + p)).toInt.toNat))), σ2, T1, 0, 0, rfl, rfl, M.race m3 m2, q2.rc0 hA1 c2 c3, O.race OR O.c.now rfl rfl, (q3.sub (fun i h => by rw [h]; decide)).tr (c3.k50' q2.fr (by decide)), by omega, by omega⟩
        · have hex : ∃ p, 0 ≤ p ∧ p < w ∧ ¬ ((0 : Int64) ≤ W.it i (q + p) ∧ W.it i (q + p) ≤ 12) := by
            refine Classical.byContradiction fun hno => hgood fun p hp => ?_
            refine Classical.byContradiction fun hno2 => hno ⟨p, Nat.zero_le _, hp, hno2⟩
          have hm1 : fX3_dress_39 1000 (nI i) (nI q) (nI w) 0 0 t = some (-2, t) := hm.2 hex
          have hc1 : fX0_dress_56 ex z 1000 o (nI w) 0 (σ1, 0, 0) = some (-2, (σ1, 0, 0)) := hc.2 (by
            obtain ⟨p, e1, e2, e3⟩ := hex
            exact ⟨p, e1, e2, by rw [hft2 p e2]; exact e3⟩)
          rw [hm1, hc1]
          exact ⟨_, t, W, σ1, T1, 0, 0, rfl, rfl, M, q2, O, q3.sub (fun i h => by rw [h]; decide), by omega, by omega⟩
      · have hs := lackV_sign (W.sl i) L (W.sz i) w x3
        have e1 : fX3_dress_39 1000 (nI i) x3 (nI w) (lackV (W.sl i) L (W.sz i) w x3) 0 t = some (lackV (W.sl i) L (W.sz i) w x3, t) := by
          rw [fX3_dress_39, if_neg (nI_nle (by omega) (by omega)), if_neg h0]
          unfold fX3_dress_89
          rw [if_neg (fun g => h0 (hs.mp g))]
        rw [e1, if_neg (fun g => h0 (hs.mp g))]
        refine ⟨_, t, W, σ1, T1, dc, ds, rfl, ?_, M, q2, O, q3.sub (fun i h => by rw [h]; decide), by omega, by omega⟩
        rw [Nat.zero_add, Nat.zero_add]
    · rw [if_neg h, if_pos rfl, if_pos rfl]
      exact Both.same M H O _ rfl rfl
  · rw [h1, gm_some, if_pos rfl, h2, gb_two, if_pos rfl]
    exact Both.same M H O _ rfl rfl
  · rw [h1, gm_some, if_pos rfl, h2, gb_two, if_neg n10, h3, gb_two, if_pos rfl]
    exact Both.same M H O _ rfl rfl
end S98
