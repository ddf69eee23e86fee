/-! sheets: sheet, drop, item -/
set_option maxRecDepth 100000
/-- a value as a lane keeps it -/
def laneV (L : Nat) (v : Int64) : Int64 := if L = 0 then v.toInt8.toInt64 else if L = 1 then v.toInt16.toInt64 else if L = 2 then v.toInt32.toInt64 else v
theorem sh_int (v : Int64) (k m : Nat) (s : Int64) (hs : (s.toBitVec.smod 64).toNat = k) : ((v <<< s) >>> s).toInt = ((((v.toBitVec.toNat * 2 ^ k : Nat) : Int).bmod (2 ^ 64)) / ((2 ^ k : Nat) : Int)) := by
  show (((v.toBitVec <<< (s.toBitVec.smod 64)).sshiftRight' (s.toBitVec.smod 64)).toInt) = _
  rw [BitVec.sshiftRight', BitVec.toInt_sshiftRight, hs, Int.shiftRight_eq_div_pow, BitVec.shiftLeft_eq', BitVec.toInt_shiftLeft, hs, Nat.shiftLeft_eq]
theorem i64_nat (v : Int64) : v.toInt = ((v.toBitVec.toNat : Nat) : Int).bmod (2 ^ 64) := BitVec.toInt_eq_toNat_bmod v.toBitVec
theorem lane0 (v : Int64) : (v <<< ((56 : Int32).toInt64 &&& 63)) >>> ((56 : Int32).toInt64 &&& 63) = v.toInt8.toInt64 := by
  refine Int64.toInt_inj.mp ?_
  rw [sh_int v 56 0 _ (by decide), Int8.toInt_toInt64, Int64.toInt_toInt8, i64_nat]
  have h := v.toBitVec.isLt
  generalize v.toBitVec.toNat = u at h ⊢
  simp only [Int.bmod]
  omega
theorem lane1 (v : Int64) : (v <<< ((48 : Int32).toInt64 &&& 63)) >>> ((48 : Int32).toInt64 &&& 63) = v.toInt16.toInt64 := by
  refine Int64.toInt_inj.mp ?_
  rw [sh_int v 48 0 _ (by decide), Int16.toInt_toInt64, Int64.toInt_toInt16, i64_nat]
  have h := v.toBitVec.isLt
  generalize v.toBitVec.toNat = u at h ⊢
  simp only [Int.bmod]
  omega
theorem lane2 (v : Int64) : (v <<< ((32 : Int32).toInt64 &&& 63)) >>> ((32 : Int32).toInt64 &&& 63) = v.toInt32.toInt64 := by
  refine Int64.toInt_inj.mp ?_
  rw [sh_int v 32 0 _ (by decide), Int32.toInt_toInt64, Int64.toInt_toInt32, i64_nat]
  have h := v.toBitVec.isLt
  generalize v.toBitVec.toNat = u at h ⊢
  simp only [Int.bmod]
  omega
theorem m_asLane {L : Nat} (hL : L < 4) (v : Int64) (t : MS) : fX3_asLane (nI L) v t = some (laneV L v, t) := by
  unfold fX3_asLane laneV
  rw [ifl 0 (by omega) (by decide), ifl 1 (by omega) (by decide), ifl 2 (by omega) (by decide), lane0, lane1, lane2]
  by_cases h0 : L = 0
  · rw [if_pos h0, if_pos h0]
  rw [if_neg h0, if_neg h0]
  by_cases h1 : L = 1
  · rw [if_pos h1, if_pos h1]
  rw [if_neg h1, if_neg h1]
  by_cases h2 : L = 2
  · rw [if_pos h2, if_pos h2]
  rw [if_neg h2, if_neg h2]
theorem laneV_in (L : Nat) (v : Int64) : inLane (L + 1) (laneV L v) := by
  refine ⟨fun h => ?_, fun h => ?_, fun h => ?_⟩
  · obtain rfl : L = 0 := by omega
    have e : laneV 0 v = v.toInt8.toInt64 := rfl
    rw [e, Int8.toInt_toInt64]
    exact ⟨Int8.le_toInt _, by have := Int8.toInt_lt v.toInt8; omega⟩
  · obtain rfl : L = 1 := by omega
    have e : laneV 1 v = v.toInt16.toInt64 := rfl
    rw [e, Int16.toInt_toInt64]
    exact ⟨Int16.le_toInt _, by have := Int16.toInt_lt v.toInt16; omega⟩
  · obtain rfl : L = 2 := by omega
    have e : laneV 2 v = v.toInt32.toInt64 := rfl
    rw [e, Int32.toInt_toInt64]
    exact ⟨Int32.le_toInt _, by have := Int32.toInt_lt v.toInt32; omega⟩
/-- a row in the store: its lane L, so many items -/
def Row (σ : Sg) (r L n : Nat) (f : Nat → Int64) : Prop := (L ≤ 2 ∧ ∃ v, σ r = some (true, .inl (L, n, .inl v)) ∧ ∀ j, j < n → (v j).toInt64 = f j) ∨ (L = 3 ∧ ∃ v, σ r = some (true, .inl (3, n, .inr (.inl v))) ∧ ∀ j, j < n → v j = f j)
theorem Row.cell {σ : Sg} {r L n : Nat} {f : Nat → Int64} (h : Row σ r L n f) : L < 4 ∧ ∃ x, σ r = some (true, .inl (L, n, x)) := by
  rcases h with ⟨h1, v, h2, -⟩ | ⟨rfl, v, h2, -⟩
  · exact ⟨by omega, _, h2⟩
  · exact ⟨by decide, _, h2⟩
def ShR (σ : Sg) (T : Nat → Nat) (i h l n : Nat) (it : Nat → Int64) : Prop := (l = 0 ∧ σ h = some (true, .inr (2, [.null]))) ∨ (∃ r, 0 < l ∧ l ≤ 4 ∧ n ≤ 24 ∧ σ h = some (true, .inr (2, [.ref r])) ∧ T r = 40 + i ∧ Row σ r (l - 1) n it)
section S96
variable {t : MS} {W : Wv} {σ : Sg} {T : Nat → Nat} {ex : Nat → Option Nat} {z o : Nat} {a : Nat → Nat}
theorem CW.shs (H : CW σ T ex z o a W) : ∃ (f : Nat → Option Nat) (hd : Nat → Nat), σ (a 17) = some (true, .inl (5, 4, .inr (.inr (.inr (.inr f))))) ∧ ∀ i, i < 4 → f i = some (hd i) ∧ T (hd i) = 30 + i ∧ ShR σ T i (hd i) (W.sl i) (W.sz i) (W.it i) := by
  obtain ⟨-, f, hd, h1, h2⟩ := H.sh
  refine ⟨f, hd, h1, fun i hi => ?_⟩
  obtain ⟨x1, x2, x3⟩ := h2 i hi
  refine ⟨x1, x2, ?_⟩
  rcases x3 with x3 | ⟨r, y1, y2, y3, y4, y5, y6⟩
  · exact Or.inl x3
  · refine Or.inr ⟨r, y1, y2, y3, y4, y5, ?_⟩
    rcases y6 with ⟨q1, q2⟩ | ⟨q1, q2⟩
    · exact Or.inl ⟨by omega, q2⟩
    · exact Or.inr ⟨by omega, q2⟩
theorem CW.shput {σ' : Sg} {T' : Nat → Nat} {z' i l n : Nat} {it : Nat → Int64} {f : Nat → Option Nat} {hd : Nat → Nat} (H : CW σ T ex z o a W) (hp : σ (a 17) = some (true, .inl (5, 4, .inr (.inr (.inr (.inr f)))))) (hh : ∀ i, i < 4 → f i = some (hd i) ∧ T (hd i) = 30 + i ∧ ShR σ T i (hd i) (W.sl i) (W.sz i) (W.it i)) (F : Fre T' z') (K : Kp T σ T' σ' (fun q => q ≠ 30 + i ∧ q ≠ 40 + i)) (hi : i < 4) (hT : T' (hd i) = 30 + i) (hs : ShR σ' T' i (hd i) l n it) : CW σ' T' ex z' o a (Wv.mk (W.C) (W.I) (W.im) (W.tn) (W.tp) (up W.sl i l) (up W.sz i n) (up W.it i it)) := by
  have H15 : T (a 17) = 15 := H.sh.1
  obtain ⟨k1, k2⟩ := K.at H15 (by decide) ⟨by omega, by omega⟩
  have conv : ∀ {j h l n : Nat} {it : Nat → Int64}, ShR σ' T' j h l n it → ((l = 0 ∧ σ' h = some (true, .inr (2, [.null]))) ∨ (∃ r, 0 < l ∧ l ≤ 4 ∧ n ≤ 24 ∧ σ' h = some (true, .inr (2, [.ref r])) ∧ T' r = 40 + j ∧ ((l ≤ 3 ∧ ∃ v, σ' r = some (true, .inl (l - 1, n, .inl v)) ∧ ∀ q, q < n → (v q).toInt64 = it q) ∨ (l = 4 ∧ ∃ v, σ' r = some (true, .inl (3, n, .inr (.inl v))) ∧ ∀ q, q < n → v q = it q)))) := by
    intro j h l n it hq
    rcases hq with hq | ⟨r, y1, y2, y3, y4, y5, y6⟩
    · exact Or.inl hq
    · refine Or.inr ⟨r, y1, y2, y3, y4, y5, ?_⟩
      rcases y6 with ⟨q1, q2⟩ | ⟨q1, q2⟩
      · exact Or.inl ⟨by omega, q2⟩
      · exact Or.inr ⟨by omega, q2⟩
  refine H.u_sh (W' := (Wv.mk (W.C) (W.I) (W.im) (W.tn) (W.tp) (up W.sl i l) (up W.sz i n) (up W.it i it))) F (K.sub (fun q hq => ⟨by omega, by omega⟩)) ⟨k1, f, hd, k2.trans hp, fun j hj => ?_⟩ rfl rfl rfl rfl rfl rfl rfl rfl rfl rfl rfl rfl rfl rfl rfl rfl rfl rfl rfl rfl rfl
  by_cases hq : j = i
  · subst hq
    refine ⟨(hh j hj).1, hT, ?_⟩
    have := conv hs
    rw [show ((Wv.mk (W.C) (W.I) (W.im) (W.tn) (W.tp) (up W.sl j l) (up W.sz j n) (up W.it j it))).sl = up W.sl j l from rfl, show ((Wv.mk (W.C) (W.I) (W.im) (W.tn) (W.tp) (up W.sl j l) (up W.sz j n) (up W.it j it))).sz = up W.sz j n from rfl, show ((Wv.mk (W.C) (W.I) (W.im) (W.tn) (W.tp) (up W.sl j l) (up W.sz j n) (up W.it j it))).it = up W.it j it from rfl, up_self, up_self, up_self]
    exact this
  · obtain ⟨x1, x2, x3⟩ := hh j hj
    obtain ⟨b1, b2⟩ := K.at x2 (by omega) ⟨by omega, by omega⟩
    refine ⟨x1, b1, ?_⟩
    rw [show ((Wv.mk (W.C) (W.I) (W.im) (W.tn) (W.tp) (up W.sl i l) (up W.sz i n) (up W.it i it))).sl = up W.sl i l from rfl, show ((Wv.mk (W.C) (W.I) (W.im) (W.tn) (W.tp) (up W.sl i l) (up W.sz i n) (up W.it i it))).sz = up W.sz i n from rfl, show ((Wv.mk (W.C) (W.I) (W.im) (W.tn) (W.tp) (up W.sl i l) (up W.sz i n) (up W.it i it))).it = up W.it i it from rfl, up_ne _ _ hq, up_ne _ _ hq, up_ne _ _ hq]
    refine conv ?_
    rcases x3 with ⟨y1, y2⟩ | ⟨r, y1, y2, y3, y4, y5, y6⟩
    · exact Or.inl ⟨y1, b2.trans y2⟩
    · obtain ⟨c1, c2⟩ := K.at y5 (by omega) ⟨by omega, by omega⟩
      refine Or.inr ⟨r, y1, y2, y3, b2.trans y4, c1, ?_⟩
      unfold Row; rw [c2]; exact y6
theorem m_sh1 {i L : Nat} (hi : i < 4) (hL : L < 4) : fX3_isSheet (nI i) (nI L) t = some (1, t) := by
  unfold fX3_isSheet
  rw [m_iL1 0 3 t (by omega) (by omega) (by decide), gm_some, if_neg n10, m_iL1 0 3 t (by omega) (by omega) (by decide), gm_some, if_neg n10]
theorem c_sh1 {i zz : Nat} {c : Nat × Nat} (hi : i < 4) : fX0_isSheet ex zz (nI i) (σ, c) = some (1, (σ, c)) := by
  unfold fX0_isSheet
  rw [c_iL1 0 3 _ (by omega) (by omega) (by decide), gb_two, if_pos (Or.inr rfl)]
theorem c_sh0 {zz : Nat} {c : Nat × Nat} {x : Int32} (h : ¬ ∃ c, 0 ≤ c ∧ c ≤ 3 ∧ x = nI c) : fX0_isSheet ex zz x (σ, c) = some (0, (σ, c)) := by
  unfold fX0_isSheet
  rw [c_iL0 0 3 _ (by omega) (by decide) h, gb_two, if_pos (Or.inl rfl)]
theorem c_ln1 {i zz : Nat} {c : Nat × Nat} (hi : i < 4) : fX0_isLane ex zz (nI i) (σ, c) = some (1, (σ, c)) := by
  unfold fX0_isLane
  rw [c_iL1 0 3 _ (by omega) (by omega) (by decide), gb_two, if_pos (Or.inr rfl)]
theorem c_ln0 {zz : Nat} {c : Nat × Nat} {x : Int32} (h : ¬ ∃ c, 0 ≤ c ∧ c ≤ 3 ∧ x = nI c) : fX0_isLane ex zz x (σ, c) = some (0, (σ, c)) := by
  unfold fX0_isLane
  rw [c_iL0 0 3 _ (by omega) (by decide) h, gb_two, if_pos (Or.inl rfl)]
/-- the arguments of a sheet's call: both refuse, or they are a sheet and a lane -/
theorem sh_args (x1 x2 : Int32) : (∃ i L, i < 4 ∧ L < 4 ∧ x1 = nI i ∧ x2 = nI L) ∨ (∀ t : MS, fX3_isSheet x1 x2 t = some (0, t)) ∧ ((∀ (ex : Nat → Option Nat) (zz : Nat) (σ : Sg) (c : Nat × Nat), fX0_isSheet ex zz x1 (σ, c) = some (0, (σ, c))) ∨ (∀ (ex : Nat → Option Nat) (zz : Nat) (σ : Sg) (c : Nat × Nat), fX0_isSheet ex zz x1 (σ, c) = some (1, (σ, c))) ∧ (∀ (ex : Nat → Option Nat) (zz : Nat) (σ : Sg) (c : Nat × Nat), fX0_isLane ex zz x2 (σ, c) = some (0, (σ, c)))) := by
  by_cases h1 : ∃ c, 0 ≤ c ∧ c ≤ 3 ∧ x1 = nI c
  · obtain ⟨i, -, hi, rfl⟩ := h1
    by_cases h2 : ∃ c, 0 ≤ c ∧ c ≤ 3 ∧ x2 = nI c
    · obtain ⟨L, -, hL, rfl⟩ := h2
      exact Or.inl ⟨i, L, by omega, by omega, rfl, rfl⟩
    · refine Or.inr ⟨fun t => ?_, Or.inr ⟨fun ex zz σ c => c_sh1 (by omega), fun ex zz σ c => c_ln0 h2⟩⟩
      unfold fX3_isSheet
      rw [m_iL1 0 3 t (by omega) (by omega) (by decide), gm_some, if_neg n10, m_iL0 0 3 t (by omega) (by decide) h2, gm_some, if_pos rfl]
  · refine Or.inr ⟨fun t => ?_, Or.inl (fun ex zz σ c => c_sh0 h1)⟩
    unfold fX3_isSheet
    rw [m_iL0 0 3 t (by omega) (by decide) h1, gm_some, if_pos rfl]
theorem mstl_nI {β : Type} {j n k : Nat} {v : Int64} {K : MS → Option β} (hk : k < n) (hn : n ≤ 1000) : mstl t j n (nI k) v K = K (setL t j k v) := by
  have h : k < 2 ^ 31 := by omega
  unfold mstl
  rw [if_neg (nI_in hk (by omega)), nI_clamp h]
theorem mldl_nI {β : Type} {j n k : Nat} {K : Int64 → Option β} (hk : k < n) (hn : n ≤ 1000) : mldl t j n (nI k) K = K (t.2.2 j k) := by
  have h : k < 2 ^ 31 := by omega
  unfold mldl
  rw [if_neg (nI_in hk (by omega)), nI_clamp h]
theorem updL_at (f : Nat → Int64) (i : Nat) (v : Int64) : vp_updL f i v i = v := by simp [vp_updL]
theorem updL_no (f : Nat → Int64) {i j : Nat} (v : Int64) (h : j ≠ i) : vp_updL f i v j = f j := by simp [vp_updL, h]
theorem setL_same (t : MS) (j i : Nat) (v : Int64) : (setL t j i v).2.2 j = vp_updL (t.2.2 j) i v := by simp [setL]
/-- the sheets in the reference -/
theorem MW.sheets {t' : MS} {sl sz : Nat → Nat} {it : Nat → Nat → Int64} (M : MW t W) (h1 : t'.1 = t.1) (h2 : ∀ j, j ≠ 12 → j ≠ 13 → t'.2.1 j = t.2.1 j) (hs : ∀ i, i < 4 → t'.2.1 12 i = lnI (sl i) ∧ (sl i ≠ 0 → t'.2.1 13 i = nI (sz i) ∧ ∀ j, j < sz i → t'.2.2 0 (24 * i + j) = it i j)) : MW t' (Wv.mk (W.C) (W.I) (W.im) (W.tn) (W.tp) (sl) (sz) (it)) := by
  refine ⟨⟨M.c.r.i (by rw [h1]) (by rw [h1]) (by rw [h1]) (fun j hj => h2 j (by omega) (by omega)), ?_, ?_, ?_, ?_, ?_⟩, ?_, ?_, ?_, ?_, ?_, hs⟩
  · rw [h1]; exact M.c.bn
  · rw [h2 4 (by decide) (by decide), h2 5 (by decide) (by decide)]; exact M.c.b
  · rw [h1]; exact M.c.un
  · rw [h2 6 (by decide) (by decide)]; exact M.c.u
  · rw [h1]; exact M.c.dr
  · rw [h1]; exact M.sky
  · rw [h1]; exact M.im
  · rw [h2 11 (by decide) (by decide)]; exact M.kp
  · rw [h1]; exact M.tn
  · rw [h2 7 (by decide) (by decide)]; exact M.tp
theorem Wv.OK.sheets {sl sz : Nat → Nat} {it : Nat → Nat → Int64} (O : W.OK) (h : ∀ i, i < 4 → sl i ≤ 4 ∧ (sl i ≠ 0 → sz i ≤ 24 ∧ ∀ j, j < sz i → inLane (sl i) (it i j))) : ((Wv.mk (W.C) (W.I) (W.im) (W.tn) (W.tp) (sl) (sz) (it))).OK := ⟨O.c, O.i, O.im, O.tn, O.tp, h⟩
theorem m_sh40 {i n : Nat} (hi : i < 4) : ∀ (j k fuel : Nat) (t : MS), k + j = 24 → j < fuel → ∃ t', fX3_sheet_40 fuel (nI i) (nI n) (nI k) t = some (nI n, t') ∧ t'.1 = t.1 ∧ t'.2.1 = t.2.1 ∧ (∀ q, (k ≤ q ∧ q < 24) → t'.2.2 0 (24 * i + q) = 0) ∧ ∀ q, (q < 24 * i + k ∨ 24 * i + 24 ≤ q) → t'.2.2 0 q = t.2.2 0 q
  | 0, k, fuel, t, hj, hf => by
    obtain ⟨m, rfl⟩ : ∃ m, fuel = m + 1 := ⟨fuel - 1, by omega⟩
    obtain rfl : k = 24 := by omega
    rw [fX3_sheet_40, ifler 24 (by decide) (by decide), if_pos (Nat.le_refl _)]
    exact ⟨t, rfl, rfl, rfl, fun q h => by omega, fun _ _ => rfl⟩
  | j + 1, k, fuel, t, hj, hf => by
    obtain ⟨m, rfl⟩ : ∃ m, fuel = m + 1 := ⟨fuel - 1, by omega⟩
    rw [fX3_sheet_40, ifler 24 (by decide) (by omega), if_neg (by omega), ilit 24, nI_mul, nI_add, mstl_nI (by omega) (by decide), nI_1]
    obtain ⟨t', q1, q2, q3, q4, q5⟩ := m_sh40 (n := n) hi j (k + 1) m (setL t 0 (24 * i + k) 0) (by omega) (by omega)
    refine ⟨t', q1, q2, q3, fun q hq => ?_, fun q hq => ?_⟩
    · by_cases hk : q = k
      · subst hk; rw [q5 _ (by omega), setL_same, updL_at]
      · exact q4 q (by omega)
    · rw [q5 q (by omega), setL_same, updL_no _ _ (by omega)]
theorem lnI_ok {l : Nat} (h : l ≤ 4) : (l ≠ 0 → lnI l = nI (l - 1)) ∧ (0 ≤ lnI l ↔ l ≠ 0) := by
  refine ⟨fun g => by unfold lnI; rw [if_neg g], ?_⟩
  unfold lnI
  by_cases g : l = 0
  · rw [if_pos g]; simp [g]
  · rw [if_neg g]
    exact ⟨fun _ => g, fun _ => nI_pos' (by omega)⟩
theorem laid_ok {L n zz : Nat} (hL : L < 4) (hn : n ≤ 24) (hz : z = zz) : fX0_laidT ex zz (nI L) (nI n) (σ, 0, 0) = some (.inl z, (g_u σ z (true, .inl (L, cz0 L n)), 1, n)) := by
  subst hz
  unfold fX0_laidT
  match L, hL with
  | 0, _ => rw [if_pos (by decide), if_neg (nI_pos (by omega)), newa_t (by omega)]; simp only [Nat.add_zero, Nat.zero_add]
  | 1, _ => rw [if_neg (by decide), if_pos (by decide), if_neg (nI_pos (by omega)), newa_t (by omega)]; simp only [Nat.add_zero, Nat.zero_add]
  | 2, _ => rw [if_neg (by decide), if_neg (by decide), if_pos (by decide), if_neg (nI_pos (by omega)), newa_t (by omega)]; simp only [Nat.add_zero, Nat.zero_add]
  | 3, _ => rw [if_neg (by decide), if_neg (by decide), if_neg (by decide), if_neg (nI_pos (by omega)), newa_t (by omega)]; simp only [Nat.add_zero, Nat.zero_add]
theorem laid_no {L zz : Nat} {x : Int32} (hL : L < 4) (hx : x < 0) : fX0_laidT ex zz (nI L) x (σ, 0, 0) = some (.inr (zz + 2), (g_u σ (zz + 2) (true, .inr (30, [])), 3, 800)) := by
  unfold fX0_laidT xNew
  match L, hL with
  | 0, _ => rw [if_pos (by decide), if_pos hx]; simp only [Nat.add_zero, Nat.zero_add]
  | 1, _ => rw [if_neg (by decide), if_pos (by decide), if_pos hx]; simp only [Nat.add_zero, Nat.zero_add]
  | 2, _ => rw [if_neg (by decide), if_neg (by decide), if_pos (by decide), if_pos hx]; simp only [Nat.add_zero, Nat.zero_add]
  | 3, _ => rw [if_neg (by decide), if_neg (by decide), if_neg (by decide), if_pos hx]; simp only [Nat.add_zero, Nat.zero_add]
theorem row_new {L n r : Nat} (hL : L < 4) (h : σ r = some (true, .inl (L, cz0 L n))) : Row σ r L n (fun _ => 0) := by
  match L, hL with
  | 0, _ => exact Or.inl ⟨by decide, _, h, fun j _ => rfl⟩
  | 1, _ => exact Or.inl ⟨by decide, _, h, fun j _ => rfl⟩
  | 2, _ => exact Or.inl ⟨by decide, _, h, fun j _ => rfl⟩
  | 3, _ => exact Or.inr ⟨rfl, _, h, fun j _ => rfl⟩
theorem cif_t {α : Type} {a ci : Nat} {fl : Bool} {fs : List Value} {k : Nat} {F G : Option (α × St)} {c : Nat × Nat} (h : σ a = some (fl, .inr (ci, fs))) : cif (σ, c) a k F G = if ci = k then F else G := by
  unfold cif; simp only [h]
theorem inLane0 (l : Nat) : inLane l 0 := by
  have h : (0 : Int64).toInt = 0 := by decide
  unfold inLane; rw [h]; omega
theorem b_sheet (M : MW t W) (H : CW σ T ex z o a W) (O : W.OK) (x1 x2 x3 : Int32) : Both σ T ex z o a (fX3_sheet x1 x2 x3 t) (fX0_sheet ex z o x1 x2 x3 (σ, 0, 0)) := by
  obtain ⟨at_, hob⟩ := H.obj
  unfold fX3_sheet fX0_sheet
  rcases sh_args x1 x2 with ⟨i, L, hi, hL, rfl, rfl⟩ | ⟨h1, h2 | ⟨h2, h3⟩⟩
  · rw [m_sh1 hi hL, gm_some, if_neg n10, c_sh1 hi, gb_two, if_neg n10, c_ln1 hL, gb_two, if_neg n10]
    by_cases hle : x3 ≤ 24
    · obtain ⟨f, hd, hp, hh⟩ := H.shs
      obtain ⟨hf, hT, hS⟩ := hh i hi
      rw [if_pos hle, if_pos hle, A_t hob (by decide) rfl, aldA_t hp hi (by decide) hf]
      by_cases h0 : (0 : Int32) ≤ x3
      · obtain ⟨n, hn, rfl⟩ : ∃ n, n ≤ 24 ∧ x3 = nI n := by
          obtain ⟨c, hc, e⟩ := (chkL 24 (by decide)).mp ⟨h0, hle⟩
          exact ⟨c, hc, e⟩
        obtain ⟨t1, m1, m2, m3, m4, m5⟩ := m_sh40 (n := n) hi 24 0 1000 (setA (setA t 12 i (nI L)) 13 i (nI n)) (by omega) (by omega)
        have m1' : fX3_sheet_40 1000 (nI i) (nI n) 0 (setA (setA t 12 i (nI L)) 13 i (nI n)) = some (nI n, t1) := m1
        have M1 : MW t1 (Wv.mk (W.C) (W.I) (W.im) (W.tn) (W.tp) (up W.sl i (L + 1)) (up W.sz i n) (up W.it i (fun _ => 0))) := by
          refine M.sheets m2 (fun j h12 h13 => ?_) (fun q hq => ?_)
          · rw [m3, setA_other _ _ _ h13, setA_other _ _ _ h12]
          · have e12 : t1.2.1 12 = upd (t.2.1 12) i (nI L) := by rw [m3, setA_other _ _ _ (by decide), setA_same]
            have e13 : t1.2.1 13 = upd (t.2.1 13) i (nI n) := by rw [m3, setA_same, setA_other _ _ _ (by decide)]
            rw [e12, e13]
            by_cases hqi : q = i
            · subst hqi
              rw [up_self, up_self, up_self, upd_at, upd_at]
              exact ⟨rfl, fun _ => ⟨rfl, fun j hj => m4 j (by omega)⟩⟩
            · rw [up_ne _ _ hqi, up_ne _ _ hqi, up_ne _ _ hqi, upd_no _ _ hqi, upd_no _ _ hqi]
              refine ⟨(M.s q hq).1, fun g => ⟨((M.s q hq).2 g).1, fun j hj => ?_⟩⟩
              have := (O.s q hq).2 g
              rw [m5 _ (by omega)]
              exact ((M.s q hq).2 g).2 j hj
        have hr : ∀ x, (g_u σ z x) (hd i) = σ (hd i) := fun x => g_u_ne _ _ (by have := H.fr.lt hT (by omega); omega)
        have hcell : ∃ y, σ (hd i) = some (true, .inr (2, [y])) := by
          rcases hS with ⟨-, h⟩ | ⟨r, -, -, -, h, -⟩
          · exact ⟨_, h⟩
          · exact ⟨_, h⟩
        obtain ⟨y, hy⟩ := hcell
        have K1 := Kp.make (T := T) (σ := σ) H.fr (40 + i) (true, .inl (L, cz0 L n))
        have hTz : ext T z (z + 1) (40 + i) z = 40 + i := ext_in (Nat.le_refl _) (by omega)
        have hTh : ext T z (z + 1) (40 + i) (hd i) = 30 + i := (K1.at hT (by omega) trivial).1
        have F1 : Fre (ext T z (z + 1) (40 + i)) (z + 1) := H.fr.ext (by omega)
        have o2 : Ow (ext T z (z + 1) (40 + i)) (30 + i) (g_u σ z (true, .inl (L, cz0 L n))) (z + 1) (g_u (g_u σ z (true, .inl (L, cz0 L n))) (hd i) (true, .inr (2, [.ref z]))) (z + 1) := Ow.put hTh _
        have K2 : Kp T σ (ext T z (z + 1) (40 + i)) (g_u (g_u σ z (true, .inl (L, cz0 L n))) (hd i) (true, .inr (2, [.ref z]))) (fun q => q ≠ 30 + i) := (K1.sub (fun _ _ => trivial)).tr (o2.kp0 F1)
        have hzh : z ≠ hd i := by have := H.fr.lt hT (by omega); omega
        have H2 := H.shput (l := L + 1) (n := n) (it := fun _ => 0) hp hh F1 (K2.sub (fun q h => h.1)) hi hTh (Or.inr ⟨z, by omega, by omega, hn, g_u_self _ _ _, hTz, by
          rw [Nat.add_sub_cancel]
          exact row_new hL ((g_u_ne _ _ hzh).trans (g_u_self _ _ _))⟩)
        rw [if_pos h0, mast_nI hi (by decide), mast_nI hi (by decide), m1']
        simp only [Nat.add_zero]
        rw [laid_ok hL hn rfl]
        have hy1 : (g_u σ z (true, Sum.inl (L, cz0 L n))) (hd i) = some (true, .inr (2, [y])) := (hr _).trans hy
        refine ⟨nI n, t1, _, _, _, 1, n, rfl, ?_, M1, H2, O.sheets (fun q hq => ?_), K2.sub (fun q h => by rw [h]; omega), by omega, by omega⟩
        · show cput [2] 0 (g_u σ z (true, Sum.inl (L, cz0 L n)), 0 + 1, 0 + n) (hd i) (.ref z) (fun t11 => some (nI n, t11)) = _
          rw [P_t hy1 (by decide) (by show 0 < 1; decide)]
          simp only [Nat.zero_add]
          rfl
        · by_cases hqi : q = i
          · subst hqi
            rw [up_self, up_self, up_self]
            exact ⟨by omega, fun _ => ⟨hn, fun j _ => inLane0 _⟩⟩
          · rw [up_ne _ _ hqi, up_ne _ _ hqi, up_ne _ _ hqi]
            exact O.s q hq
      · have hx : x3 < 0 := by
          rw [Int32.lt_iff_toInt_lt]
          rw [Int32.le_iff_toInt_le] at h0
          omega
        obtain ⟨H2, K2⟩ := H.xnew 2 (true, .inr (30, []))
        rw [if_neg h0]
        simp only [Nat.add_zero]
        rw [laid_no hL hx]
        refine ⟨-14, t, W, _, _, 3, 800, rfl, ?_, M, H2, O, K2.sub (fun _ _ => trivial), by omega, by omega⟩
        show cif (g_u σ (z + 2) (true, Sum.inr (30, [])), 0 + 3, 0 + 800) (z + 2) 30 _ none = _
        rw [cif_t (g_u_self _ _ _), if_pos rfl]
        rfl
    · rw [if_neg hle, if_neg hle]
      exact Both.same M H O _ rfl rfl
  · rw [h1, gm_some, if_pos rfl, h2, gb_two, if_pos rfl]
    exact Both.same M H O _ rfl rfl
  · rw [h1, gm_some, if_pos rfl, h2, gb_two, if_neg n10, h3, gb_two, if_pos rfl]
    exact Both.same M H O _ rfl rfl
end S96
