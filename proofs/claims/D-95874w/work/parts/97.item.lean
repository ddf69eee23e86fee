/-! sheets: drop, item -/
set_option maxRecDepth 100000
section Z97
variable {σ : Sg} {ex : Nat → Option Nat} {zz : Nat} {c : Nat × Nat}
theorem size_ok {L n r : Nat} {x : (Nat → Int32) ⊕ (Nat → Int64) ⊕ (Nat → UInt32) ⊕ (Nat → UInt64) ⊕ (Nat → Option Nat)} (hL : L < 4) (h : σ r = some (true, .inl (L, n, x))) : fX0_sizeOf ex zz (some r) (nI L) (σ, c) = some (.inl (nI n), (σ, c)) := by
  unfold fX0_sizeOf
  match L, hL with
  | 0, _ => rw [if_pos (by decide)]; simp only [ccka, cnul, h, if_true]; rw [len_t h (by decide)]
  | 1, _ => rw [if_neg (by decide), if_pos (by decide)]; simp only [ccka, cnul, h, if_true]; rw [len_t h (by decide)]
  | 2, _ => rw [if_neg (by decide), if_neg (by decide), if_pos (by decide)]; simp only [ccka, cnul, h, if_true]; rw [len_t h (by decide)]
  | 3, _ => rw [if_neg (by decide), if_neg (by decide), if_neg (by decide)]; simp only [ccka, cnul, h, if_true]; rw [len_t h (by decide)]
theorem size_null {L : Nat} (hL : L < 4) : fX0_sizeOf ex zz none (nI L) (σ, c) = some (.inr (zz + c.1), xNew zz 0 27 (σ, c)) := by
  unfold fX0_sizeOf
  match L, hL with
  | 0, _ => rw [if_pos (by decide)]; rfl
  | 1, _ => rw [if_neg (by decide), if_pos (by decide)]; rfl
  | 2, _ => rw [if_neg (by decide), if_neg (by decide), if_pos (by decide)]; rfl
  | 3, _ => rw [if_neg (by decide), if_neg (by decide), if_neg (by decide)]; rfl
theorem size_bad {L k n r : Nat} {x : (Nat → Int32) ⊕ (Nat → Int64) ⊕ (Nat → UInt32) ⊕ (Nat → UInt64) ⊕ (Nat → Option Nat)} (hL : L < 4) (hk : k < 4) (hne : k ≠ L) (h : σ r = some (true, .inl (k, n, x))) : fX0_sizeOf ex zz (some r) (nI L) (σ, c) = some (.inr (zz + c.1 + 2), xNew zz 2 28 (σ, c)) := by
  unfold fX0_sizeOf
  match L, hL with
  | 0, _ => rw [if_pos (by decide)]; simp only [ccka, h, hne, hk, if_true, if_false]
  | 1, _ => rw [if_neg (by decide), if_pos (by decide)]; simp only [ccka, h, hne, hk, if_true, if_false]
  | 2, _ => rw [if_neg (by decide), if_neg (by decide), if_pos (by decide)]; simp only [ccka, h, hne, hk, if_true, if_false]
  | 3, _ => rw [if_neg (by decide), if_neg (by decide), if_neg (by decide)]; simp only [ccka, h, hne, hk, if_true, if_false]
theorem caldl_t {β : Type} {a n i : Nat} {fl : Bool} {f : Nat → Int64} {K : Int64 → Option β} (h : σ a = some (fl, .inl (3, n, .inr (.inl f)))) (hi : i < n) (hn : n ≤ 1000) : caldl (σ, c) a (nI i) K = K (f i) := by
  unfold caldl; simp only [h, if_true]
  rw [if_neg (nI_in hi (by omega)), nI_clamp (by omega)]
theorem castl_t {β : Type} {a n i : Nat} {f : Nat → Int64} {x : Int64} {K : St → Option β} (h : σ a = some (true, .inl (3, n, .inr (.inl f)))) (hi : i < n) (hn : n ≤ 1000) : castl (σ, c) a (nI i) x K = K (g_u σ a (true, .inl (3, n, .inr (.inl (vp_updL f i x)))), c) := by
  unfold castl; simp only [h, if_true]
  rw [if_neg (nI_in hi (by omega)), nI_clamp (by omega)]
theorem item_ok {L n r i : Nat} {f : Nat → Int64} (h : Row σ r L n f) (hi : i < n) (hn : n ≤ 24) : fX0_itemOf ex zz (some r) (nI L) (nI i) (σ, c) = some (f i, (σ, c)) := by
  unfold fX0_itemOf
  rcases h with ⟨hL, v, h, hv⟩ | ⟨rfl, v, h, hv⟩
  · rw [← hv i hi]
    match L, hL with
    | 0, _ => rw [if_pos (by decide)]; simp only [ccka, cnul, h, if_true]; rw [ald_t h hi (by omega)]
    | 1, _ => rw [if_neg (by decide), if_pos (by decide)]; simp only [ccka, cnul, h, if_true]; rw [ald_t h hi (by omega)]
    | 2, _ => rw [if_neg (by decide), if_neg (by decide), if_pos (by decide)]; simp only [ccka, cnul, h, if_true]; rw [ald_t h hi (by omega)]
  · rw [if_neg (by decide), if_neg (by decide), if_neg (by decide)]; simp only [ccka, cnul, h, if_true]; rw [caldl_t h hi (by omega), hv i hi]
theorem nar_b (x : Int64) : (vp_nar .byte x.toInt32.toInt8.toInt32).toInt64 = laneV 0 x := by
  show (x.toInt32.toInt8.toInt32.toInt8.toInt32).toInt64 = x.toInt8.toInt64
  simp
theorem nar_s (x : Int64) : (vp_nar .short x.toInt32.toInt16.toInt32).toInt64 = laneV 1 x := by
  show (x.toInt32.toInt16.toInt32.toInt16.toInt32).toInt64 = x.toInt16.toInt64
  simp
theorem puts_ok {L n r i : Nat} {f : Nat → Int64} (x : Int64) (h : Row σ r L n f) (hi : i < n) (hn : n ≤ 24) : ∃ y, (∀ (zz : Nat) (c : Nat × Nat), fX0_puts ex zz (some r) (nI L) (nI i) x (σ, c) = some (.inl (), (g_u σ r y, c))) ∧ Row (g_u σ r y) r L n (up f i (laneV L x)) := by
  have nin : ¬ (nI i < 0 ∨ n ≤ (nI i).toNatClampNeg) := nI_in hi (by omega)
  have rowI : ∀ (L : Nat) (v : Nat → Int32) (y : Int32), L ≤ 2 → (∀ j, j < n → (v j).toInt64 = f j) → y.toInt64 = laneV L x → Row (g_u σ r (true, .inl (L, n, .inl (upd v i y)))) r L n (up f i (laneV L x)) := by
    intro L v y hL hv hy
    refine Or.inl ⟨hL, _, g_u_self _ _ _, fun j hj => ?_⟩
    by_cases hq : j = i
    · subst hq; rw [upd_at, up_self]; exact hy
    · rw [upd_no _ _ hq, up_ne _ _ hq]; exact hv j hj
  rcases h with ⟨hL, v, h, hv⟩ | ⟨rfl, v, h, hv⟩
  · match L, hL with
    | 0, _ =>
      refine ⟨_, fun zz c => ?_, rowI 0 v _ (by decide) hv (nar_b x)⟩
      unfold fX0_puts
      rw [if_pos (by decide)]; simp only [ccka, cnul, cidx, h, if_true]; rw [if_neg nin, ast_t h hi (by omega)]
    | 1, _ =>
      refine ⟨_, fun zz c => ?_, rowI 1 v _ (by decide) hv (nar_s x)⟩
      unfold fX0_puts
      rw [if_neg (by decide), if_pos (by decide)]; simp only [ccka, cnul, cidx, h, if_true]; rw [if_neg nin, ast_t h hi (by omega)]
    | 2, _ =>
      refine ⟨_, fun zz c => ?_, rowI 2 v x.toInt32 (by decide) hv rfl⟩
      unfold fX0_puts
      rw [if_neg (by decide), if_neg (by decide), if_pos (by decide)]; simp only [ccka, cnul, cidx, h, if_true]; rw [if_neg nin, ast_t h hi (by omega)]
  · refine ⟨(true, .inl (3, n, .inr (.inl (vp_updL v i x)))), fun zz c => ?_, Or.inr ⟨rfl, vp_updL v i x, g_u_self _ _ _, fun j hj => ?_⟩⟩
    · unfold fX0_puts
      rw [if_neg (by decide), if_neg (by decide), if_neg (by decide)]; simp only [ccka, cnul, cidx, h, if_true]; rw [if_neg nin, castl_t h hi (by omega)]
    · by_cases hq : j = i
      · subst hq; rw [updL_at, up_self]; rfl
      · rw [updL_no _ _ hq, up_ne _ _ hq]; exact hv j hj
theorem puts_null {L : Nat} (x2 : Int32) (x : Int64) (hL : L < 4) : fX0_puts ex zz none (nI L) x2 x (σ, c) = some (.inr (zz + c.1), xNew zz 0 27 (σ, c)) := by
  unfold fX0_puts
  match L, hL with
  | 0, _ => rw [if_pos (by decide)]; rfl
  | 1, _ => rw [if_neg (by decide), if_pos (by decide)]; rfl
  | 2, _ => rw [if_neg (by decide), if_neg (by decide), if_pos (by decide)]; rfl
  | 3, _ => rw [if_neg (by decide), if_neg (by decide), if_neg (by decide)]; rfl
theorem puts_bad {L k n r : Nat} (x2 : Int32) (x : Int64) {y : (Nat → Int32) ⊕ (Nat → Int64) ⊕ (Nat → UInt32) ⊕ (Nat → UInt64) ⊕ (Nat → Option Nat)} (hL : L < 4) (hk : k < 4) (hne : k ≠ L) (h : σ r = some (true, .inl (k, n, y))) : fX0_puts ex zz (some r) (nI L) x2 x (σ, c) = some (.inr (zz + c.1 + 2), xNew zz 2 28 (σ, c)) := by
  unfold fX0_puts
  match L, hL with
  | 0, _ => rw [if_pos (by decide)]; simp only [ccka, h, hne, hk, if_true, if_false]
  | 1, _ => rw [if_neg (by decide), if_pos (by decide)]; simp only [ccka, h, hne, hk, if_true, if_false]
  | 2, _ => rw [if_neg (by decide), if_neg (by decide), if_pos (by decide)]; simp only [ccka, h, hne, hk, if_true, if_false]
  | 3, _ => rw [if_neg (by decide), if_neg (by decide), if_neg (by decide)]; simp only [ccka, h, hne, hk, if_true, if_false]
theorem puts_out {L n r : Nat} (x2 : Int32) (x : Int64) {y : (Nat → Int32) ⊕ (Nat → Int64) ⊕ (Nat → UInt32) ⊕ (Nat → UInt64) ⊕ (Nat → Option Nat)} (hL : L < 4) (hn : n ≤ 24) (h : σ r = some (true, .inl (L, n, y))) (ho : x2 < 0 ∨ n ≤ x2.toNatClampNeg) : fX0_puts ex zz (some r) (nI L) x2 x (σ, c) = some (.inr (zz + c.1 + 2), xNew zz 2 29 (σ, c)) := by
  have hn' : n < 1000 := by omega
  unfold fX0_puts
  match L, hL with
  | 0, _ => rw [if_pos (by decide)]; simp only [ccka, cnul, cidx, h, if_true]; rw [if_pos ho, if_pos ⟨by decide, hn'⟩]
  | 1, _ => rw [if_neg (by decide), if_pos (by decide)]; simp only [ccka, cnul, cidx, h, if_true]; rw [if_pos ho, if_pos ⟨by decide, hn'⟩]
  | 2, _ => rw [if_neg (by decide), if_neg (by decide), if_pos (by decide)]; simp only [ccka, cnul, cidx, h, if_true]; rw [if_pos ho, if_pos ⟨by decide, hn'⟩]
  | 3, _ => rw [if_neg (by decide), if_neg (by decide), if_neg (by decide)]; simp only [ccka, cnul, cidx, h, if_true]; rw [if_pos ho, if_pos ⟨by decide, hn'⟩]
theorem lane_of {L n r : Nat} {x : (Nat → Int32) ⊕ (Nat → Int64) ⊕ (Nat → UInt32) ⊕ (Nat → UInt64) ⊕ (Nat → Option Nat)} (hL : L < 4) (h : σ r = some (true, .inl (L, n, x))) : fX0_laneOf ex zz (some r) (σ, c) = some (nI L, (σ, c)) := by
  unfold fX0_laneOf
  match L, hL with
  | 0, _ => simp +decide only [cins, h, if_true, if_false]; rfl
  | 1, _ => simp +decide only [cins, h, if_true, if_false]; rfl
  | 2, _ => simp +decide only [cins, h, if_true, if_false]; rfl
  | 3, _ => simp +decide only [cins, h, if_true, if_false]; rfl
theorem cgQ_ref {β : Type} {a k ci v : Nat} {fl : Bool} {fs : List Value} {cs : List Nat} {K : Option Nat → Option β} (h : σ a = some (fl, .inr (ci, fs))) (hc : ci ∈ cs) (hv : fs[k]? = some (.ref v)) : cgQ cs k (σ, c) a K = K (some v) := by
  unfold cgQ cgV; simp only [h, hc, if_true, hv]
theorem cgQ_null {β : Type} {a k ci : Nat} {fl : Bool} {fs : List Value} {cs : List Nat} {K : Option Nat → Option β} (h : σ a = some (fl, .inr (ci, fs))) (hc : ci ∈ cs) (hv : fs[k]? = some .null) : cgQ cs k (σ, c) a K = K none := by
  unfold cgQ cgV; simp only [h, hc, if_true, hv]
theorem gbT_l {α β : Type} {σ' : Sg} {r : α} {k : α → St → Option (β × St)} {kx : Nat → St → Option (β × St)} : gbT (some (.inl r, (σ', 0, 0))) (σ, c) k kx = k r (σ', c) := rfl
theorem gbT_r {α β : Type} {σ' : Sg} {r dc ds c1 c2 : Nat} {k : α → St → Option (β × St)} {kx : Nat → St → Option (β × St)} : gbT (some (.inr r, (σ', dc, ds))) (σ, c1, c2) k kx = kx r (σ', c1 + dc, c2 + ds) := rfl
end Z97
theorem out_of {x : Int32} {n : Nat} (hn : n ≤ 24) (h : ¬ ∃ q, q < n ∧ x = nI q) : x < 0 ∨ n ≤ x.toNatClampNeg := by
  by_cases h0 : x < 0
  · exact Or.inl h0
  · obtain ⟨j, hj, rfl⟩ := nI_of h0
    right
    rw [nI_clamp hj]
    rcases Nat.lt_or_ge j n with g | g
    · exact absurd ⟨j, g, rfl⟩ h
    · exact g
theorem chkS {x : Int32} {n w : Nat} (hn : n < 2 ^ 30) (hw : w < 2 ^ 30) : (0 ≤ x ∧ x ≤ nI n - nI w) ↔ ∃ q, q + w ≤ n ∧ x = nI q := by
  have e := pk_sub_toInt hn hw
  have h0 : (0 : Int32).toInt = 0 := by decide
  rw [Int32.le_iff_toInt_le, Int32.le_iff_toInt_le, e, h0]
  constructor
  · rintro ⟨h1, h2⟩
    refine ⟨x.toInt.toNat, by omega, ?_⟩
    refine Int32.toInt_inj.mp ?_
    rw [nI_toInt (by omega)]; omega
  · rintro ⟨q, hq, rfl⟩
    rw [nI_toInt (by omega)]; omega
/-- why a row can't be had -/
def lackV (l L n w : Nat) (x : Int32) : Int32 := if l = L + 1 then (if 0 ≤ x ∧ x ≤ nI n - nI w then 0 else -13) else if l = 0 then -11 else -12
section S97
variable {t : MS} {W : Wv} {σ : Sg} {T : Nat → Nat} {ex : Nat → Option Nat} {z o : Nat} {a : Nat → Nat}
theorem m_lacks (M : MW t W) (O : W.OK) {i L w : Nat} (hi : i < 4) (hL : L < 4) (hw : w ≤ 100) (x : Int32) : fX3_lacksRow (nI i) (nI L) x (nI w) t = some (lackV (W.sl i) L (W.sz i) w x, t) := by
  obtain ⟨s1, s2⟩ := M.s i hi
  obtain ⟨o1, o2⟩ := O.s i hi
  obtain ⟨l1, l2⟩ := lnI_ok o1
  unfold fX3_lacksRow lackV
  rw [mald_nI hi (by decide), s1]
  by_cases h0 : W.sl i = 0
  · rw [h0, if_neg (by unfold lnI; rw [if_pos rfl]; intro g; have := congrArg Int32.toInt g; rw [nI_toInt (by omega)] at this; have h4 : (-1 : Int32).toInt = -1 := by decide
                       rw [h4] at this; omega), mald_nI hi (by decide), s1, h0, if_neg (by decide), if_neg (by omega), if_pos rfl]
  · rw [l1 h0, ife L rfl (by omega) (by omega)]
    by_cases h1 : W.sl i = L + 1
    · obtain ⟨q1, q2⟩ := s2 h0
      obtain ⟨q3, -⟩ := o2 h0
      rw [if_pos (by omega), if_pos h1, mald_nI hi (by decide), q1]
      by_cases h : 0 ≤ x ∧ x ≤ nI (W.sz i) - nI w
      · rw [m_in1 t h, gm_some, if_neg n10, if_pos h]
      · rw [m_in0 t h, gm_some, if_pos rfl, if_neg h]
    · rw [if_neg (by omega), if_neg h1, mald_nI hi (by decide), s1, if_pos (l2.mpr h0), if_neg h0]
theorem b_drop (M : MW t W) (H : CW σ T ex z o a W) (O : W.OK) (x1 : Int32) : Both σ T ex z o a (fX3_drop x1 t) (fX0_drop ex z o x1 (σ, 0, 0)) := by
  obtain ⟨at_, hob⟩ := H.obj
  unfold fX3_drop fX0_drop
  by_cases h : ∃ c, 0 ≤ c ∧ c ≤ 3 ∧ x1 = nI c
  · obtain ⟨i, -, hi3, rfl⟩ := h
    have hi : i < 4 := by omega
    obtain ⟨f, hd, hp, hh⟩ := H.shs
    obtain ⟨hf, hT, hS⟩ := hh i hi
    obtain ⟨s1, s2⟩ := M.s i hi
    obtain ⟨o1, o2⟩ := O.s i hi
    obtain ⟨l1, l2⟩ := lnI_ok o1
    rw [m_iL1 0 3 t (by omega) hi3 (by decide), gm_some, if_neg n10, c_sh1 hi, gb_two, if_neg n10, mald_nI hi (by decide), s1, A_t hob (by decide) rfl, aldA_t hp hi (by decide) hf]
    rcases hS with ⟨h0, hn⟩ | ⟨r, y1, y2, y3, y4, y5, y6⟩
    · rw [if_neg (fun g => l2.mp g h0), cgQ_null hn (by decide) rfl]
      exact Both.same M H O _ rfl rfl
    · obtain ⟨hL, x, hx⟩ := y6.cell
      have h0 : W.sl i ≠ 0 := by omega
      obtain ⟨q1, q2⟩ := s2 h0
      have hne : r ≠ hd i := fun g => by rw [g, hT] at y5; omega
      have o2' : Ow T (30 + i) σ z (g_u σ (hd i) (true, .inr (2, [.null]))) z := Ow.put hT _
      have K2 := o2'.kp0 H.fr
      have H2 := H.shput (l := 0) (n := W.sz i) (it := W.it i) hp hh H.fr (K2.sub (fun q h => h.1)) hi hT (Or.inl ⟨rfl, g_u_self _ _ _⟩)
      have hx' : (g_u σ (hd i) (true, Sum.inr (2, [Value.null]))) r = some (true, .inl (W.sl i - 1, W.sz i, x)) := (g_u_ne _ _ hne).trans hx
      rw [if_pos (l2.mpr h0), cgQ_ref y4 (by decide) rfl]
      simp only [cnn]
      rw [A_t hob (by decide) rfl, aldA_t hp hi (by decide) hf, P_t y4 (by decide) (by show 0 < 1; decide)]
      have e1 : (true, Sum.inr (2, [Value.ref r].set 0 Value.null)) = ((true, Sum.inr (2, [Value.null])) : Bool × va_E) := rfl
      rw [e1, lane_of hL hx', gb_two, size_ok hL hx', gbT_l, mast_nI hi (by decide), mald_nI hi (by decide), setA_other _ _ _ (by decide), q1]
      refine Both.put _ rfl rfl (M.sheets (sl := up W.sl i 0) (sz := up W.sz i (W.sz i)) (it := up W.it i (W.it i)) rfl (fun j h12 _ => setA_other _ _ _ h12) (fun q hq => ?_)) H2 (O.sheets (fun q hq => ?_)) (K2.sub (fun q h => by rw [h]; omega))
      · rw [setA_same, setA_other _ _ _ (by decide)]
        by_cases hqi : q = i
        · subst hqi; rw [up_self, upd_at]; exact ⟨rfl, fun g => absurd rfl g⟩
        · rw [up_ne _ _ hqi, up_ne _ _ hqi, up_ne _ _ hqi, upd_no _ _ hqi]; exact M.s q hq
      · by_cases hqi : q = i
        · subst hqi; rw [up_self]; exact ⟨by omega, fun g => absurd rfl g⟩
        · rw [up_ne _ _ hqi, up_ne _ _ hqi, up_ne _ _ hqi]; exact O.s q hq
  · rw [m_iL0 0 3 t (by omega) (by decide) h, gm_some, if_pos rfl, c_sh0 h, gb_two, if_pos rfl]
    exact Both.same M H O _ rfl rfl
theorem b_item (M : MW t W) (H : CW σ T ex z o a W) (O : W.OK) (x1 x2 x3 : Int32) (x4 : Int64) : Both σ T ex z o a (fX3_item x1 x2 x3 x4 t) (fX0_item ex z o x1 x2 x3 x4 (σ, 0, 0)) := by
  obtain ⟨at_, hob⟩ := H.obj
  unfold fX3_item fX0_item
  rcases sh_args x1 x2 with ⟨i, L, hi, hL, rfl, rfl⟩ | ⟨h1, h2 | ⟨h2, h3⟩⟩
  · obtain ⟨f, hd, hp, hh⟩ := H.shs
    obtain ⟨hf, hT, hS⟩ := hh i hi
    obtain ⟨s1, s2⟩ := M.s i hi
    obtain ⟨o1, o2⟩ := O.s i hi
    have hlk : fX3_lacksRow (nI i) (nI L) x3 1 t = some (lackV (W.sl i) L (W.sz i) 1 x3, t) := m_lacks M O hi hL (by decide) x3
    rw [m_sh1 hi hL, gm_some, if_neg n10, c_sh1 hi, gb_two, if_neg n10, c_ln1 hL, gb_two, if_neg n10, hlk, gm_some, A_t hob (by decide) rfl, aldA_t hp hi (by decide) hf]
    unfold lackV
    rcases hS with ⟨h0, hn⟩ | ⟨r, y1, y2, y3, y4, y5, y6⟩
    · obtain ⟨H2, K2⟩ := H.xnew 0 (true, .inr (27, []))
      rw [if_neg (show ¬ W.sl i = L + 1 by omega), if_pos h0, if_neg (by decide), cgQ_null hn (by decide) rfl, puts_null _ _ hL]
      unfold xNew
      rw [gbT_r]
      simp only [Nat.add_zero, Nat.zero_add]
      simp only [Nat.add_zero] at H2 K2
      rw [cif_t (g_u_self _ _ _), if_pos rfl]
      exact ⟨_, t, W, _, _, 1, 800, rfl, rfl, M, H2, O, K2.sub (fun _ _ => trivial), by omega, by omega⟩
    · obtain ⟨hk, x, hx⟩ := y6.cell
      rw [cgQ_ref y4 (by decide) rfl]
      by_cases hl : W.sl i = L + 1
      · have hl' : W.sl i - 1 = L := by omega
        rw [hl'] at y6 hx
        have h0 : W.sl i ≠ 0 := by omega
        rw [if_pos hl]
        by_cases hin : ∃ q, q < W.sz i ∧ x3 = nI q
        · obtain ⟨q, hq, rfl⟩ := hin
          obtain ⟨y, p1, p2⟩ := puts_ok (ex := ex) x4 y6 hq y3
          have o3 : Ow T (40 + i) σ z (g_u σ r y) z := Ow.put y5 _
          have K2 := o3.kp0 H.fr
          have hne : hd i ≠ r := fun g => by rw [← g, hT] at y5; omega
          have H2 := H.shput (l := L + 1) (n := W.sz i) (it := up (W.it i) q (laneV L x4)) hp hh H.fr (K2.sub (fun q h => h.2)) hi hT (Or.inr ⟨r, by omega, by omega, y3, (g_u_ne _ _ hne).trans y4, y5, by rw [Nat.add_sub_cancel]; exact p2⟩)
          rw [if_pos ((chkS (by omega) (by decide)).mpr ⟨q, by omega, rfl⟩), if_pos (by decide), m_asLane hL, gm_some, ilit 24, nI_mul, nI_add, mstl_nI (by omega) (by decide), p1, gbT_l]
          refine Both.put _ rfl rfl (M.sheets (sl := up W.sl i (L + 1)) (sz := up W.sz i (W.sz i)) (it := up W.it i (up (W.it i) q (laneV L x4))) rfl (fun _ _ _ => rfl) (fun j hj => ?_)) H2 (O.sheets (fun j hj => ?_)) (K2.sub (fun q h => by rw [h]; omega))
          · rw [setL_same]
            by_cases hji : j = i
            · subst hji
              rw [up_self, up_self, up_self, ← hl]
              refine ⟨s1, fun g => ⟨(s2 g).1, fun k hk => ?_⟩⟩
              by_cases hkq : k = q
              · subst hkq; rw [updL_at, up_self]
              · rw [updL_no _ _ (by omega), up_ne _ _ hkq]; exact (s2 g).2 k hk
            · rw [up_ne _ _ hji, up_ne _ _ hji, up_ne _ _ hji]
              refine ⟨(M.s j hj).1, fun g => ⟨((M.s j hj).2 g).1, fun k hk => ?_⟩⟩
              have := ((O.s j hj).2 g).1
              rw [updL_no _ _ (by omega)]
              exact ((M.s j hj).2 g).2 k hk
          · by_cases hji : j = i
            · subst hji
              rw [up_self, up_self, up_self]
              refine ⟨by omega, fun _ => ⟨y3, fun k hk => ?_⟩⟩
              by_cases hkq : k = q
              · subst hkq; rw [up_self]; exact laneV_in L x4
              · rw [up_ne _ _ hkq, ← hl]; exact (o2 h0).2 k hk
            · rw [up_ne _ _ hji, up_ne _ _ hji, up_ne _ _ hji]; exact O.s j hj
        · obtain ⟨H2, K2⟩ := H.xnew 2 (true, .inr (29, []))
          have hno : ¬ (0 ≤ x3 ∧ x3 ≤ nI (W.sz i) - nI 1) := fun g => by
            obtain ⟨q, hq, e⟩ := (chkS (by omega) (by decide)).mp g
            exact hin ⟨q, by omega, e⟩
          rw [if_neg hno, if_neg (by decide), puts_out _ _ hL y3 hx (out_of y3 hin)]
          unfold xNew
          rw [gbT_r]
          simp only [Nat.add_zero, Nat.zero_add]
          rw [cif_t (g_u_self _ _ _), if_neg (by decide), cif_t (g_u_self _ _ _), if_neg (by decide), cif_t (g_u_self _ _ _), if_pos rfl]
          exact ⟨_, t, W, _, _, 3, 800, rfl, rfl, M, H2, O, K2.sub (fun _ _ => trivial), by omega, by omega⟩
      · obtain ⟨H2, K2⟩ := H.xnew 2 (true, .inr (28, []))
        rw [if_neg hl, if_neg (show ¬ W.sl i = 0 by omega), if_neg (by decide), puts_bad _ _ hL hk (by omega) hx]
        unfold xNew
        rw [gbT_r]
        simp only [Nat.add_zero, Nat.zero_add]
        rw [cif_t (g_u_self _ _ _), if_neg (by decide), cif_t (g_u_self _ _ _), if_pos rfl]
        exact ⟨_, t, W, _, _, 3, 800, rfl, rfl, M, H2, O, K2.sub (fun _ _ => trivial), by omega, by omega⟩
  · rw [h1, gm_some, if_pos rfl, h2, gb_two, if_pos rfl]
    exact Both.same M H O _ rfl rfl
  · rw [h1, gm_some, if_pos rfl, h2, gb_two, if_neg n10, h3, gb_two, if_pos rfl]
    exact Both.same M H O _ rfl rfl
end S97
