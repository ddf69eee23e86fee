/-! lots, pays -/
set_option maxRecDepth 100000
/-- the next draw -/
def drw (x : Int32) : Nat := (x * 1103515245 + 12345).toBitVec.toNat % 2 ^ 31
theorem drw_lt (x : Int32) : drw x < 2 ^ 31 := Nat.mod_lt _ (by decide)
theorem drw_c (x : Int32) : (x * 1103515245 + 12345) &&& 2147483647 = nI (drw x) := pk_and _ 31 (by decide)
theorem drw_m (x : Int32) : ((x.toInt64 * 1103515245 + 12345) &&& 2147483647).toInt32 = nI (drw x) := by
  rw [← drw_c, Int64.toInt32_and, Int64.toInt32_add, Int64.toInt32_mul, Int32.toInt32_toInt64]
  rfl
theorem drw_w {d : Nat} (h : d < 2 ^ 31) : nI d / 65536 - nI d / 65536 / 4 * 4 = nI (d / 65536 % 4) := by
  rw [ilit 65536, nI_quo h (by decide), ilit 4, pk_rem' 4 (by omega) (by decide) (by decide)]
section O93
variable {t : MS} {W : Wv} {σ : Sg} {T : Nat → Nat} {ex : Nat → Option Nat} {z o : Nat} {a : Nat → Nat}
/-- the object's own numbers and the race are others -/
theorem CW.two {σ' : Sg} {R' : Rc} {d : Nat} (H : CW σ T ex z o a W) (K : Kp T σ T σ' (fun i => i ≠ 1 ∧ i ≠ 2)) (hob : ∃ at_, σ' o = some (obC a (nI d) (nI W.tn) at_ (nI W.im) (nI W.I.dr))) (hr : ∃ A, Ad.r A = a 0 ∧ RT σ' T 2 ex A R' (-4)) : CW σ' T ex z o a (W.s_C (Co.mk (R') (W.C.bn) (W.C.bc) (W.C.bs) (W.C.un) (W.C.uk) (W.C.uw) (W.C.ua) (d))) := by
  obtain ⟨at_, hob⟩ := hob
  obtain ⟨A, hA, R⟩ := hr
  have K1 : Kp T σ T (fun q => if T q = 1 then σ q else σ' q) (fun i => i ≠ 2) := fun q h0 h2 => by
    refine ⟨rfl, ?_⟩
    show (if T q = 1 then σ q else σ' q) = σ q
    split
    · rfl
    · rename_i h1; exact (K q h0 ⟨h1, h2⟩).2
  have K2 : Kp T (fun q => if T q = 1 then σ q else σ' q) T σ' (fun i => i ≠ 1) := fun q h0 h1 => ⟨rfl, by
    show σ' q = if T q = 1 then σ q else σ' q
    rw [if_neg h1]⟩
  have K3 : Kp T σ' T (fun q => if T q = 1 then σ q else σ' q) (fun i => i ≠ 1) := fun q h0 h1 => ⟨rfl, by
    show (if T q = 1 then σ q else σ' q) = σ' q
    rw [if_neg h1]⟩
  have H1 : CW _ T ex z o a (W.s_C (W.C.s_R R')) := H.u_rc (W' := W.s_C (W.C.s_R R')) H.fr K1 ⟨by decide, A, hA, R.kp K3 (by decide) (by decide) (by decide)⟩ rfl rfl rfl rfl rfl rfl rfl rfl rfl rfl rfl rfl rfl rfl rfl rfl rfl rfl rfl rfl rfl rfl rfl
  exact H1.u_ob (W' := W.s_C (Co.mk (R') (W.C.bn) (W.C.bc) (W.C.bs) (W.C.un) (W.C.uk) (W.C.uw) (W.C.ua) (d))) H.fr K2 ⟨H.ob.1, at_, hob⟩ H1.tp rfl rfl rfl rfl rfl rfl rfl rfl rfl rfl rfl rfl rfl rfl rfl rfl rfl rfl rfl
theorem b_lo {t0 : MS} {σ0 : Sg} {zf n : Nat} {A : Ad} (O : W.OK) (hn : n ≤ 60) (hA : A.r = a 0) (F : Fre T z) (hTo : T o = 1) : ∀ (j i s d fuel fuel' : Nat) (R : Rc) (al : Int32) (t : MS) (σ : Sg) (cc : Nat × Nat), i + j = n → j < fuel → j < fuel' → R.OK → R.now + j ≤ 9999 → d < 2 ^ 31 → MR t R → t.1 13 = nI d → (∀ i, i ≠ 13 → t.1 i = t0.1 i) → (∀ j, j ≠ 0 → t.2.1 j = t0.2.1 j) → t.2.2 = t0.2.2 → RT σ T 2 ex A R al → (∃ at_, σ o = some (obC a (nI d) (nI W.tn) at_ (nI W.im) (nI W.I.dr))) → Kp T σ0 T σ (fun i => i ≠ 1 ∧ i ≠ 2) → ∃ v R' d' t' σ', fX3_lots_36 fuel (nI n) (nI s) (nI i) t = some (v, t') ∧ fX0_lots_36 ex zf fuel' o (nI n) (nI s) (nI i) (σ, cc) = some (v, (σ', cc)) ∧ R'.OK ∧ R'.now ≤ 9999 ∧ R'.n = R.n ∧ R'.W = R.W ∧ d' < 2 ^ 31 ∧ MR t' R' ∧ t'.1 13 = nI d' ∧ (∀ i, i ≠ 13 → t'.1 i = t0.1 i) ∧ (∀ j, j ≠ 0 → t'.2.1 j = t0.2.1 j) ∧ t'.2.2 = t0.2.2 ∧ RT σ' T 2 ex A R' (-4) ∧ (∃ at_, σ' o = some (obC a (nI d') (nI W.tn) at_ (nI W.im) (nI W.I.dr))) ∧ Kp T σ0 T σ' (fun i => i ≠ 1 ∧ i ≠ 2) := by
  intro j
  induction j with
  | zero =>
    intro i s d fuel fuel' R al t σ cc hj hf hf' OR hnow hd HM h13 hi hj' hl HR hob K
    obtain ⟨m, rfl⟩ : ∃ m, fuel = m + 1 := ⟨fuel - 1, by omega⟩
    obtain ⟨m', rfl⟩ : ∃ m', fuel' = m' + 1 := ⟨fuel' - 1, by omega⟩
    obtain rfl : i = n := by omega
    obtain ⟨at_, hob⟩ := hob
    obtain ⟨r1, r2⟩ := HR.putR (z := z) (R' := R) (al' := -4) (x := raC R A (-4)) rfl rfl rfl (fun _ _ => rfl) rfl
    have hob1 := (r2.at F hTo (by decide) (by decide)).trans hob
    rw [fX3_lots_36, if_pos (nI_le (Nat.le_refl _) (by omega)), fX0_lots_36, if_pos (nI_le (Nat.le_refl _) (by omega)), A_t hob (by decide) rfl, ← hA, P_t HR.1.ra (by decide) (by show 6 < 9; decide)]
    exact ⟨_, R, d, t, _, rfl, rfl, OR, by omega, rfl, rfl, hd, HM, h13, hi, hj', hl, r1, ⟨at_, hob1⟩, K.tr ((r2.kp0 F).sub (fun i h => h.2))⟩
  | succ j ih =>
    intro i s d fuel fuel' R al t σ cc hj hf hf' OR hnow hd HM h13 hi hj' hl HR hob K
    obtain ⟨m, rfl⟩ : ∃ m, fuel = m + 1 := ⟨fuel - 1, by omega⟩
    obtain ⟨m', rfl⟩ : ∃ m', fuel' = m' + 1 := ⟨fuel' - 1, by omega⟩
    obtain ⟨at_, hob⟩ := hob
    have hd1 := drw_lt (nI d)
    have hw : drw (nI d) / 65536 % 4 < 4 := Nat.mod_lt _ (by decide)
    -- the reference
    have M1 : MR (setI t 13 (nI (drw (nI d)))) R := HM.i1 (by decide) (by decide) (by decide)
    obtain ⟨t1, p1, p2, p3⟩ := m_goOn M1 OR (by omega) hw
    have e13 : (setI t 13 (nI (drw (nI d)))).1 13 = nI (drw (nI d)) := setI_at _ _ _
    -- the component
    have o1 : Ow T 1 σ z (g_u σ o (obC a (nI (drw (nI d))) (nI W.tn) at_ (nI W.im) (nI W.I.dr))) z := Ow.put hTo _
    have R1 : RT (g_u σ o (obC a (nI (drw (nI d))) (nI W.tn) at_ (nI W.im) (nI W.I.dr))) T 2 ex A R al := HR.ow0 F o1 (by decide) (by decide) (by decide)
    have hob1 : (g_u σ o (obC a (nI (drw (nI d))) (nI W.tn) at_ (nI W.im) (nI W.I.dr))) o = some (obC a (nI (drw (nI d))) (nI W.tn) at_ (nI W.im) (nI W.I.dr)) := g_u_self _ _ _
    obtain ⟨r1, r2⟩ := R1.putR (z := z) (R' := R) (al' := nI (drw (nI d) / 65536 % 4)) (x := raC R A (nI (drw (nI d) / 65536 % 4))) rfl rfl rfl (fun _ _ => rfl) rfl
    have hob2 := (r2.at F hTo (by decide) (by decide)).trans hob1
    obtain ⟨σ3, g1, g2, g3⟩ := rt_go (z := zf + cc.1) r1 OR hw (Or.inr ⟨rfl, hw⟩) (c := (0, 0))
    have g3' : Ow T 2 _ z σ3 z := g3.any
    have hob3 := (g3'.at F hTo (by decide) (by decide)).trans hob2
    have K3 : Kp T σ0 T σ3 (fun i => i ≠ 1 ∧ i ≠ 2) := ((K.tr ((o1.kp0 F).sub (fun i h => h.1))).tr ((r2.kp0 F).sub (fun i h => h.2))).tr ((g3'.kp0 F).sub (fun i h => h.2))
    have kg := Rc.go_keep R (drw (nI d) / 65536 % 4)
    rw [fX3_lots_36, if_neg (nI_ge (by omega) (by omega)), h13, drw_m]
    simp only [lt]
    rw [e13, drw_w hd1, p1, gm_some, nI_add, nI_1, fX0_lots_36, if_neg (nI_ge (by omega) (by omega)), I_t hob (by decide) rfl, drw_c, P_t hob (by decide) (by show 5 < 19; decide)]
    have eo : (true, Sum.inr (0, [Value.ref (a 0), Value.ref (a 1), Value.ref (a 2), Value.ref (a 3), Value.ref (a 4), Value.int (nI d), Value.ref (a 6), Value.int (nI W.tn), Value.int at_, Value.ref (a 9), Value.ref (a 10), Value.ref (a 11), Value.int (nI W.im), Value.ref (a 13), Value.ref (a 14), Value.ref (a 15), Value.int (nI W.I.dr), Value.ref (a 17), Value.ref (a 18)].set 5 (.int (nI (drw (nI d)))))) = obC a (nI (drw (nI d))) (nI W.tn) at_ (nI W.im) (nI W.I.dr) := rfl
    rw [eo, A_t hob1 (by decide) rfl, I_t hob1 (by decide) rfl, ← hA, drw_w hd1, P_t R1.1.ra (by decide) (by show 6 < 9; decide)]
    have er : (true, Sum.inr (1, [Value.int (nI R.W), Value.ref A.d, Value.ref A.l, Value.int (nI R.now), Value.ref A.s, Value.int (nI R.mn), Value.int al, Value.int (nI R.he), Value.int (nI R.so)].set 6 (.int (nI (drw (nI d) / 65536 % 4))))) = raC R A (nI (drw (nI d) / 65536 % 4)) := rfl
    rw [er, A_t hob2 (by decide) rfl, ← hA, X_t r1.1.ra (by decide), g1, gb_z]
    simp only [lt]
    rw [nI_add, nI_1]
    obtain ⟨v, R', d', t', σ', y1, y2, y3, y4, y5, y6, y7⟩ := ih (i + 1) (s + R.goN (drw (nI d) / 65536 % 4)) (drw (nI d)) m m' (R.go (drw (nI d) / 65536 % 4)) _ t1 σ3 cc (by omega) (by omega) (by omega) (Rc.go_OK OR (by omega) _) (by rw [kg.2.2.2.2.1]; omega) hd1 p2 (by rw [p3.1]; exact e13) (fun i h => by rw [p3.1]; exact (upd_no _ _ h).trans (hi i h)) (fun j h => (p3.2.1 j h).trans (hj' j h)) (p3.2.2.trans hl) g2 ⟨at_, hob3⟩ K3
    exact ⟨v, R', d', t', σ', y1, y2, y3, y4, y5.trans kg.1, y6.trans kg.2.1, y7⟩
theorem b_lots (M : MW t W) (H : CW σ T ex z o a W) (O : W.OK) (x1 : Int32) : Both σ T ex z o a (fX3_lots x1 t) (fX0_lots ex z o x1 (σ, 0, 0)) := by
  obtain ⟨at_, hob⟩ := H.obj
  obtain ⟨A, hA, R⟩ := H.race
  have hnow := O.c.now
  unfold fX3_lots fX0_lots
  by_cases h : ∃ c, 1 ≤ c ∧ c ≤ 60 ∧ x1 = nI c
  · obtain ⟨n, hn0, hn, rfl⟩ := h
    rw [m_iL1 1 60 t hn0 hn (by decide), gm_some, if_neg n10, c_iL1 1 60 _ hn0 hn (by decide), gb_two, if_neg n10, ilit 60, mald_nI (by decide) (by decide), M.c.r.1.now, nI_add, iflel 9999 (by omega) (by decide), A_t hob (by decide) rfl, ← hA, I_t R.1.ra (by decide) rfl, nI_add, iflel 9999 (by omega) (by decide)]
    by_cases hle : W.C.R.now + n ≤ 9999
    · rw [if_pos hle, if_pos hle]
      obtain ⟨v, R', d', t', σ', y1, y2, y3, y4, y5, y6, y7, y8, y9, y10, y11, y12, y13, y14, y15⟩ := b_lo (zf := z) (t0 := t) (σ0 := σ) O hn hA H.fr H.ob.1 n 0 0 W.C.dr 1000 1000 W.C.R (-4) t σ (0, 0) (by omega) (by omega) (by omega) O.c.r (by omega) O.c.dr M.c.r M.c.dr (fun _ _ => rfl) (fun _ _ => rfl) rfl R ⟨at_, hob⟩ (Kp.rf _ _ _)
      refine Both.put (W' := W.s_C (Co.mk (R') (W.C.bn) (W.C.bc) (W.C.bs) (W.C.un) (W.C.uk) (W.C.uw) (W.C.ua) (d'))) v y1 y2 ?_ (H.two y15 y14 ⟨A, hA, y13⟩) ?_ (y15.sub (fun i hi => by rw [hi]; decide))
      · refine ⟨⟨y8, ?_, ?_, ?_, ?_, y9⟩, ?_, ?_, ?_, ?_, ?_, ?_⟩
        · rw [y10 10 (by decide)]; exact M.c.bn
        · rw [y11 4 (by decide), y11 5 (by decide)]; exact M.c.b
        · rw [y10 12 (by decide)]; exact M.c.un
        · rw [y11 6 (by decide)]; exact M.c.u
        · rw [y10 7 (by decide)]; exact M.sky
        · rw [y10 21 (by decide)]; exact M.im
        · rw [y11 11 (by decide)]; exact M.kp
        · rw [y10 15 (by decide)]; exact M.tn
        · rw [y11 7 (by decide)]; exact M.tp
        · rw [y11 12 (by decide), y11 13 (by decide), y12]; exact M.s
      · have C := O.c
        exact ⟨⟨y3, y4, C.bn, fun b hb => by have := C.b b hb; show _ < R'.n ∧ _; rw [y5]; exact this, C.un, fun u hu => (C.u u hu).cong y5 y6, y7⟩, O.i, O.im, O.tn, O.tp, O.s⟩
    · rw [if_neg hle, if_neg hle]
      exact Both.same M H O _ rfl rfl
  · rw [m_iL0 1 60 t (by omega) (by decide) h, gm_some, if_pos rfl, c_iL0 1 60 _ (by omega) (by decide) h, gb_two, if_pos rfl]
    exact Both.same M H O _ rfl rfl
/-- the machine made an exception -/
theorem CW.xnew (H : CW σ T ex z o a W) (k : Nat) (x : Bool × va_E) : CW (g_u σ (z + k) x) (ext T z (z + (k + 1)) 98) ex (z + (k + 1)) o a W ∧ Kp T σ (ext T z (z + (k + 1)) 98) (g_u σ (z + k) x) (fun _ => True) := by
  have K : Kp T σ (ext T z (z + (k + 1)) 98) (g_u σ (z + k) x) (fun _ => True) := fun q h0 _ => by
    have := H.fr.lt (q := q) rfl h0
    exact ⟨ext_old this, g_u_ne _ _ (by omega)⟩
  exact ⟨H.all (H.fr.ext (by omega)) K, K⟩
/-- whether a set has one -/
def hsB (x : Int32) (c : Nat) : Bool := decide ((x >>> (nI c &&& 31)) &&& 1 = 1)
theorem m_hs (x : Int32) (c : Nat) (t : MS) : fX3_has x (nI c) t = some (b2 (hsB x c), t) := by
  unfold fX3_has hsB b2
  by_cases h : (x >>> (nI c &&& 31)) &&& 1 = 1
  · rw [if_pos h]; simp [h]
  · rw [if_neg h]; simp [h]
theorem c_hs {v c s : Nat} (x : Int32) (h : σ v = some (btC c s)) {zz : Nat} {cc : Nat × Nat} : fX20_isIn ex zz v x (σ, cc) = some (b2 (hsB x c), (σ, cc)) := by
  unfold fX20_isIn hsB b2
  rw [I_t h (by decide) rfl]
  by_cases h : (x >>> (nI c &&& 31)) &&& 1 = 1
  · rw [if_pos h]; simp [h]
  · rw [if_neg h]; simp [h]
theorem one_shl9 : ∀ c, c < 10 → (1 : Int32) <<< (nI c &&& 31) = nI (2 ^ c) := by decide +kernel
theorem m_are1 (M : MW t W) (O : W.OK) {s : Nat} (h : s < 2 ^ W.C.R.n) : fX3_areClocks (nI s) t = some (1, t) := by
  have h9 := O.n
  have hp : 2 ^ W.C.R.n ≤ 2 ^ 9 := Nat.pow_le_pow_right (by decide) h9
  unfold fX3_areClocks
  rw [M.c.r.1.n, one_shl9 _ (by omega), m_in1 t ((chk (by omega)).mpr ⟨s, h, rfl⟩), gm_some, if_pos (Or.inr rfl)]
theorem m_are0 (M : MW t W) (O : W.OK) {x : Int32} (h : ¬ ∃ s, s < 2 ^ W.C.R.n ∧ x = nI s) : fX3_areClocks x t = some (0, t) := by
  have h9 := O.n
  have hp : 2 ^ W.C.R.n ≤ 2 ^ 9 := Nat.pow_le_pow_right (by decide) h9
  unfold fX3_areClocks
  rw [M.c.r.1.n, one_shl9 _ (by omega), m_in0 t (fun g => h ((chk (by omega)).mp g)), gm_some, if_pos (Or.inl rfl)]
theorem c_are1 (H : CW σ T ex z o a W) (O : W.OK) {s zz : Nat} {c : Nat × Nat} (h : s < 2 ^ W.C.R.n) : fX0_areClocks ex zz o (nI s) (σ, c) = some (1, (σ, c)) := by
  have h9 := O.n
  have hp : 2 ^ W.C.R.n ≤ 2 ^ 9 := Nat.pow_le_pow_right (by decide) h9
  obtain ⟨at_, hob⟩ := H.obj
  obtain ⟨A, hA, R⟩ := H.race
  unfold fX0_areClocks
  rw [A_t hob (by decide) rfl, ← hA, X_t R.1.ra (by decide), c_size (t := (σ, 0, 0)) R.1, gb_two, one_shl9 _ (by omega), c_in1 _ ((chk (by omega)).mpr ⟨s, h, rfl⟩), gb_two, if_pos (Or.inr rfl)]
theorem c_are0 (H : CW σ T ex z o a W) (O : W.OK) {zz : Nat} {c : Nat × Nat} {x : Int32} (h : ¬ ∃ s, s < 2 ^ W.C.R.n ∧ x = nI s) : fX0_areClocks ex zz o x (σ, c) = some (0, (σ, c)) := by
  have h9 := O.n
  have hp : 2 ^ W.C.R.n ≤ 2 ^ 9 := Nat.pow_le_pow_right (by decide) h9
  obtain ⟨at_, hob⟩ := H.obj
  obtain ⟨A, hA, R⟩ := H.race
  unfold fX0_areClocks
  rw [A_t hob (by decide) rfl, ← hA, X_t R.1.ra (by decide), c_size (t := (σ, 0, 0)) R.1, gb_two, one_shl9 _ (by omega), c_in0 _ (fun g => h ((chk (by omega)).mp g)), gb_two, if_pos (Or.inl rfl)]
theorem nI_zero {n : Nat} (h : n < 2 ^ 31) : (nI n = 0) ↔ n = 0 := by
  rw [show (0 : Int32) = nI 0 from rfl, nI_eq h (by decide)]
theorem b_pa (M : MW t W) (H : CW σ T ex z o a W) (O : W.OK) {bet : Nat} (hbet : bet < W.C.bn) (set : Int32) : ∀ (j b all won fuel fuel' : Nat), b + j = W.C.bn → j < fuel → j < fuel' → all ≤ 999 * b → won ≤ all → Both σ T ex z o a (fX3_pays_34 fuel (nI bet) set (nI all) (nI won) (nI b) t) (fX0_pays_37 ex z fuel' o (nI bet) set (nI all) (nI won) (nI b) (σ, 0, 0))
  | 0, b, all, won, fuel, fuel', hj, hf, hf', ha, hw => by
    obtain ⟨m, rfl⟩ : ∃ m, fuel = m + 1 := ⟨fuel - 1, by omega⟩
    obtain ⟨m', rfl⟩ : ∃ m', fuel' = m' + 1 := ⟨fuel' - 1, by omega⟩
    obtain rfl : b = W.C.bn := by omega
    have hbn := O.c.bn
    obtain ⟨at_, hob⟩ := H.obj
    have Hb := PBts.il.mp H.bt
    obtain ⟨mc, e, hl⟩ := Hb.li
    obtain ⟨v, g1, g2, g3⟩ := Hb.get hbet
    obtain ⟨m4, m5⟩ := M.c.b bet hbet
    obtain ⟨-, s1, s2⟩ := O.c.b bet hbet
    rw [fX3_pays_34, M.c.bn, if_pos (nI_le (Nat.le_refl _) (by omega)), fX0_pays_37, A_t hob (by decide) rfl, X_t hl (by decide), Hb.size, gb_two, if_pos (nI_le (Nat.le_refl _) (by omega)), A_t hob (by decide) rfl, X_t hl (by decide), g1, gb_two, X_t g2 (by decide), I_t g2 (by decide) rfl, ifl 0 (by omega) (by decide), ifl 0 (by omega) (by decide)]
    by_cases h0 : won = 0
    · rw [if_pos h0, if_pos h0, mald_nI (by omega) (by decide), m5]
      obtain ⟨H2, K2⟩ := H.xnew 2 (true, .inr (26, []))
      have g2' := (K2.at g3 (by decide) trivial).2.trans g2
      unfold fX0_pays_157 xNew
      simp only [Nat.add_zero, Nat.zero_add]
      rw [I_t g2' (by decide) rfl]
      exact ⟨_, t, W, _, _, 3, 800, rfl, rfl, M, H2, O, K2.sub (fun _ _ => trivial), by omega, by omega⟩
    · rw [if_neg h0, if_neg h0, mald_nI (by omega) (by decide), m4, m_hs, gm_some]
      simp only [lt]
      rw [X_t g2 (by decide), c_hs _ g2, gb_two]
      by_cases hh : hsB set (W.C.bc bet) = false
      · rw [if_pos (b2_0.mpr hh), if_pos (b2_0.mpr hh)]
        exact Both.same M H O _ rfl rfl
      · rw [if_neg (fun g => hh (b2_0.mp g)), if_neg (fun g => hh (b2_0.mp g)), mald_nI (by omega) (by decide), m5, if_neg (fun g => h0 ((nI_zero (by omega)).mp g))]
        exact Both.same M H O _ rfl rfl
  | j + 1, b, all, won, fuel, fuel', hj, hf, hf', ha, hw => by
    obtain ⟨m, rfl⟩ : ∃ m, fuel = m + 1 := ⟨fuel - 1, by omega⟩
    obtain ⟨m', rfl⟩ : ∃ m', fuel' = m' + 1 := ⟨fuel' - 1, by omega⟩
    have hbn := O.c.bn
    have hb : b < W.C.bn := by omega
    obtain ⟨at_, hob⟩ := H.obj
    have Hb := PBts.il.mp H.bt
    obtain ⟨mc, e, hl⟩ := Hb.li
    obtain ⟨v, g1, g2, g3⟩ := Hb.get hb
    obtain ⟨m4, m5⟩ := M.c.b b hb
    obtain ⟨-, s1, s2⟩ := O.c.b b hb
    rw [fX3_pays_34, M.c.bn, if_neg (nI_ge (by omega) (by omega)), mald_nI (by omega) (by decide), m5]
    simp only [lt]
    rw [mald_nI (by omega) (by decide), m4, m_hs, gm_some, fX0_pays_37, A_t hob (by decide) rfl, X_t hl (by decide), Hb.size, gb_two, if_neg (nI_ge (by omega) (by omega)), A_t hob (by decide) rfl, X_t hl (by decide), g1, gb_two, X_t g2 (by decide), I_t g2 (by decide) rfl]
    simp only [lt]
    rw [A_t hob (by decide) rfl, X_t hl (by decide), g1, gb_two, X_t g2 (by decide), X_t g2 (by decide), c_hs _ g2, gb_two, nI_add]
    unfold fX3_pays_80 fX0_pays_107
    simp only [lt]
    by_cases hh : hsB set (W.C.bc b) = false
    · rw [if_pos (b2_0.mpr hh), if_pos (b2_0.mpr hh), ilit 0, nI_add, nI_1]
      exact b_pa M H O hbet set j (b + 1) (all + W.C.bs b) (won + 0) m m' (by omega) (by omega) (by omega) (by omega) (by omega)
    · rw [if_neg (fun g => hh (b2_0.mp g)), if_neg (fun g => hh (b2_0.mp g)), mald_nI (by omega) (by decide), m5, A_t hob (by decide) rfl, X_t hl (by decide), g1, gb_two, X_t g2 (by decide), I_t g2 (by decide) rfl, nI_add, nI_1]
      exact b_pa M H O hbet set j (b + 1) (all + W.C.bs b) (won + W.C.bs b) m m' (by omega) (by omega) (by omega) (by omega) (by omega)
theorem b_pays (M : MW t W) (H : CW σ T ex z o a W) (O : W.OK) (x1 x2 : Int32) : Both σ T ex z o a (fX3_pays x1 x2 t) (fX0_pays ex z o x1 x2 (σ, 0, 0)) := by
  obtain ⟨at_, hob⟩ := H.obj
  have Hb := PBts.il.mp H.bt
  obtain ⟨mc, e, hl⟩ := Hb.li
  have hbn := O.c.bn
  unfold fX3_pays fX0_pays
  rw [M.c.bn, A_t hob (by decide) rfl, X_t hl (by decide), Hb.size, gb_two]
  by_cases h : ∃ c, c < W.C.bn ∧ x1 = nI c
  · obtain ⟨bet, hbet, rfl⟩ := h
    rw [m_in1 t ((chk (by omega)).mpr ⟨bet, hbet, rfl⟩), gm_some, if_neg n10, c_in1 _ ((chk (by omega)).mpr ⟨bet, hbet, rfl⟩), gb_two, if_neg n10, X_t hob (by decide)]
    by_cases h : ∃ s, s < 2 ^ W.C.R.n ∧ x2 = nI s
    · obtain ⟨s, hs, rfl⟩ := h
      rw [m_are1 M O hs, gm_some, if_neg n10, c_are1 H O hs, gb_two, if_neg n10]
      exact b_pa M H O hbet (nI s) W.C.bn 0 0 0 1000 1000 (by omega) (by omega) (by omega) (by omega) (by omega)
    · rw [m_are0 M O h, gm_some, if_pos rfl, c_are0 H O h, gb_two, if_pos rfl]
      exact Both.same M H O _ rfl rfl
  · rw [m_in0 t (fun g => h ((chk (by omega)).mp g)), gm_some, if_pos rfl, c_in0 _ (fun g => h ((chk (by omega)).mp g)), gb_two, if_pos rfl]
    exact Both.same M H O _ rfl rfl
end O93
