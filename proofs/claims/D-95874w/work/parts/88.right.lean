/-! right, appeal, spans, breath -/
set_option maxRecDepth 100000
section O8
variable {t : MS} {W : Wv} {σ : Sg} {T : Nat → Nat} {ex : Nat → Option Nat} {z o : Nat} {a : Nat → Nat}
theorem b_ri {t0 : MS} {zf zc : Nat} {A : Ad} (O : W.OK) (h7 : t0.1 7 = -1) {c n : Nat} (hc : c < W.C.R.n) (hn : n ≤ 200) : ∀ (j i s fuel fuel' : Nat) (t : MS) (σ : Sg) (cc : Nat × Nat), i + j = n → j < fuel → j < fuel' → MT t0 t (W.C.R.gos none i) → CT σ T ex zc o a W A (W.C.R.gos none i) none → ∃ v t' σ', fX3_right_26 fuel (nI c) (nI n) (nI s) (nI i) t = some (v, t') ∧ fX0_right_33 ex zf fuel' o (nI c) (nI n) (nI s) (nI i) (σ, cc) = some (v, (σ', cc)) ∧ Sb t0 t' ∧ CW σ' T ex zc o a W ∧ Kp T σ T σ' (fun i => i ≠ 3) := by
  intro j
  induction j with
  | zero =>
    intro i s fuel fuel' t σ cc hj hf hf' HM H
    obtain ⟨m, rfl⟩ : ∃ m, fuel = m + 1 := ⟨fuel - 1, by omega⟩
    obtain ⟨m', rfl⟩ : ∃ m', fuel' = m' + 1 := ⟨fuel' - 1, by omega⟩
    obtain rfl : i = n := by omega
    obtain ⟨t3, b1, b2, -⟩ := m_bringBack HM
    rw [fX3_right_26, if_pos (nI_le (Nat.le_refl _) (by omega)), b1, gm_some, fX0_right_33, if_pos (nI_le (Nat.le_refl _) (by omega))]
    exact ⟨_, t3, σ, rfl, rfl, b2, H.1, Kp.rf _ _ _⟩
  | succ j ih =>
    intro i s fuel fuel' t σ cc hj hf hf' HM H
    obtain ⟨m, rfl⟩ : ∃ m, fuel = m + 1 := ⟨fuel - 1, by omega⟩
    obtain ⟨m', rfl⟩ : ∃ m', fuel' = m' + 1 := ⟨fuel' - 1, by omega⟩
    have hnow := O.c.now
    have Oi := Rc.gos_OK O.c.r none i (by omega)
    have ki := Rc.gos_keep W.C.R none i
    have hci : c < (W.C.R.gos none i).n := by rw [ki.1]; exact hc
    have hst := Rc.stk_lt Oi.b hci
    have htr : (W.C.R.gos none i).truth < 720 := Nat.mod_lt _ (by decide)
    obtain ⟨at_, hob⟩ := H.1.obj
    obtain ⟨σ1, q1, q2, q3⟩ := ct_go H Oi alOK.no (by rw [ki.2.2.2.2.1]; omega) (zf + cc.1)
    obtain ⟨t1, p1, p2, p3⟩ := m_goOn HM.1 Oi (by rw [ki.2.2.2.2.1]; omega) (Rc.wea_lt Oi.b alOK.no)
    have tail : ∀ s0 : Nat, ∃ v t' σ', fX3_right_53 (fun a0 a1 a2 a3 a4 => fX3_right_26 m a0 a1 a2 a3 a4) (nI c) (nI n) (nI i) (nI s0) (nI s) t = some (v, t') ∧ fX0_right_73 ex zf (fun a0 a1 a2 a3 a4 a5 => fX0_right_33 ex zf m' a0 a1 a2 a3 a4 a5) o (nI c) (nI n) (nI i) (nI s0) (nI s) (σ, cc) = some (v, (σ', cc)) ∧ Sb t0 t' ∧ CW σ' T ex zc o a W ∧ Kp T σ T σ' (fun i => i ≠ 3) := by
      intro s0
      unfold fX3_right_53 fX0_right_73
      simp only [lt]
      rw [m_wea (al := none) HM.1.1 Oi.b alOK.no (by rw [HM.2.1]; exact h7), gm_some, p1, gm_some, nI_1, nI_add, A_t hob (by decide) rfl, X_t H.ra (by decide), q1, gb_z]
      obtain ⟨v, t', σ', r1, r2, r3, r4, r5⟩ := ih (i + 1) (s + s0) m m' t1 σ1 cc (by omega) (by omega) (by omega) (HM.sm p3 p2) q2
      exact ⟨v, t', σ', r1, r2, r3, r4, q3.tr r5⟩
    rw [fX3_right_26, if_neg (nI_ge (by omega) (by omega)), m_strikes HM.1.1 Oi.b hci, gm_some, m_truth HM.1.1 Oi.b, gm_some, fX0_right_33, if_neg (nI_ge (by omega) (by omega)), A_t hob (by decide) rfl, X_t H.ra (by decide), H.clock Oi.b hci, gb_two, A_t hob (by decide) rfl, X_t (H.ck hci) (kin (Oi.b.k c hci)), H.strikes Oi.b hci, gb_two, A_t hob (by decide) rfl, X_t H.ra (by decide), H.truth Oi.b, gb_two, ilit 60, nI_quo (by omega) (by decide), ife ((W.C.R.gos none i).truth / 60) rfl (by omega) (by omega), ife ((W.C.R.gos none i).truth / 60) rfl (by omega) (by omega)]
    by_cases h : (W.C.R.gos none i).stk c = (W.C.R.gos none i).truth / 60
    · rw [if_pos h, if_pos h]
      exact tail 1
    · rw [if_neg h, if_neg h]
      exact tail 0
theorem b_right (M : MW t W) (H : CW σ T ex z o a W) (O : W.OK) (x1 x2 : Int32) : Both σ T ex z o a (fX3_right x1 x2 t) (fX0_right ex z o x1 x2 (σ, 0, 0)) := by
  obtain ⟨at_, hob⟩ := H.obj
  unfold fX3_right fX0_right
  rw [X_t hob (by decide)]
  by_cases h : ∃ i, i < W.C.R.n ∧ x1 = nI i
  · obtain ⟨i, hi, rfl⟩ := h
    rw [m_clk1 M O hi, gm_some, if_neg n10, c_clk1 H O hi, gb_two, if_neg n10]
    by_cases h : ∃ c, 0 ≤ c ∧ c ≤ 200 ∧ x2 = nI c
    · obtain ⟨n, -, hc, rfl⟩ := h
      obtain ⟨Q3, A3, al3, h3⟩ := H.tra
      obtain ⟨t1, k1, k2⟩ := m_keepAside M.c.r
      obtain ⟨σ1, T1, A1, dc, ds, q1, q2, q3, q4, q5⟩ := ct_takes H O
      obtain ⟨v, t', σ', r1, r2, r3, r4, r5⟩ := b_ri (zf := z) O M.sky hi hc n 0 0 1000 1000 t1 σ1 (dc, ds) (by omega) (by omega) (by omega) k2 q2
      rw [m_long1 hc, gm_some, if_neg n10, c_few1 hc, gb_two, if_neg n10, k1, gm_some, A_t hob (by decide) rfl, A_t hob (by decide) rfl, X_t h3 (by decide)]
      simp only [Nat.add_zero]
      rw [q1, gb_app]
      simp only [Nat.zero_add]
      exact Both.tr M O v r1 r2 r3 r4 (q3.tr r5) (by omega) (by omega)
    · rw [m_long0 h, gm_some, if_pos rfl, c_few0 h, gb_two, if_pos rfl]
      exact Both.same M H O _ rfl rfl
  · rw [m_clk0 M O h, gm_some, if_pos rfl, c_clk0 H O h, gb_two, if_pos rfl]
    exact Both.same M H O _ rfl rfl
theorem m_beh {R : Rc} {al : Option Nat} (Mr : MR t R) (O : R.OK) (hal : alOK al) (h7 : t.1 7 = alM al) (hnow : R.now ≤ 9999) {i n b : Nat} (hi : i < R.n) (hn : n ≤ 200) (hb : b ≤ 1) : ∃ t', fX3_behind (nI i) (nI n) (nI b) t = some (if b = 0 then nI ((R.gos al n).p i) else nI ((R.gos al n).place i), t') ∧ Sb t t' := by
  have h9 := O.b.n
  obtain ⟨t1, k1, k2⟩ := m_keepAside Mr
  obtain ⟨t2, g1, g2⟩ := m_goHours (n := n) k2 hal h7 O (by omega) (by omega)
  obtain ⟨t3, b1, b2, -⟩ := m_bringBack g2
  have OQ := Rc.gos_OK O al n (by omega)
  have kq := Rc.gos_keep R al n
  have hiQ : i < (R.gos al n).n := by rw [kq.1]; exact hi
  refine ⟨t3, ?_, b2⟩
  unfold fX3_behind
  rw [m_isClock, Mr.1.n, if_pos ((chk (by omega)).mpr ⟨i, hi, rfl⟩), gm_some, if_neg n10, m_long1 hn, gm_some, if_neg n10, m_iL1 0 1 t (by omega) hb (by decide), gm_some, if_neg n10, k1, gm_some, g1, gm_some, ifl 0 (by omega) (by decide)]
  by_cases hb0 : b = 0
  · rw [if_pos hb0, if_pos hb0, ilit 42, nI_add, mald_nI (by omega) (by decide), g2.1.1.p i hiQ, b1, gm_some]
  · rw [if_neg hb0, if_neg hb0, m_placeOf g2.1 OQ hiQ, gm_some, b1, gm_some]
theorem ct_always {A : Ad} {Q : Rc} {al : Option Nat} (H : CT σ T ex z o a W A Q al) (B : Q.Ba) (w : Nat) : CT (g_u σ (a 1) (raC Q A (nI w))) T ex z o a W A Q (some w) ∧ Kp T σ T (g_u σ (a 1) (raC Q A (nI w))) (fun i => i ≠ 3) := by
  obtain ⟨r1, r2⟩ := H.2.2.putR (z := z) (R' := Q) (al' := nI w) (x := raC Q A (nI w)) rfl rfl rfl (fun _ _ => rfl) rfl
  rw [H.2.1] at r1 r2
  exact H.put (al' := some w) r1 B r2
theorem b_appeal (M : MW t W) (H : CW σ T ex z o a W) (O : W.OK) (x1 x2 : Int32) : Both σ T ex z o a (fX3_appeal x1 x2 t) (fX0_appeal ex z o x1 x2 (σ, 0, 0)) := by
  obtain ⟨at_, hob⟩ := H.obj
  have hnow := O.c.now
  unfold fX3_appeal fX0_appeal
  rw [X_t hob (by decide)]
  by_cases h : ∃ i, i < W.C.R.n ∧ x1 = nI i
  · obtain ⟨i, hi, rfl⟩ := h
    rw [m_clk1 M O hi, gm_some, if_neg n10, c_clk1 H O hi, gb_two, if_neg n10]
    by_cases h : ∃ c, 0 ≤ c ∧ c ≤ 200 ∧ x2 = nI c
    · obtain ⟨n, -, hc, rfl⟩ := h
      have hal : alOK (some 0) := alOK.of (by decide)
      have M5 : MR (setI t 7 0) W.C.R := M.c.r.i1 (by decide) (by decide) (by decide)
      obtain ⟨t7, b1, b2⟩ := m_beh (al := some 0) (b := 1) (n := n) M5 O.c.r hal (setI_at _ _ _) hnow hi hc (by decide)
      have b1' : fX3_behind (nI i) (nI n) 1 (setI t 7 0) = some (nI ((W.C.R.gos (some 0) n).place i), t7) := b1
      have S8 : Sb t (setI t7 7 (-1)) := by
        obtain ⟨s1, s2, s3, s4⟩ := b2
        refine ⟨?_, s2, s3, s4⟩
        funext k
        show upd t7.1 7 (-1) k = t.1 k
        rw [s1]
        show upd (upd t.1 7 0) 7 (-1) k = t.1 k
        by_cases hk : k = 7
        · subst hk; rw [upd_at]; exact M.sky.symm
        · rw [upd_no _ _ hk, upd_no _ _ hk]
      obtain ⟨Q3, A3, al3, h3⟩ := H.tra
      obtain ⟨σ1, T1, A1, dc, ds, q1, q2, q3, q4, q5⟩ := ct_takes H O
      obtain ⟨at1, hob1⟩ := q2.1.obj
      obtain ⟨e2, f2⟩ := ct_always q2 O.ba 0
      obtain ⟨at2, hob2⟩ := e2.1.obj
      obtain ⟨σ3, v1, v2, v3⟩ := ct_goOn (n := n) e2 hal O.c.r (by omega) (by omega) (z + dc)
      obtain ⟨at3, hob3⟩ := v2.1.obj
      have OQ := Rc.gos_OK O.c.r (some 0) n (by omega)
      have kq := Rc.gos_keep W.C.R (some 0) n
      have hiQ : i < (W.C.R.gos (some 0) n).n := by rw [kq.1]; exact hi
      rw [m_long1 hc, gm_some, if_neg n10, c_few1 hc, gb_two, if_neg n10]
      simp only [lt]
      rw [b1', gm_some, A_t hob (by decide) rfl, A_t hob (by decide) rfl, X_t h3 (by decide)]
      simp only [Nat.add_zero]
      rw [q1, gb_app]
      simp only [Nat.zero_add]
      rw [A_t hob1 (by decide) rfl, P_t q2.ra (by decide) (by show 6 < 9; decide)]
      have e6 : (true, Sum.inr (1, [Value.int (nI W.C.R.W), Value.ref A1.d, Value.ref A1.l, Value.int (nI W.C.R.now), Value.ref A1.s, Value.int (nI W.C.R.mn), Value.int (alI none), Value.int (nI W.C.R.he), Value.int (nI W.C.R.so)].set 6 (.int 0))) = raC W.C.R A1 (nI 0) := rfl
      rw [e6, X_t hob2 (by decide), v1, gb_z, A_t hob3 (by decide) rfl, A_t hob3 (by decide) rfl, X_t v2.ra (by decide), v2.clock OQ.b hiQ, gb_two, X_t v2.ra (by decide), v2.place OQ hiQ, gb_two]
      exact Both.tr M O _ rfl rfl S8 v2.1 ((q3.tr f2).tr v3) (by omega) (by omega)
    · rw [m_long0 h, gm_some, if_pos rfl, c_few0 h, gb_two, if_pos rfl]
      exact Both.same M H O _ rfl rfl
  · rw [m_clk0 M O h, gm_some, if_pos rfl, c_clk0 H O h, gb_two, if_pos rfl]
    exact Both.same M H O _ rfl rfl
/-- behind how many hours one is home, by one weather: from i on, at most j are looked at -/
def Rc.spn (R : Rc) (c w : Nat) : Nat → Nat → Nat
  | 0, i => i
  | j + 1, i => if (R.gos (some w) i).f c = 0 then Rc.spn R c w j (i + 1) else i
theorem Rc.spn_le (R : Rc) (c w : Nat) : ∀ j i, R.spn c w j i ≤ i + j
  | 0, i => Nat.le_refl _
  | j + 1, i => by
    have := Rc.spn_le R c w j (i + 1)
    unfold Rc.spn; split <;> omega
def Rc.span (R : Rc) (c w : Nat) : Nat := R.spn c w 201 0
theorem m_sp39 {t0 : MS} (O : W.OK) {c w : Nat} (hc : c < W.C.R.n) (hw : w < 4) (kc : Int32 → Int32 → Int32 → Int32 → MS → Option (Int32 × MS)) (x2 x3 : Int32) : ∀ (j i fuel : Nat) (t : MS), i + j = 201 → j < fuel → MT t0 t (W.C.R.gos (some w) i) → ∃ t' Q', fX3_spans_39 kc fuel (nI c) x2 x3 (nI w) (nI i) t = fX3_spans_68 kc (nI c) x2 x3 (nI w) (nI (W.C.R.spn c w j i)) t' ∧ MT t0 t' Q'
  | 0, i, fuel, t, hj, hf, HM => by
    obtain ⟨m, rfl⟩ : ∃ m, fuel = m + 1 := ⟨fuel - 1, by omega⟩
    obtain rfl : i = 201 := by omega
    rw [fX3_spans_39, ifltr 200 (by decide) (by decide), if_pos (by decide)]
    exact ⟨t, _, rfl, HM⟩
  | j + 1, i, fuel, t, hj, hf, HM => by
    obtain ⟨m, rfl⟩ : ∃ m, fuel = m + 1 := ⟨fuel - 1, by omega⟩
    have hnow := O.c.now
    have Oi := Rc.gos_OK O.c.r (some w) i (by omega)
    have ki := Rc.gos_keep W.C.R (some w) i
    have hci : c < (W.C.R.gos (some w) i).n := by rw [ki.1]; exact hc
    have e0 : W.C.R.spn c w (j + 1) i = if (W.C.R.gos (some w) i).f c = 0 then W.C.R.spn c w j (i + 1) else i := rfl
    rw [fX3_spans_39, ifltr 200 (by decide) (by omega), if_neg (by omega), m_isHome' HM.1 Oi hci, gm_some, e0]
    by_cases h : (W.C.R.gos (some w) i).f c = 0
    · obtain ⟨t1, p1, p2, p3⟩ := m_goOn HM.1 Oi (by rw [ki.2.2.2.2.1]; omega) hw
      rw [if_pos h, if_pos rfl, p1, gm_some, nI_1, if_pos h]
      exact m_sp39 O hc hw kc x2 x3 j (i + 1) m t1 (by omega) (by omega) (HM.sm p3 p2)
    · rw [if_neg h, if_neg n10, if_neg h]
      exact ⟨t, _, rfl, HM⟩
def pick (x2 x3 s : Int32) : Int32 := if x3 < 0 then s else if x2 = 0 then (if x3 ≤ s then x3 else s) else if s ≤ x3 then x3 else s
theorem m_sp (M : MW t W) (O : W.OK) {c w : Nat} (hc : c < W.C.R.n) (hw : w < 4) (kc : Int32 → Int32 → Int32 → Int32 → MS → Option (Int32 × MS)) (x2 x3 : Int32) : ∃ t', gm (fX3_keepAside t) (fun _ t2 => fX3_spans_39 kc 1000 (nI c) x2 x3 (nI w) 0 t2) = kc (nI c) x2 (pick x2 x3 (nI (W.C.R.span c w))) (nI (w + 1)) t' ∧ MW t' W := by
  obtain ⟨t1, k1, k2⟩ := m_keepAside M.c.r
  obtain ⟨t2, Q', g1, g2⟩ := m_sp39 O hc hw kc x2 x3 201 0 1000 t1 (by omega) (by omega) k2
  obtain ⟨t3, b1, b2, -⟩ := m_bringBack g2
  refine ⟨t3, ?_, M.sb b2 O.n⟩
  have g1' : fX3_spans_39 kc 1000 (nI c) x2 x3 (nI w) 0 t1 = fX3_spans_68 kc (nI c) x2 x3 (nI w) (nI (W.C.R.span c w)) t2 := g1
  rw [k1, gm_some, g1']
  unfold fX3_spans_68 fX3_spans_95 fX3_spans_100 fX3_spans_101 pick
  rw [b1, gm_some, nI_1]
  by_cases h1 : x3 < 0
  · rw [if_pos h1, if_pos h1]
  · rw [if_neg h1, if_neg h1]
    by_cases h2 : x2 = 0
    · rw [if_pos h2, if_pos h2]
      by_cases h3 : x3 ≤ nI (W.C.R.span c w)
      · rw [if_pos h3, if_pos h3]
      · rw [if_neg h3, if_neg h3]
    · rw [if_neg h2, if_neg h2]
      by_cases h3 : nI (W.C.R.span c w) ≤ x3
      · rw [if_pos h3, if_pos h3]
      · rw [if_neg h3, if_neg h3]
theorem ct_sp21 {zf zc : Nat} {A : Ad} (O : W.OK) {c w : Nat} (hc : c < W.C.R.n) (hw : w < 4) : ∀ (j i fuel : Nat) (σ : Sg) (cc : Nat × Nat), i + j = 201 → j < fuel → CT σ T ex zc o a W A (W.C.R.gos (some w) i) (some w) → ∃ σ', fX0_spanBy_21 ex zf fuel o (nI c) (nI i) (σ, cc) = some (nI (W.C.R.spn c w j i), (σ', cc)) ∧ CW σ' T ex zc o a W ∧ Kp T σ T σ' (fun i => i ≠ 3)
  | 0, i, fuel, σ, cc, hj, hf, H => by
    obtain ⟨m, rfl⟩ : ∃ m, fuel = m + 1 := ⟨fuel - 1, by omega⟩
    obtain rfl : i = 201 := by omega
    rw [fX0_spanBy_21, ifltr 200 (by decide) (by decide), if_pos (by decide)]
    exact ⟨σ, rfl, H.1, Kp.rf _ _ _⟩
  | j + 1, i, fuel, σ, cc, hj, hf, H => by
    obtain ⟨m, rfl⟩ : ∃ m, fuel = m + 1 := ⟨fuel - 1, by omega⟩
    have hnow := O.c.now
    have Oi := Rc.gos_OK O.c.r (some w) i (by omega)
    have ki := Rc.gos_keep W.C.R (some w) i
    have hci : c < (W.C.R.gos (some w) i).n := by rw [ki.1]; exact hc
    have e0 : W.C.R.spn c w (j + 1) i = if (W.C.R.gos (some w) i).f c = 0 then W.C.R.spn c w j (i + 1) else i := rfl
    obtain ⟨at_, hob⟩ := H.1.obj
    rw [fX0_spanBy_21, ifltr 200 (by decide) (by omega), if_neg (by omega), A_t hob (by decide) rfl, X_t H.ra (by decide), H.clock Oi.b hci, gb_two, X_t (H.ck hci) (kin (Oi.b.k c hci)), H.home1 Oi hci, gb_two, e0]
    by_cases h : (W.C.R.gos (some w) i).f c = 0
    · obtain ⟨σ1, q1, q2, q3⟩ := ct_go H Oi (alOK.of hw) (by rw [ki.2.2.2.2.1]; omega) (zf + cc.1)
      rw [if_pos h, if_pos rfl, A_t hob (by decide) rfl, X_t H.ra (by decide), q1, gb_z, nI_1, if_pos h]
      obtain ⟨σ2, r1, r2, r3⟩ := ct_sp21 (zf := zf) O hc hw j (i + 1) m σ1 cc (by omega) (by omega) q2
      exact ⟨σ2, r1, r2, q3.tr r3⟩
    · rw [if_neg h, if_neg n10, if_neg h]
      exact ⟨σ, rfl, H.1, Kp.rf _ _ _⟩
theorem ct_span (H : CW σ T ex z o a W) (O : W.OK) {c w : Nat} (hc : c < W.C.R.n) (hw : w < 4) : ∃ σ' T' dc ds, fX0_spanBy ex z o (nI c) (nI w) (σ, 0, 0) = some (nI (W.C.R.span c w), (σ', dc, ds)) ∧ CW σ' T' ex (z + dc) o a W ∧ Kp T σ T' σ' (fun i => i = 50) ∧ dc ≤ 10 ∧ ds ≤ 64 := by
  obtain ⟨at_, hob⟩ := H.obj
  obtain ⟨Q3, A3, al3, h3⟩ := H.tra
  obtain ⟨σ1, T1, A1, dc, ds, q1, q2, q3, q4, q5⟩ := ct_takes H O
  obtain ⟨at1, hob1⟩ := q2.1.obj
  obtain ⟨e2, f2⟩ := ct_always q2 O.ba w
  obtain ⟨σ2, r1, r2, r3⟩ := ct_sp21 (zf := z) O hc hw 201 0 1000 _ (dc, ds) (by omega) (by omega) e2
  refine ⟨σ2, T1, dc, ds, ?_, r2, ((q3.tr f2).tr r3).sub (fun i hi => by rw [hi]; decide), q4, q5⟩
  unfold fX0_spanBy
  rw [A_t hob (by decide) rfl, A_t hob (by decide) rfl, X_t h3 (by decide)]
  simp only [Nat.add_zero]
  rw [q1, gb_app]
  simp only [Nat.zero_add]
  rw [A_t hob1 (by decide) rfl, P_t q2.ra (by decide) (by show 6 < 9; decide)]
  exact r1
theorem pick_nat {b m s : Nat} (hb : b ≤ 1) (hm : m ≤ 201) (hs : s ≤ 201) : pick (nI b) (nI m) (nI s) = nI (if b = 0 then (if s < m then s else m) else if m < s then s else m) := by
  unfold pick
  rw [if_neg (nI_pos (by omega)), ifl 0 (by omega) (by decide), ifle s rfl rfl (by omega) (by omega), ifle m rfl rfl (by omega) (by omega)]
  by_cases hb0 : b = 0
  · rw [if_pos hb0, if_pos hb0]
    by_cases h : m ≤ s
    · rw [if_pos h, if_neg (by omega)]
    · rw [if_neg h, if_pos (by omega)]
  · rw [if_neg hb0, if_neg hb0]
    by_cases h : s ≤ m
    · rw [if_pos h, if_neg (by omega)]
    · rw [if_neg h, if_pos (by omega)]
theorem j_sp (O : W.OK) {c b : Nat} (hc : c < W.C.R.n) (hb : b ≤ 1) : ∀ (j w acc fuel fuel' : Nat), w + j = 4 → acc ≤ 201 → j < fuel → j < fuel' → Jt W ex z o a j (fun t => fX3_spans_26 fuel (nI c) (nI b) (nI acc) (nI w) t) (fun u => fX0_spans_30 ex z fuel' o (nI c) (nI b) (nI acc) (nI w) u)
  | 0, w, acc, fuel, fuel', hj, ha, hf, hf' => by
    obtain ⟨m, rfl⟩ : ∃ m, fuel = m + 1 := ⟨fuel - 1, by omega⟩
    obtain ⟨m', rfl⟩ : ∃ m', fuel' = m' + 1 := ⟨fuel' - 1, by omega⟩
    obtain rfl : w = 4 := by omega
    intro t σ T c1 c2 M H
    show Jp W ex z o a 0 σ T c1 c2 (fX3_spans_26 _ _ _ _ _ _) (fX0_spans_30 _ _ _ _ _ _ _ _ _)
    rw [fX3_spans_26, ifler 4 (by decide) (by decide), if_pos (by decide), fX0_spans_30, ifler 4 (by decide) (by decide), if_pos (by decide)]
    exact Jp.ret M H _
  | j + 1, w, acc, fuel, fuel', hj, ha, hf, hf' => by
    obtain ⟨m, rfl⟩ : ∃ m, fuel = m + 1 := ⟨fuel - 1, by omega⟩
    obtain ⟨m', rfl⟩ : ∃ m', fuel' = m' + 1 := ⟨fuel' - 1, by omega⟩
    intro t σ T c1 c2 M H
    show Jp W ex z o a (j + 1) σ T c1 c2 (fX3_spans_26 _ _ _ _ _ _) (fX0_spans_30 _ _ _ _ _ _ _ _ _)
    have hsp : W.C.R.span c w ≤ 201 := by have := W.C.R.spn_le c w 201 0; unfold Rc.span; omega
    obtain ⟨at_, hob⟩ := H.obj
    obtain ⟨t1, p1, M1⟩ := m_sp M O hc (w := w) (by omega) (fun a0 a1 a2 a3 a4 => fX3_spans_26 m a0 a1 a2 a3 a4) (nI b) (nI acc)
    obtain ⟨σ1, T1, dc, ds, q1, q2, q3, q4, q5⟩ := ct_span H O hc (w := w) (by omega)
    have q2' : CW σ1 T1 ex (z + (c1 + dc)) o a W := by rw [← Nat.add_assoc]; exact q2
    refine Jp.after q3 q4 q5 ?_
    rw [fX3_spans_26, ifler 4 (by decide) (by omega), if_neg (by omega), p1, fX0_spans_30, ifler 4 (by decide) (by omega), if_neg (by omega), X_t hob (by decide), q1, gb_app, ifl 0 (by omega) (by decide), pick_nat hb ha hsp]
    unfold fX0_spans_64
    by_cases hb0 : b = 0
    · rw [if_pos hb0, if_pos hb0, c_min (by omega) (by omega), gb_two, nI_1]
      exact j_sp O hc hb j (w + 1) _ m m' (by omega) (by split <;> omega) (by omega) (by omega) t1 σ1 T1 (c1 + dc) (c2 + ds) M1 q2'
    · rw [if_neg hb0, if_neg hb0, c_max (by omega) (by omega), gb_two, nI_1]
      exact j_sp O hc hb j (w + 1) _ m m' (by omega) (by split <;> omega) (by omega) (by omega) t1 σ1 T1 (c1 + dc) (c2 + ds) M1 q2'
theorem b_spans (M : MW t W) (H : CW σ T ex z o a W) (O : W.OK) (x1 x2 : Int32) : Both σ T ex z o a (fX3_spans x1 x2 t) (fX0_spans ex z o x1 x2 (σ, 0, 0)) := by
  obtain ⟨at_, hob⟩ := H.obj
  unfold fX3_spans fX0_spans
  rw [X_t hob (by decide)]
  by_cases h : ∃ i, i < W.C.R.n ∧ x1 = nI i
  · obtain ⟨c, hc, rfl⟩ := h
    rw [m_clk1 M O hc, gm_some, if_neg n10, c_clk1 H O hc, gb_two, if_neg n10]
    by_cases h : ∃ c, 0 ≤ c ∧ c ≤ 1 ∧ x2 = nI c
    · obtain ⟨b, -, hb, rfl⟩ := h
      rw [m_iL1 0 1 t (by omega) hb (by decide), gm_some, if_neg n10, c_iL1 0 1 _ (by omega) hb (by decide), gb_two, if_neg n10]
      have hsp : W.C.R.span c 0 ≤ 201 := by have := W.C.R.spn_le c 0 201 0; unfold Rc.span; omega
      have J : Jt W ex z o a 4 (fun t => fX3_spans_26 1000 (nI c) (nI b) (-4) 0 t) (fun u => ccast [0] u o (gb (fX0_spanBy ex (z + u.2.1) o (nI c) 0 (u.1, 0, 0)) u fun r10 t11 => fX0_spans_30 ex z 1000 o (nI c) (nI b) r10 1 t11)) := by
        intro t σ T c1 c2 M H
        show Jp W ex z o a 4 σ T c1 c2 (fX3_spans_26 _ _ _ _ _ _) (ccast [0] (σ, c1, c2) o _)
        obtain ⟨at_, hob⟩ := H.obj
        obtain ⟨t1, p1, M1⟩ := m_sp M O hc (w := 0) (by omega) (fun a0 a1 a2 a3 a4 => fX3_spans_26 999 a0 a1 a2 a3 a4) (nI b) (-4)
        obtain ⟨σ1, T1, dc, ds, q1, q2, q3, q4, q5⟩ := ct_span H O hc (w := 0) (by omega)
        have q2' : CW σ1 T1 ex (z + (c1 + dc)) o a W := by rw [← Nat.add_assoc]; exact q2
        have q1' : fX0_spanBy ex (z + c1) o (nI c) 0 (σ, 0, 0) = some (nI (W.C.R.span c 0), (σ1, dc, ds)) := q1
        have ep : pick (nI b) (-4) (nI (W.C.R.span c 0)) = nI (W.C.R.span c 0) := by unfold pick; rw [if_pos (by decide)]
        rw [ep] at p1
        have p1' : fX3_spans_26 1000 (nI c) (nI b) (-4) 0 t = fX3_spans_26 999 (nI c) (nI b) (nI (W.C.R.span c 0)) (nI 1) t1 := by
          rw [fX3_spans_26, if_neg (by decide)]
          exact p1
        refine Jp.after q3 q4 q5 ?_
        rw [p1', X_t hob (by decide), q1', gb_app]
        exact j_sp O hc hb 3 1 _ 999 1000 (by omega) hsp (by omega) (by omega) t1 σ1 T1 (c1 + dc) (c2 + ds) M1 q2'
      exact Both.jt J M H O (by omega)
    · rw [m_iL0 0 1 t (by omega) (by decide) h, gm_some, if_pos rfl, c_iL0 0 1 _ (by omega) (by decide) h, gb_two, if_pos rfl]
      exact Both.same M H O _ rfl rfl
  · rw [m_clk0 M O h, gm_some, if_pos rfl, c_clk0 H O h, gb_two, if_pos rfl]
    exact Both.same M H O _ rfl rfl
def Rc.dark (R : Rc) (w : Nat) : Rc := R.s_d (up R.d w 12)
theorem Rc.dark_same {R : Rc} {w : Nat} (h : R.d w = 12) : R.dark w = R := by
  have e : up R.d w 12 = R.d := by
    funext j; unfold up; split
    · rename_i g; rw [g, h]
    · rfl
  unfold Rc.dark; rw [e]; rfl
theorem Rc.dark_OK {R : Rc} (O : R.OK) (w : Nat) : (R.dark w).OK := O.d1 (Nat.le_refl _)
def Rc.brt (R : Rc) (c n w : Nat) : Nat := ((R.dark w).gos none n).p c
theorem ct_dark {A : Ad} {Q : Rc} {al : Option Nat} (H : CT σ T ex z o a W A Q al) (O : Q.OK) {w : Nat} (hw : w < 24) : ∃ f σ', σ A.d = some (true, .inl (0, 24, .inl f)) ∧ g_u σ A.d (true, .inl (0, 24, .inl (upd f w (nI 12)))) = σ' ∧ CT σ' T ex z o a W A (Q.dark w) al ∧ Kp T σ T σ' (fun i => i ≠ 3) := by
  obtain ⟨f, hd, hf⟩ := H.2.2.1.dl
  obtain ⟨r1, r2⟩ := H.2.2.putD (z := z) (R' := Q.dark w) (f := upd f w (nI 12)) rfl rfl rfl (fun j hj => rfl) (fun x hx => by
    show upd f w (nI 12) x = nI (up Q.d w 12 x)
    by_cases hq : x = w
    · subst hq; rw [upd_at, up_self]
    · rw [upd_no _ _ hq, up_ne _ _ hq]; exact hf x hx)
  obtain ⟨p1, p2⟩ := H.put (al' := al) r1 (Rc.dark_OK O w).b r2
  exact ⟨f, _, hd, rfl, p1, p2⟩
theorem j_br (O : W.OK) {c n : Nat} (hc : c < W.C.R.n) (hn : n ≤ 200) : ∀ (j w most fuel fuel' : Nat) (best : Int32), w + j = W.C.R.W → (W.C.R.gos none n).p c ≤ most → most < 24 → j < fuel → j < fuel' → Jt W ex z o a j (fun t => fX3_breath_32 fuel (nI c) (nI n) (nI most) best (nI w) t) (fun u => fX0_breath_41 ex z fuel' o (nI c) (nI n) (nI most) best (nI w) u)
  | 0, w, most, fuel, fuel', best, hj, hm, hm', hf, hf' => by
    obtain ⟨m, rfl⟩ : ∃ m, fuel = m + 1 := ⟨fuel - 1, by omega⟩
    obtain ⟨m', rfl⟩ : ∃ m', fuel' = m' + 1 := ⟨fuel' - 1, by omega⟩
    obtain rfl : w = W.C.R.W := by omega
    intro t σ T c1 c2 M H
    show Jp W ex z o a 0 σ T c1 c2 (fX3_breath_32 _ _ _ _ _ _ _) (fX0_breath_41 _ _ _ _ _ _ _ _ _ _)
    have hW := O.ba.W1
    have hW0 := O.ba.W0
    obtain ⟨at_, hob⟩ := H.obj
    obtain ⟨A, hA, R⟩ := H.race
    rw [fX3_breath_32, M.c.r.1.W, if_pos (nI_le (Nat.le_refl _) (by omega)), fX0_breath_41, A_t hob (by decide) rfl, ← hA, X_t R.1.ra (by decide), c_home (t := (σ, 0, 0)) R.1 O.ba, gb_two, if_pos (nI_lt (by omega) (by omega))]
    exact Jp.ret M H _
  | j + 1, w, most, fuel, fuel', best, hj, hm, hm', hf, hf' => by
    obtain ⟨m, rfl⟩ : ∃ m, fuel = m + 1 := ⟨fuel - 1, by omega⟩
    obtain ⟨m', rfl⟩ : ∃ m', fuel' = m' + 1 := ⟨fuel' - 1, by omega⟩
    intro t σ T c1 c2 M H
    show Jp W ex z o a (j + 1) σ T c1 c2 (fX3_breath_32 _ _ _ _ _ _ _) (fX0_breath_41 _ _ _ _ _ _ _ _ _ _)
    have h9 := O.n
    have hnow := O.c.now
    have hW := O.ba.W1
    have hW0 := O.ba.W0
    have hd := O.ba.d w (by omega)
    -- the component
    obtain ⟨at_, hob⟩ := H.obj
    obtain ⟨A, hA, R⟩ := H.race
    obtain ⟨Q3, A3, al3, h3⟩ := H.tra
    obtain ⟨σ1, T1, A1, dc, ds, q1, q2, q3, q4, q5⟩ := ct_takes H O
    obtain ⟨at1, hob1⟩ := q2.1.obj
    obtain ⟨f, σ2, d1, d2, d3, d4⟩ := ct_dark q2 O.c.r (w := w) (by omega)
    obtain ⟨at2, hob2⟩ := d3.1.obj
    have O2 := Rc.dark_OK O.c.r w
    obtain ⟨σ3, v1, v2, v3⟩ := ct_goOn (n := n) d3 alOK.no O2 (by omega) (by show W.C.R.now + n < 100000; omega) (z + (c1 + dc))
    obtain ⟨at3, hob3⟩ := v2.1.obj
    have OQ := Rc.gos_OK O2 none n (by show W.C.R.now + n < 100000; omega)
    have kq := Rc.gos_keep (W.C.R.dark w) none n
    have hcQ : c < ((W.C.R.dark w).gos none n).n := by rw [kq.1]; exact hc
    have hpQ : W.C.R.brt c n w < 24 := by
      have := OQ.b.p c hcQ
      rw [kq.2.1] at this
      have e : (W.C.R.dark w).W = W.C.R.W := rfl
      unfold Rc.brt; omega
    have q2' : CW σ3 T1 ex (z + (c1 + dc)) o a W := by rw [← Nat.add_assoc]; exact v2.1
    have K : Kp T σ T1 σ3 (fun i => i = 50) := ((q3.tr d4).tr v3).sub (fun i hi => by rw [hi]; decide)
    have ih : ∀ (t1 : MS) (most' : Nat) (best' : Int32), MW t1 W → (W.C.R.gos none n).p c ≤ most' → most' < 24 → Jp W ex z o a j σ3 T1 (c1 + dc) (c2 + ds) (fX3_breath_32 m (nI c) (nI n) (nI most') best' (nI (w + 1)) t1) (fX0_breath_41 ex z m' o (nI c) (nI n) (nI most') best' (nI (w + 1)) (σ3, c1 + dc, c2 + ds)) := fun t1 most' best' M1 a1 a2 => j_br O hc hn j (w + 1) most' m m' best' (by omega) a1 a2 (by omega) (by omega) t1 σ3 T1 (c1 + dc) (c2 + ds) M1 q2'
    have comp : fX0_breath_41 ex z (m' + 1) o (nI c) (nI n) (nI most) best (nI w) (σ, c1, c2) = if most < W.C.R.brt c n w then fX0_breath_41 ex z m' o (nI c) (nI n) (nI (W.C.R.brt c n w)) (nI w) (nI (w + 1)) (σ3, c1 + dc, c2 + ds) else fX0_breath_41 ex z m' o (nI c) (nI n) (nI most) best (nI (w + 1)) (σ3, c1 + dc, c2 + ds) := by
      rw [fX0_breath_41, A_t hob (by decide) rfl, ← hA, X_t R.1.ra (by decide), c_home (t := (σ, 0, 0)) R.1 O.ba, gb_two, if_neg (nI_nlt (by omega) (by omega)), A_t hob (by decide) rfl, A_t hob (by decide) rfl, X_t h3 (by decide), q1, gb_app, A_t hob1 (by decide) rfl, A_t q2.ra (by decide) rfl, ast_t d1 (by omega) (by decide), ilit 12, show vp_nar .byte (nI 12) = nI 12 from by decide, d2, X_t hob2 (by decide), v1, gb_z, A_t hob3 (by decide) rfl, X_t v2.ra (by decide), v2.clock OQ.b hcQ, gb_two, I_t (v2.ck hcQ) (kin (OQ.b.k c hcQ)) rfl, show nI (((W.C.R.dark w).gos none n).p c) = nI (W.C.R.brt c n w) from rfl, iflt (a := most) (W.C.R.brt c n w) rfl rfl (by omega) (by omega)]
      unfold fX0_breath_115
      by_cases h : most < W.C.R.brt c n w
      · rw [if_pos h, if_pos h, A_t hob3 (by decide) rfl, X_t v2.ra (by decide), v2.clock OQ.b hcQ, gb_two, I_t (v2.ck hcQ) (kin (OQ.b.k c hcQ)) rfl, nI_1]
        rfl
      · rw [if_neg h, if_neg h, nI_1]
    refine Jp.after K q4 q5 ?_
    rw [comp, fX3_breath_32, M.c.r.1.W, if_neg (nI_ge (by omega) (by omega)), mald_nI (by omega) (by decide), M.c.r.1.d w (by omega), ifl 12 (by omega) (by decide)]
    by_cases hdk : W.C.R.d w = 12
    · have e : W.C.R.brt c n w = (W.C.R.gos none n).p c := by unfold Rc.brt; rw [Rc.dark_same hdk]
      rw [if_pos hdk, if_neg (by omega)]
      unfold fX3_breath_114
      rw [nI_1]
      exact ih t most best M hm hm'
    · obtain ⟨t1, k1, k2⟩ := m_keepAside M.c.r
      have M2 : MR (setA t1 0 w (nI 12)) (W.C.R.dark w) := k2.1.d1 h9 (by omega)
      obtain ⟨t2, g1, g2⟩ := m_goHours (n := n) (k2.sm (Sm.set t1 w (nI 12)) M2) alOK.no M.sky O2 (by omega) (by show W.C.R.now + n < 100000; omega)
      obtain ⟨t3, b1, b2, -⟩ := m_bringBack g2
      have M3 := M.sb b2 O.n
      have ep : t2.2.1 0 (42 + c) = nI (W.C.R.brt c n w) := g2.1.1.p c hcQ
      rw [if_neg hdk, k1, gm_some, mast_nI (by omega) (by decide), ilit 12, g1, gm_some, ilit 42, nI_add, mald_nI (by omega) (by decide), ep, b1, gm_some, ifle most rfl rfl (by omega) (by omega)]
      by_cases h : most < W.C.R.brt c n w
      · rw [if_pos h, if_neg (show ¬ W.C.R.brt c n w ≤ most by omega)]
        unfold fX3_breath_99 fX3_breath_113 fX3_breath_114
        rw [ifle (a := W.C.R.brt c n w) most rfl rfl (by omega) (by omega), if_neg (show ¬ W.C.R.brt c n w ≤ most by omega), nI_1]
        exact ih t3 _ _ M3 (by omega) hpQ
      · rw [if_neg h, if_pos (show W.C.R.brt c n w ≤ most by omega)]
        unfold fX3_breath_99 fX3_breath_113 fX3_breath_114
        rw [ifle (a := W.C.R.brt c n w) most rfl rfl (by omega) (by omega), if_pos (show W.C.R.brt c n w ≤ most by omega), nI_1]
        exact ih t3 _ _ M3 hm hm'
theorem b_breath (M : MW t W) (H : CW σ T ex z o a W) (O : W.OK) (x1 x2 : Int32) : Both σ T ex z o a (fX3_breath x1 x2 t) (fX0_breath ex z o x1 x2 (σ, 0, 0)) := by
  obtain ⟨at_, hob⟩ := H.obj
  have hnow := O.c.now
  have hW := O.ba.W1
  unfold fX3_breath fX0_breath
  rw [X_t hob (by decide)]
  by_cases h : ∃ i, i < W.C.R.n ∧ x1 = nI i
  · obtain ⟨c, hc, rfl⟩ := h
    rw [m_clk1 M O hc, gm_some, if_neg n10, c_clk1 H O hc, gb_two, if_neg n10]
    by_cases h : ∃ c, 0 ≤ c ∧ c ≤ 200 ∧ x2 = nI c
    · obtain ⟨n, -, hn, rfl⟩ := h
      obtain ⟨t1, k1, k2⟩ := m_beh (al := none) (b := 0) (n := n) M.c.r O.c.r alOK.no M.sky hnow hc hn (by decide)
      have k1' : fX3_behind (nI c) (nI n) 0 t = some (nI ((W.C.R.gos none n).p c), t1) := k1
      have M1 := M.sb k2 O.n
      obtain ⟨σ1, T1, A1, dc, ds, q1, q2, q3, q4, q5⟩ := ct_runs H O hn
      obtain ⟨at1, hob1⟩ := q2.1.obj
      have OQ := Rc.gos_OK O.c.r none n (by omega)
      have kq := Rc.gos_keep W.C.R none n
      have hcQ : c < (W.C.R.gos none n).n := by rw [kq.1]; exact hc
      have hpQ : (W.C.R.gos none n).p c < 24 := by
        have := OQ.b.p c hcQ
        rw [kq.2.1] at this; omega
      obtain ⟨v, t', σ', T', d1, d2, h1, h2, h3, h4, h5, h6, h7⟩ := j_br (z := z) O hc hn W.C.R.W 0 ((W.C.R.gos none n).p c) 1000 1000 (-4) (by omega) (Nat.le_refl _) hpQ (by omega) (by omega) t1 σ1 T1 dc ds M1 q2.1
      rw [m_long1 hn, gm_some, if_neg n10, c_few1 hn, gb_two, if_neg n10, k1', gm_some, X_t hob (by decide)]
      simp only [Nat.add_zero]
      rw [q1, gb_app]
      simp only [Nat.zero_add]
      rw [A_t hob1 (by decide) rfl, X_t q2.ra (by decide), q2.clock OQ.b hcQ, gb_two, I_t (q2.ck hcQ) (kin (OQ.b.k c hcQ)) rfl]
      exact ⟨v, t', W, σ', T', dc + d1, ds + d2, h1, h2, h3, by rw [← Nat.add_assoc]; exact h4, O, (q3.sub (fun i hi => by rw [hi]; decide)).tr h5, by omega, by omega⟩
    · rw [m_long0 h, gm_some, if_pos rfl, c_few0 h, gb_two, if_pos rfl]
      exact Both.same M H O _ rfl rfl
  · rw [m_clk0 M O h, gm_some, if_pos rfl, c_clk0 H O h, gb_two, if_pos rfl]
    exact Both.same M H O _ rfl rfl
end O8
