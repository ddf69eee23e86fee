/-! turns, hands, both: loops over what is tried -/
set_option maxRecDepth 100000
/-- both sides, from a state of cells made c1, slots made c2 on: they answer alike, the world is the same but for the race that is tried; N times it took -/
def Jp (W : Wv) (ex : Nat → Option Nat) (z o : Nat) (a : Nat → Nat) (N : Nat) (σ : Sg) (T : Nat → Nat) (c1 c2 : Nat) (mv : Option (Int32 × MS)) (cv : Option (Int32 × St)) : Prop := ∃ v t' σ' T' d1 d2, mv = some (v, t') ∧ cv = some (v, (σ', c1 + d1, c2 + d2)) ∧ MW t' W ∧ CW σ' T' ex (z + c1 + d1) o a W ∧ Kp T σ T' σ' (fun i => i = 50) ∧ d1 ≤ 10 * N ∧ d2 ≤ 64 * N
def Jt (W : Wv) (ex : Nat → Option Nat) (z o : Nat) (a : Nat → Nat) (N : Nat) (fm : MS → Option (Int32 × MS)) (fc : St → Option (Int32 × St)) : Prop := ∀ (t : MS) (σ : Sg) (T : Nat → Nat) (c1 c2 : Nat), MW t W → CW σ T ex (z + c1) o a W → Jp W ex z o a N σ T c1 c2 (fm t) (fc (σ, c1, c2))
section J7
variable {W : Wv} {ex : Nat → Option Nat} {z o : Nat} {a : Nat → Nat} {N N' : Nat} {σ σ1 : Sg} {T T1 : Nat → Nat} {c1 c2 dc ds : Nat} {mv : Option (Int32 × MS)} {cv : Option (Int32 × St)} {fm : MS → Option (Int32 × MS)} {fc : St → Option (Int32 × St)} {t : MS}
theorem Jp.after (k : Kp T σ T1 σ1 (fun i => i = 50)) (hd : dc ≤ 10) (hs : ds ≤ 64) (J : Jp W ex z o a N σ1 T1 (c1 + dc) (c2 + ds) mv cv) : Jp W ex z o a (N + 1) σ T c1 c2 mv cv := by
  obtain ⟨v, t', σ', T', d1, d2, h1, h2, h3, h4, h5, h6, h7⟩ := J
  refine ⟨v, t', σ', T', dc + d1, ds + d2, h1, ?_, h3, ?_, k.tr h5, by omega, by omega⟩
  · rw [h2, Nat.add_assoc, Nat.add_assoc]
  · rw [show z + c1 + (dc + d1) = z + (c1 + dc) + d1 by omega]; exact h4
theorem Jp.ret (M : MW t W) (H : CW σ T ex (z + c1) o a W) (v : Int32) : Jp W ex z o a N σ T c1 c2 (some (v, t)) (some (v, (σ, c1, c2))) := ⟨v, t, σ, T, 0, 0, rfl, rfl, M, H, Kp.rf _ _ _, by omega, by omega⟩
theorem Jp.mono (J : Jp W ex z o a N σ T c1 c2 mv cv) (h : N ≤ N') : Jp W ex z o a N' σ T c1 c2 mv cv := by
  obtain ⟨v, t', σ', T', d1, d2, h1, h2, h3, h4, h5, h6, h7⟩ := J
  exact ⟨v, t', σ', T', d1, d2, h1, h2, h3, h4, h5, by omega, by omega⟩
theorem Jt.mono (J : Jt W ex z o a N fm fc) (h : N ≤ N') : Jt W ex z o a N' fm fc := fun t σ T c1 c2 M H => (J t σ T c1 c2 M H).mono h
theorem Both.jt (J : Jt W ex z o a N fm fc) (M : MW t W) (H : CW σ T ex z o a W) (O : W.OK) (hN : N ≤ 900) : Both σ T ex z o a (fm t) (fc (σ, 0, 0)) := by
  obtain ⟨v, t', σ', T', d1, d2, h1, h2, h3, h4, h5, h6, h7⟩ := J t σ T 0 0 M H
  refine ⟨v, t', W, σ', T', d1, d2, h1, ?_, h3, h4, O, h5, by omega, by omega⟩
  rw [h2, Nat.zero_add, Nat.zero_add]
end J7
def Rc.tryP (R : Rc) (c s h n : Nat) : Nat := (((R.wnd c s).trn c (60 * h)).gos none n).place c
section O7
variable {t : MS} {W : Wv} {σ : Sg} {T : Nat → Nat} {ex : Nat → Option Nat} {z o : Nat} {a : Nat → Nat}
theorem Rc.tryP_lt {R : Rc} (h9 : R.n ≤ 9) (c s h n : Nat) : R.tryP c s h n ≤ 10 := by
  have k4 := Rc.gos_keep ((R.wnd c s).trn c (60 * h)) none n
  unfold Rc.tryP
  exact Rc.place_lt (by rw [k4.1]; exact h9) c
theorem m_placeWith (M : MW t W) (O : W.OK) {c s h n : Nat} (hc : c < W.C.R.n) (hs : s ≤ 60) (hh : h ≤ 60) (hn : n ≤ 200) : ∃ t', fX3_placeWith (nI c) (nI s) (nI h) (nI n) t = some (nI (W.C.R.tryP c s h n), t') ∧ MW t' W := by
  have hnow := O.c.now
  obtain ⟨t1, k1, k2⟩ := m_keepAside M.c.r
  obtain ⟨t2, a1, a2, a3⟩ := m_addSpring (n := s) k2.1 O.ba hc (by omega)
  have O2 := Rc.wnd_OK O.c.r c s
  obtain ⟨t3, b1, b2, b3⟩ := m_addHands (n := 60 * h) a2 O2.b (c := c) hc (by omega)
  have O3 := Rc.trn_OK O2 c (60 * h)
  have hnw : ((W.C.R.wnd c s).trn c (60 * h)).now = W.C.R.now := rfl
  obtain ⟨t4, g1, g2⟩ := m_goHours (n := n) ((k2.sm a3 a2).sm b3 b2) alOK.no M.sky O3 (by omega) (by rw [hnw]; omega)
  have O4 := Rc.gos_OK O3 none n (by rw [hnw]; omega)
  have k4 := Rc.gos_keep ((W.C.R.wnd c s).trn c (60 * h)) none n
  obtain ⟨t5, p1, p2, -⟩ := m_bringBack g2
  refine ⟨t5, ?_, M.sb p2 O.n⟩
  unfold fX3_placeWith Rc.tryP
  rw [k1, gm_some, a1, gm_some, ilit 60, nI_mul, b1, gm_some, g1, gm_some, m_placeOf g2.1 O4 (by rw [k4.1]; exact hc), gm_some, p1, gm_some]
theorem ct_comesTo (H : CW σ T ex z o a W) (O : W.OK) {c p s h n : Nat} (hc : c < W.C.R.n) (hp : p ≤ 9) (hs : s ≤ 60) (hh : h ≤ 60) (hn : n ≤ 200) : ∃ σ' T' dc ds, fX0_comesTo ex z o (nI c) (nI p) (nI n) (nI s) (nI h) (σ, 0, 0) = some (if W.C.R.tryP c s h n ≤ p then 1 else 0, (σ', dc, ds)) ∧ CW σ' T' ex (z + dc) o a W ∧ Kp T σ T' σ' (fun i => i = 50) ∧ dc ≤ 10 ∧ ds ≤ 64 := by
  have hnow := O.c.now
  obtain ⟨at_, hob⟩ := H.obj
  obtain ⟨Q3, A3, al3, h3⟩ := H.tra
  obtain ⟨σ1, T1, A, dc, ds, q1, q2, q3, q4, q5⟩ := ct_takes H O
  obtain ⟨at1, hob1⟩ := q2.1.obj
  obtain ⟨σ2, w1, w2, w3⟩ := rt_winds (n := s) q2.2.2 O.ba hc (by omega)
  have O2 := Rc.wnd_OK O.c.r c s
  obtain ⟨e2, f2⟩ := q2.put (al' := none) w2 O2.b w3
  obtain ⟨at2, hob2⟩ := e2.1.obj
  obtain ⟨σ3, u1, u2, u3⟩ := rt_turns (n := 60 * h) e2.2.2 O2.b (c := c) hc (by omega)
  have O3 := Rc.trn_OK O2 c (60 * h)
  obtain ⟨e3, f3⟩ := e2.put (al' := none) u2 O3.b u3
  obtain ⟨at3, hob3⟩ := e3.1.obj
  have hnw : ((W.C.R.wnd c s).trn c (60 * h)).now = W.C.R.now := rfl
  obtain ⟨σ4, v1, v2, v3⟩ := ct_goOn (n := n) e3 alOK.no O3 (by omega) (by rw [hnw]; omega) (z + dc)
  obtain ⟨at4, hob4⟩ := v2.1.obj
  have O4 := Rc.gos_OK O3 none n (by rw [hnw]; omega)
  have k4 := Rc.gos_keep ((W.C.R.wnd c s).trn c (60 * h)) none n
  have hc4 : c < (((W.C.R.wnd c s).trn c (60 * h)).gos none n).n := by rw [k4.1]; exact hc
  have hpl := Rc.place_lt O4.b.n c
  have hc2 : c < (W.C.R.wnd c s).n := hc
  refine ⟨σ4, T1, dc, ds, ?_, v2.1, (((q3.tr f2).tr f3).tr v3).sub (fun i hi => by rw [hi]; decide), q4, q5⟩
  unfold fX0_comesTo Rc.tryP
  rw [A_t hob (by decide) rfl, A_t hob (by decide) rfl, X_t h3 (by decide)]
  simp only [Nat.add_zero]
  rw [q1, gb_app]
  simp only [Nat.zero_add]
  rw [A_t hob1 (by decide) rfl, X_t q2.ra (by decide), q2.clock O.ba hc, gb_two, X_t (q2.ck hc) (kin (O.ba.k c hc)), w1, gb_z, A_t hob2 (by decide) rfl, X_t e2.ra (by decide), e2.clock O2.b hc2, gb_two, X_t (e2.ck hc2) (kin (O2.b.k c hc2)), ilit 60, nI_mul, u1, gb_z, X_t hob3 (by decide), v1, gb_z, A_t hob4 (by decide) rfl, A_t hob4 (by decide) rfl, X_t v2.ra (by decide), v2.clock O4.b hc4, gb_two, X_t v2.ra (by decide), v2.place O4 hc4, gb_two, iflt ((((W.C.R.wnd c s).trn c (60 * h)).gos none n).place c) rfl rfl (by omega) (by omega)]
  by_cases hle : (((W.C.R.wnd c s).trn c (60 * h)).gos none n).place c ≤ p
  · rw [if_neg (by omega), if_pos hle]
  · rw [if_pos (by omega), if_neg hle]
theorem m_ask1 (M : MW t W) (O : W.OK) {c p n : Nat} (hc : c < W.C.R.n) (hp0 : 1 ≤ p) (hp : p ≤ 9) (hn : n ≤ 200) : fX3_isAsked (nI c) (nI p) (nI n) t = some (1, t) := by
  unfold fX3_isAsked
  rw [m_clk1 M O hc, gm_some, if_neg n10, m_iL1 1 9 t hp0 hp (by decide), gm_some, if_neg n10, m_long1 hn, gm_some, if_neg n10]
theorem m_ask0 (M : MW t W) (O : W.OK) {x1 x2 x3 : Int32} (h : ¬ ∃ c p n, c < W.C.R.n ∧ 1 ≤ p ∧ p ≤ 9 ∧ n ≤ 200 ∧ x1 = nI c ∧ x2 = nI p ∧ x3 = nI n) : fX3_isAsked x1 x2 x3 t = some (0, t) := by
  unfold fX3_isAsked
  by_cases h1 : ∃ i, i < W.C.R.n ∧ x1 = nI i
  · obtain ⟨i, hi, rfl⟩ := h1
    rw [m_clk1 M O hi, gm_some, if_neg n10]
    by_cases h2 : ∃ c, 1 ≤ c ∧ c ≤ 9 ∧ x2 = nI c
    · obtain ⟨p, hp0, hp, rfl⟩ := h2
      rw [m_iL1 1 9 t hp0 hp (by decide), gm_some, if_neg n10]
      by_cases h3 : ∃ c, 0 ≤ c ∧ c ≤ 200 ∧ x3 = nI c
      · obtain ⟨n, -, hn, rfl⟩ := h3
        exact absurd ⟨i, p, n, hi, hp0, hp, hn, rfl, rfl, rfl⟩ h
      · rw [m_long0 h3, gm_some, if_pos rfl]
    · rw [m_iL0 1 9 t (by omega) (by decide) h2, gm_some, if_pos rfl]
  · rw [m_clk0 M O h1, gm_some, if_pos rfl]
theorem c_ask1 (H : CW σ T ex z o a W) (O : W.OK) {c p n zz : Nat} {cc : Nat × Nat} (hc : c < W.C.R.n) (hp0 : 1 ≤ p) (hp : p ≤ 9) (hn : n ≤ 200) : fX0_isAsked ex zz o (nI c) (nI p) (nI n) (σ, cc) = some (1, (σ, cc)) := by
  obtain ⟨at_, hob⟩ := H.obj
  unfold fX0_isAsked
  rw [X_t hob (by decide), c_clk1 H O hc, gb_two, if_neg n10, c_iL1 1 9 _ hp0 hp (by decide), gb_two, if_neg n10, c_few1 hn, gb_two, if_neg n10]
theorem c_ask0 (H : CW σ T ex z o a W) (O : W.OK) {zz : Nat} {cc : Nat × Nat} {x1 x2 x3 : Int32} (h : ¬ ∃ c p n, c < W.C.R.n ∧ 1 ≤ p ∧ p ≤ 9 ∧ n ≤ 200 ∧ x1 = nI c ∧ x2 = nI p ∧ x3 = nI n) : fX0_isAsked ex zz o x1 x2 x3 (σ, cc) = some (0, (σ, cc)) := by
  obtain ⟨at_, hob⟩ := H.obj
  unfold fX0_isAsked
  rw [X_t hob (by decide)]
  by_cases h1 : ∃ i, i < W.C.R.n ∧ x1 = nI i
  · obtain ⟨i, hi, rfl⟩ := h1
    rw [c_clk1 H O hi, gb_two, if_neg n10]
    by_cases h2 : ∃ c, 1 ≤ c ∧ c ≤ 9 ∧ x2 = nI c
    · obtain ⟨p, hp0, hp, rfl⟩ := h2
      rw [c_iL1 1 9 _ hp0 hp (by decide), gb_two, if_neg n10]
      by_cases h3 : ∃ c, 0 ≤ c ∧ c ≤ 200 ∧ x3 = nI c
      · obtain ⟨n, -, hn, rfl⟩ := h3
        exact absurd ⟨i, p, n, hi, hp0, hp, hn, rfl, rfl, rfl⟩ h
      · rw [c_few0 h3, gb_two, if_pos rfl]
    · rw [c_iL0 1 9 _ (by omega) (by decide) h2, gb_two, if_pos rfl]
  · rw [c_clk0 H O h1, gb_two, if_pos rfl]
theorem j_tu (O : W.OK) {c p n : Nat} (hc : c < W.C.R.n) (hp : p ≤ 9) (hn : n ≤ 200) : ∀ (j x fuel fuel' : Nat), x + j = 41 → j < fuel → j < fuel' → Jt W ex z o a j (fun t => fX3_turns_15 fuel (nI c) (nI p) (nI n) (nI x) t) (fun s => fX0_turns_15 ex z fuel' o (nI c) (nI p) (nI n) (nI x) s)
  | 0, x, fuel, fuel', hj, hf, hf' => by
    obtain ⟨m, rfl⟩ : ∃ m, fuel = m + 1 := ⟨fuel - 1, by omega⟩
    obtain ⟨m', rfl⟩ : ∃ m', fuel' = m' + 1 := ⟨fuel' - 1, by omega⟩
    obtain rfl : x = 41 := by omega
    intro t σ T c1 c2 M H
    show Jp W ex z o a 0 σ T c1 c2 (fX3_turns_15 _ _ _ _ _ _) (fX0_turns_15 _ _ _ _ _ _ _ _ _)
    rw [fX3_turns_15, ifltr 40 (by decide) (by decide), if_pos (by decide), fX0_turns_15, ifltr 40 (by decide) (by decide), if_pos (by decide)]
    unfold fX0_turns_41
    rw [iflel 40 (by decide) (by decide), if_neg (by decide)]
    exact Jp.ret M H _
  | j + 1, x, fuel, fuel', hj, hf, hf' => by
    obtain ⟨m, rfl⟩ : ∃ m, fuel = m + 1 := ⟨fuel - 1, by omega⟩
    obtain ⟨m', rfl⟩ : ∃ m', fuel' = m' + 1 := ⟨fuel' - 1, by omega⟩
    intro t σ T c1 c2 M H
    show Jp W ex z o a (j + 1) σ T c1 c2 (fX3_turns_15 _ _ _ _ _ _) (fX0_turns_15 _ _ _ _ _ _ _ _ _)
    have hpl := Rc.tryP_lt O.n c x 0 n
    obtain ⟨at_, hob⟩ := H.obj
    obtain ⟨t1, p1, M1⟩ := m_placeWith (s := x) (h := 0) (n := n) M O hc (by omega) (by omega) hn
    obtain ⟨σ1, T1, dc, ds, q1, q2, q3, q4, q5⟩ := ct_comesTo (s := x) (h := 0) H O hc hp (by omega) (by omega) hn
    have p1' : fX3_placeWith (nI c) (nI x) 0 (nI n) t = some (nI (W.C.R.tryP c x 0 n), t1) := p1
    have q1' : fX0_comesTo ex (z + c1) o (nI c) (nI p) (nI n) (nI x) 0 (σ, 0, 0) = some (if W.C.R.tryP c x 0 n ≤ p then 1 else 0, (σ1, dc, ds)) := q1
    have q2' : CW σ1 T1 ex (z + (c1 + dc)) o a W := by rw [← Nat.add_assoc]; exact q2
    refine Jp.after q3 q4 q5 ?_
    rw [fX3_turns_15, ifltr 40 (by decide) (by omega), if_neg (by omega), fX0_turns_15, ifltr 40 (by decide) (by omega), if_neg (by omega), X_t hob (by decide), q1', gb_app, p1', gm_some, iflt (W.C.R.tryP c x 0 n) rfl rfl (by omega) (by omega)]
    by_cases hle : W.C.R.tryP c x 0 n ≤ p
    · rw [if_neg (by omega), if_pos hle, if_neg n10]
      unfold fX0_turns_41
      rw [iflel 40 (by omega) (by decide), if_pos (by omega)]
      exact Jp.ret M1 q2' _
    · rw [if_pos (by omega), if_neg hle, if_pos rfl, nI_1]
      exact j_tu O hc hp hn j (x + 1) m m' (by omega) (by omega) (by omega) t1 σ1 T1 (c1 + dc) (c2 + ds) M1 q2'
theorem b_turns (M : MW t W) (H : CW σ T ex z o a W) (O : W.OK) (x1 x2 x3 : Int32) : Both σ T ex z o a (fX3_turns x1 x2 x3 t) (fX0_turns ex z o x1 x2 x3 (σ, 0, 0)) := by
  obtain ⟨at_, hob⟩ := H.obj
  unfold fX3_turns fX0_turns
  rw [X_t hob (by decide)]
  by_cases h : ∃ c p n, c < W.C.R.n ∧ 1 ≤ p ∧ p ≤ 9 ∧ n ≤ 200 ∧ x1 = nI c ∧ x2 = nI p ∧ x3 = nI n
  · obtain ⟨c, p, n, hc, hp0, hp, hn, rfl, rfl, rfl⟩ := h
    rw [m_ask1 M O hc hp0 hp hn, gm_some, if_neg n10, c_ask1 H O hc hp0 hp hn, gb_two, if_neg n10]
    exact Both.jt (j_tu (z := z) O hc hp hn 41 0 1000 1000 (by omega) (by omega) (by omega)) M H O (by omega)
  · rw [m_ask0 M O h, gm_some, if_pos rfl, c_ask0 H O h, gb_two, if_pos rfl]
    exact Both.same M H O _ rfl rfl
theorem j_ha (O : W.OK) {c p n : Nat} (hc : c < W.C.R.n) (hp : p ≤ 9) (hn : n ≤ 200) : ∀ (j x fuel fuel' : Nat), x + j = 12 → j < fuel → j < fuel' → Jt W ex z o a j (fun t => fX3_hands_15 fuel (nI c) (nI p) (nI n) (nI x) t) (fun s => fX0_hands_15 ex z fuel' o (nI c) (nI p) (nI n) (nI x) s)
  | 0, x, fuel, fuel', hj, hf, hf' => by
    obtain ⟨m, rfl⟩ : ∃ m, fuel = m + 1 := ⟨fuel - 1, by omega⟩
    obtain ⟨m', rfl⟩ : ∃ m', fuel' = m' + 1 := ⟨fuel' - 1, by omega⟩
    obtain rfl : x = 12 := by omega
    intro t σ T c1 c2 M H
    show Jp W ex z o a 0 σ T c1 c2 (fX3_hands_15 _ _ _ _ _ _) (fX0_hands_15 _ _ _ _ _ _ _ _ _)
    rw [fX3_hands_15, ifler 12 (by decide) (by decide), if_pos (by decide), fX0_hands_15, ifler 12 (by decide) (by decide), if_pos (by decide)]
    unfold fX0_hands_41
    rw [ifl 12 (by decide) (by decide), if_pos rfl]
    exact Jp.ret M H _
  | j + 1, x, fuel, fuel', hj, hf, hf' => by
    obtain ⟨m, rfl⟩ : ∃ m, fuel = m + 1 := ⟨fuel - 1, by omega⟩
    obtain ⟨m', rfl⟩ : ∃ m', fuel' = m' + 1 := ⟨fuel' - 1, by omega⟩
    intro t σ T c1 c2 M H
    show Jp W ex z o a (j + 1) σ T c1 c2 (fX3_hands_15 _ _ _ _ _ _) (fX0_hands_15 _ _ _ _ _ _ _ _ _)
    have hpl := Rc.tryP_lt O.n c 0 x n
    obtain ⟨at_, hob⟩ := H.obj
    obtain ⟨t1, p1, M1⟩ := m_placeWith (s := 0) (h := x) (n := n) M O hc (by omega) (by omega) hn
    obtain ⟨σ1, T1, dc, ds, q1, q2, q3, q4, q5⟩ := ct_comesTo (s := 0) (h := x) H O hc hp (by omega) (by omega) hn
    have p1' : fX3_placeWith (nI c) 0 (nI x) (nI n) t = some (nI (W.C.R.tryP c 0 x n), t1) := p1
    have q1' : fX0_comesTo ex (z + c1) o (nI c) (nI p) (nI n) 0 (nI x) (σ, 0, 0) = some (if W.C.R.tryP c 0 x n ≤ p then 1 else 0, (σ1, dc, ds)) := q1
    have q2' : CW σ1 T1 ex (z + (c1 + dc)) o a W := by rw [← Nat.add_assoc]; exact q2
    refine Jp.after q3 q4 q5 ?_
    rw [fX3_hands_15, ifler 12 (by decide) (by omega), if_neg (by omega), fX0_hands_15, ifler 12 (by decide) (by omega), if_neg (by omega), X_t hob (by decide), q1', gb_app, p1', gm_some, iflt (W.C.R.tryP c 0 x n) rfl rfl (by omega) (by omega)]
    by_cases hle : W.C.R.tryP c 0 x n ≤ p
    · rw [if_neg (by omega), if_pos hle, if_neg n10]
      unfold fX0_hands_41
      rw [ifl 12 (by omega) (by decide), if_neg (by omega)]
      exact Jp.ret M1 q2' _
    · rw [if_pos (by omega), if_neg hle, if_pos rfl, nI_1]
      exact j_ha O hc hp hn j (x + 1) m m' (by omega) (by omega) (by omega) t1 σ1 T1 (c1 + dc) (c2 + ds) M1 q2'
theorem b_hands (M : MW t W) (H : CW σ T ex z o a W) (O : W.OK) (x1 x2 x3 : Int32) : Both σ T ex z o a (fX3_hands x1 x2 x3 t) (fX0_hands ex z o x1 x2 x3 (σ, 0, 0)) := by
  obtain ⟨at_, hob⟩ := H.obj
  unfold fX3_hands fX0_hands
  rw [X_t hob (by decide)]
  by_cases h : ∃ c p n, c < W.C.R.n ∧ 1 ≤ p ∧ p ≤ 9 ∧ n ≤ 200 ∧ x1 = nI c ∧ x2 = nI p ∧ x3 = nI n
  · obtain ⟨c, p, n, hc, hp0, hp, hn, rfl, rfl, rfl⟩ := h
    rw [m_ask1 M O hc hp0 hp hn, gm_some, if_neg n10, c_ask1 H O hc hp0 hp hn, gb_two, if_neg n10]
    exact Both.jt (j_ha (z := z) O hc hp hn 12 0 1000 1000 (by omega) (by omega) (by omega)) M H O (by omega)
  · rw [m_ask0 M O h, gm_some, if_pos rfl, c_ask0 H O h, gb_two, if_pos rfl]
    exact Both.same M H O _ rfl rfl
/-- the inner loop of both: the outer goes on -/
theorem j_bi (O : W.OK) {c p n b s N : Nat} (hc : c < W.C.R.n) (hp : p ≤ 9) (hn : n ≤ 200) (hb : b ≤ 1) (hs : s ≤ 51) (km : Int32 → Int32 → Int32 → Int32 → Int32 → MS → Option (Int32 × MS)) (kc : Nat → Int32 → Int32 → Int32 → Int32 → Int32 → St → Option (Int32 × St)) (K : Jt W ex z o a N (fun t => km (nI c) (nI p) (nI n) (nI b) (nI (s + 1)) t) (fun u => kc o (nI c) (nI p) (nI n) (nI b) (nI (s + 1)) u)) : ∀ (j x fuel fuel' : Nat), x + j = 12 → j < fuel → j < fuel' → Jt W ex z o a (N + j) (fun t => fX3_both_36 km fuel (nI c) (nI p) (nI n) (nI b) (nI s) (nI x) t) (fun u => fX0_both_36 ex z kc fuel' o (nI c) (nI p) (nI n) (nI b) (nI s) (nI x) u)
  | 0, x, fuel, fuel', hj, hf, hf' => by
    obtain ⟨m, rfl⟩ : ∃ m, fuel = m + 1 := ⟨fuel - 1, by omega⟩
    obtain ⟨m', rfl⟩ : ∃ m', fuel' = m' + 1 := ⟨fuel' - 1, by omega⟩
    obtain rfl : x = 12 := by omega
    intro t σ T c1 c2 M H
    show Jp W ex z o a (N + 0) σ T c1 c2 (fX3_both_36 _ _ _ _ _ _ _ _ _) (fX0_both_36 _ _ _ _ _ _ _ _ _ _ _ _)
    rw [fX3_both_36, ifler 12 (by decide) (by decide), if_pos (by decide), fX0_both_36, ifler 12 (by decide) (by decide), if_pos (by decide)]
    unfold fX3_both_96 fX0_both_99
    rw [nI_1]
    exact K t σ T c1 c2 M H
  | j + 1, x, fuel, fuel', hj, hf, hf' => by
    obtain ⟨m, rfl⟩ : ∃ m, fuel = m + 1 := ⟨fuel - 1, by omega⟩
    obtain ⟨m', rfl⟩ : ∃ m', fuel' = m' + 1 := ⟨fuel' - 1, by omega⟩
    intro t σ T c1 c2 M H
    show Jp W ex z o a (N + j + 1) σ T c1 c2 (fX3_both_36 _ _ _ _ _ _ _ _ _) (fX0_both_36 _ _ _ _ _ _ _ _ _ _ _ _)
    have ih := j_bi O hc hp hn hb hs km kc K j (x + 1) m m' (by omega) (by omega) (by omega)
    rw [fX3_both_36, ifler 12 (by decide) (by omega), if_neg (show ¬ 12 ≤ x by omega), fX0_both_36, ifler 12 (by decide) (by omega), if_neg (show ¬ 12 ≤ x by omega), iflt (a := s) x rfl rfl (by omega) (by omega), iflt (a := s) x rfl rfl (by omega) (by omega)]
    by_cases hsx : s < x
    · rw [if_pos hsx, if_pos hsx]
      unfold fX3_both_96 fX0_both_99
      rw [nI_1]
      exact (K t σ T c1 c2 M H).mono (by omega)
    · rw [if_neg hsx, if_neg hsx, nI_sub (by omega), ifltr 40 (by decide) (by omega), ifltr 40 (by decide) (by omega)]
      by_cases h40 : 40 < s - x
      · rw [if_pos h40, if_pos h40]
        unfold fX3_both_90 fX0_both_93
        rw [nI_1]
        exact (ih t σ T c1 c2 M H).mono (by omega)
      · have hpl := Rc.tryP_lt O.n c (s - x) x n
        obtain ⟨at_, hob⟩ := H.obj
        obtain ⟨t1, p1, M1⟩ := m_placeWith (s := s - x) (h := x) (n := n) M O hc (by omega) (by omega) hn
        obtain ⟨σ1, T1, dc, ds, q1, q2, q3, q4, q5⟩ := ct_comesTo (s := s - x) (h := x) H O hc hp (by omega) (by omega) hn
        have q2' : CW σ1 T1 ex (z + (c1 + dc)) o a W := by rw [← Nat.add_assoc]; exact q2
        refine Jp.after q3 q4 q5 ?_
        rw [if_neg h40, if_neg h40, X_t hob (by decide), q1, gb_app, p1, gm_some, iflt (W.C.R.tryP c (s - x) x n) rfl rfl (by omega) (by omega)]
        by_cases hle : W.C.R.tryP c (s - x) x n ≤ p
        · rw [if_neg (by omega), if_pos hle, if_neg n10, ifl 0 (by omega) (by decide), ifl 0 (by omega) (by decide)]
          by_cases hb0 : b = 0
          · rw [if_pos hb0, if_pos hb0]
            exact Jp.ret M1 q2' _
          · rw [if_neg hb0, if_neg hb0]
            exact Jp.ret M1 q2' _
        · rw [if_pos (by omega), if_neg hle, if_pos rfl]
          unfold fX3_both_90 fX0_both_93
          rw [nI_1]
          exact ih t1 σ1 T1 (c1 + dc) (c2 + ds) M1 q2'
theorem j_bo (O : W.OK) {c p n b : Nat} (hc : c < W.C.R.n) (hp : p ≤ 9) (hn : n ≤ 200) (hb : b ≤ 1) : ∀ (j s fuel fuel' : Nat), s + j = 52 → j < fuel → j < fuel' → Jt W ex z o a (12 * j) (fun t => fX3_both_26 fuel (nI c) (nI p) (nI n) (nI b) (nI s) t) (fun u => fX0_both_26 ex z fuel' o (nI c) (nI p) (nI n) (nI b) (nI s) u)
  | 0, s, fuel, fuel', hj, hf, hf' => by
    obtain ⟨m, rfl⟩ : ∃ m, fuel = m + 1 := ⟨fuel - 1, by omega⟩
    obtain ⟨m', rfl⟩ : ∃ m', fuel' = m' + 1 := ⟨fuel' - 1, by omega⟩
    obtain rfl : s = 52 := by omega
    intro t σ T c1 c2 M H
    show Jp W ex z o a (12 * 0) σ T c1 c2 (fX3_both_26 _ _ _ _ _ _ _) (fX0_both_26 _ _ _ _ _ _ _ _ _ _)
    rw [fX3_both_26, ifltr 51 (by decide) (by decide), if_pos (by decide), fX0_both_26, ifler 52 (by decide) (by decide), if_pos (by decide)]
    exact Jp.ret M H _
  | j + 1, s, fuel, fuel', hj, hf, hf' => by
    obtain ⟨m, rfl⟩ : ∃ m, fuel = m + 1 := ⟨fuel - 1, by omega⟩
    obtain ⟨m', rfl⟩ : ∃ m', fuel' = m' + 1 := ⟨fuel' - 1, by omega⟩
    have ih := j_bo O hc hp hn hb j (s + 1) m m' (by omega) (by omega) (by omega)
    intro t σ T c1 c2 M H
    show Jp W ex z o a (12 * (j + 1)) σ T c1 c2 (fX3_both_26 _ _ _ _ _ _ _) (fX0_both_26 _ _ _ _ _ _ _ _ _ _)
    rw [fX3_both_26, ifltr 51 (by decide) (by omega), if_neg (by omega), fX0_both_26, ifler 52 (by decide) (by omega), if_neg (by omega)]
    exact (j_bi O hc hp hn hb (by omega) (fun a0 a1 a2 a3 a4 a5 => fX3_both_26 m a0 a1 a2 a3 a4 a5) (fun a0 a1 a2 a3 a4 a5 a6 => fX0_both_26 ex z m' a0 a1 a2 a3 a4 a5 a6) ih 12 0 1000 1000 (by omega) (by omega) (by omega) t σ T c1 c2 M H).mono (by omega)
theorem b_both (M : MW t W) (H : CW σ T ex z o a W) (O : W.OK) (x1 x2 x3 x4 : Int32) : Both σ T ex z o a (fX3_both x1 x2 x3 x4 t) (fX0_both ex z o x1 x2 x3 x4 (σ, 0, 0)) := by
  obtain ⟨at_, hob⟩ := H.obj
  unfold fX3_both fX0_both
  rw [X_t hob (by decide)]
  by_cases h : ∃ c p n, c < W.C.R.n ∧ 1 ≤ p ∧ p ≤ 9 ∧ n ≤ 200 ∧ x1 = nI c ∧ x2 = nI p ∧ x3 = nI n
  · obtain ⟨c, p, n, hc, hp0, hp, hn, rfl, rfl, rfl⟩ := h
    rw [m_ask1 M O hc hp0 hp hn, gm_some, if_neg n10, c_ask1 H O hc hp0 hp hn, gb_two, if_neg n10]
    by_cases h : ∃ c, 0 ≤ c ∧ c ≤ 1 ∧ x4 = nI c
    · obtain ⟨b, -, hb, rfl⟩ := h
      rw [m_iL1 0 1 t (by omega) hb (by decide), gm_some, if_neg n10, c_iL1 0 1 _ (by omega) hb (by decide), gb_two, if_neg n10]
      exact Both.jt (j_bo (z := z) O hc hp hn hb 52 0 1000 1000 (by omega) (by omega) (by omega)) M H O (by omega)
    · rw [m_iL0 0 1 t (by omega) (by decide) h, gm_some, if_pos rfl, c_iL0 0 1 _ (by omega) (by decide) h, gb_two, if_pos rfl]
      exact Both.same M H O _ rfl rfl
  · rw [m_ask0 M O h, gm_some, if_pos rfl, c_ask0 H O h, gb_two, if_pos rfl]
    exact Both.same M H O _ rfl rfl
end O7
