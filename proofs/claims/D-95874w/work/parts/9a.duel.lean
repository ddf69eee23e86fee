/-! duel -/
set_option maxRecDepth 100000
def Rc.dq (R : Rc) (a b n x y : Nat) : Rc := ((R.trn a (60 * x)).trn b (60 * y)).gos none n
def Rc.duV (R : Rc) (a b n x y : Nat) : Int32 := nI ((R.dq a b n x y).p a) - nI ((R.dq a b n x y).p b)
theorem MT.a10 {t0 t : MS} {Q : Rc} (H : MT t0 t Q) (k : Nat) (v : Int32) : MT (setA t0 10 k v) (setA t 10 k v) Q := by
  obtain ⟨h1, h2, h3, h4, h5⟩ := H
  refine ⟨h1.a1 (by decide), h2, fun j a b => ?_, h4, fun i hi => ?_⟩
  · by_cases hj : j = 10
    · subst hj; rw [setA_same, setA_same, h3 10 a b]
    · rw [setA_other _ _ _ hj, setA_other _ _ _ hj]; exact h3 j a b
  · rw [setA_other _ _ _ (by decide), setA_other _ _ _ (by decide)]; exact h5 i hi
theorem Sb.a10 (t : MS) (k : Nat) (v : Int32) : Sb t (setA t 10 k v) := ⟨rfl, fun j _ _ _ h => setA_other _ _ _ h, rfl, fun i _ => by rw [setA_other _ _ _ (by decide)]⟩
/-- whether it rests there, by the first i -/
def rstN (V : Nat → Nat → Int32) (x y : Nat) : Nat → Bool
  | 0 => true
  | i + 1 => rstN V x y i && (!decide (V x y < V i y) && !decide (V x i < V x y))
def rst (V : Nat → Nat → Int32) (k : Nat) : Bool := rstN V (k / 12) (k % 12) 12
def codeK (k : Nat) : Int32 := nI (100 * (k / 12) + k % 12)
def fF (P : Nat → Bool) : Nat → Int32
  | 0 => -4
  | k + 1 => if P k = true ∧ cnt P k = 0 then codeK k else fF P k
def lfF (P : Nat → Bool) : Nat → Nat → Int32
  | 0, _ => -4
  | d + 1, k => if P k = true then codeK k else lfF P d (k + 1)
theorem fF_none (P : Nat → Bool) : ∀ k, cnt P k = 0 → fF P k = -4
  | 0, _ => rfl
  | k + 1, h => by
    rw [cnt_succ] at h
    show (if P k = true ∧ cnt P k = 0 then codeK k else fF P k) = -4
    by_cases hp : P k = true
    · rw [if_pos hp] at h; omega
    · rw [if_neg (fun g => hp g.1)]
      exact fF_none P k (by omega)
theorem fF_G (P : Nat → Bool) : ∀ k, k ≤ 144 → (if cnt P k = 0 then lfF P (144 - k) k else fF P k) = lfF P 144 0
  | 0, _ => rfl
  | k + 1, h => by
    have ih := fF_G P k (by omega)
    rw [← ih, show 144 - k = 144 - (k + 1) + 1 by omega]
    show (if cnt P (k + 1) = 0 then lfF P (144 - (k + 1)) (k + 1) else (if P k = true ∧ cnt P k = 0 then codeK k else fF P k)) = if cnt P k = 0 then (if P k = true then codeK k else lfF P (144 - (k + 1)) (k + 1)) else fF P k
    rw [cnt_succ]
    by_cases hp : P k = true
    · rw [if_pos hp, if_neg (show ¬ cnt P k + 1 = 0 by omega)]
      by_cases hc : cnt P k = 0
      · rw [if_pos ⟨hp, hc⟩, if_pos hc, if_pos hp]
      · rw [if_neg (fun g => hc g.2), if_neg hc]
    · rw [if_neg hp, Nat.add_zero]
      by_cases hc : cnt P k = 0
      · rw [if_pos hc, if_pos hc, if_neg hp]
      · rw [if_neg hc, if_neg hc, if_neg (fun g => hp g.1)]
theorem fF_eq (P : Nat → Bool) : fF P 144 = lfF P 144 0 := by
  have h := fF_G P 144 (by omega)
  rw [← h]
  by_cases hc : cnt P 144 = 0
  · rw [if_pos hc, fF_none P 144 hc]; rfl
  · rw [if_neg hc]
theorem rstN_false {V : Nat → Nat → Int32} {x y i : Nat} (h : rstN V x y i = false) : ∀ d, rstN V x y (i + d) = false
  | 0 => h
  | d + 1 => by
    show (rstN V x y (i + d) && _) = false
    rw [rstN_false h d]; rfl
section O9a
variable {t : MS} {W : Wv} {σ : Sg} {T : Nat → Nat} {ex : Nat → Option Nat} {z o : Nat} {a : Nat → Nat}
theorem m_du44 (O : W.OK) {A B n bt : Nat} (hA : A < W.C.R.n) (hB : B < W.C.R.n) (hn : n ≤ 200) : ∀ (j k fuel : Nat) (t : MS), k + j = 144 → j < fuel → MW t W → (∀ i, i < k → t.2.1 10 i = W.C.R.duV A B n (i / 12) (i % 12)) → ∃ t', fX3_duel_44 fuel (nI A) (nI B) (nI n) (nI bt) (nI k) t = fX3_duel_133 1000 (nI bt) 0 (-4) 0 t' ∧ MW t' W ∧ ∀ i, i < 144 → t'.2.1 10 i = W.C.R.duV A B n (i / 12) (i % 12)
  | 0, k, fuel, t, hj, hf, M, h => by
    obtain ⟨m, rfl⟩ : ∃ m, fuel = m + 1 := ⟨fuel - 1, by omega⟩
    obtain rfl : k = 144 := by omega
    rw [fX3_duel_44, ifler 144 (by decide) (by decide), if_pos (Nat.le_refl _)]
    exact ⟨t, rfl, M, h⟩
  | j + 1, k, fuel, t, hj, hf, M, h => by
    obtain ⟨m, rfl⟩ : ∃ m, fuel = m + 1 := ⟨fuel - 1, by omega⟩
    have h9 := O.n
    have hnow := O.c.now
    have hx : k / 12 < 12 := by omega
    have hy : k % 12 < 12 := Nat.mod_lt _ (by decide)
    obtain ⟨t1, k1, k2⟩ := m_keepAside M.c.r
    obtain ⟨t2, a1, a2, a3⟩ := m_addHands (n := 60 * (k / 12)) k2.1 O.ba hA (by omega)
    have O2 := Rc.trn_OK O.c.r A (60 * (k / 12))
    obtain ⟨t3, b1, b2, b3⟩ := m_addHands (n := 60 * (k % 12)) a2 O2.b (c := B) hB (by omega)
    have O3 := Rc.trn_OK O2 B (60 * (k % 12))
    have hnw : ((W.C.R.trn A (60 * (k / 12))).trn B (60 * (k % 12))).now = W.C.R.now := rfl
    obtain ⟨t4, g1, g2⟩ := m_goHours (n := n) ((k2.sm a3 a2).sm b3 b2) alOK.no M.sky O3 (by omega) (by rw [hnw]; omega)
    have k4 := Rc.gos_keep ((W.C.R.trn A (60 * (k / 12))).trn B (60 * (k % 12))) none n
    have pA : t4.2.1 0 (42 + A) = nI ((W.C.R.dq A B n (k / 12) (k % 12)).p A) := g2.1.1.p A (by rw [k4.1]; exact hA)
    have pB : t4.2.1 0 (42 + B) = nI ((W.C.R.dq A B n (k / 12) (k % 12)).p B) := g2.1.1.p B (by rw [k4.1]; exact hB)
    obtain ⟨t5, c1, c2, c3⟩ := m_bringBack (g2.a10 k (W.C.R.duV A B n (k / 12) (k % 12)))
    have M5 := M.sb ((Sb.a10 t k (W.C.R.duV A B n (k / 12) (k % 12))).tr c2) O.n
    rw [fX3_duel_44, ifler 144 (by decide) (by omega), if_neg (by omega), k1, gm_some, ilit 12, pk_rem' 12 (by omega) (by decide) (by decide), nI_quo (by omega) (by decide), ilit 60, nI_mul, nI_mul, a1, gm_some, b1, gm_some, g1, gm_some, ilit 42, nI_add, nI_add, mald_nI (by omega) (by decide), mald_nI (by omega) (by decide), pA, pB, mast_nI (by omega) (by decide)]
    have c1' : fX3_bringBack (setA t4 10 k (nI ((W.C.R.dq A B n (k / 12) (k % 12)).p A) - nI ((W.C.R.dq A B n (k / 12) (k % 12)).p B))) = some ((), t5) := c1
    rw [c1', gm_some, nI_1]
    refine m_du44 O hA hB hn j (k + 1) m t5 (by omega) (by omega) M5 (fun i hi => ?_)
    rw [c3, setA_same]
    by_cases hq : i = k
    · subst hq; rw [upd_at]
    · rw [upd_no _ _ hq]; exact h i (by omega)
theorem m_rs4 {V : Nat → Nat → Int32} {k : Nat} (hk : k < 144) (h : ∀ i, i < 144 → t.2.1 10 i = V (i / 12) (i % 12)) : ∀ (j i fuel : Nat), i + j = 12 → j < fuel → fX3_doesRest_4 fuel (nI k) (b2 (rstN V (k / 12) (k % 12) i)) (nI i) t = some (b2 (rst V k), t)
  | 0, i, fuel, hj, hf => by
    obtain ⟨m, rfl⟩ : ∃ m, fuel = m + 1 := ⟨fuel - 1, by omega⟩
    obtain rfl : i = 12 := by omega
    rw [fX3_doesRest_4, ifler 12 (by decide) (by decide), if_pos (Nat.le_refl _), if_pos]
    · rfl
    · unfold b2; split
      · exact Or.inr rfl
      · exact Or.inl rfl
  | j + 1, i, fuel, hj, hf => by
    obtain ⟨m, rfl⟩ : ∃ m, fuel = m + 1 := ⟨fuel - 1, by omega⟩
    have hy : k % 12 < 12 := Nat.mod_lt _ (by decide)
    have ih := m_rs4 hk h j (i + 1) m (by omega) (by omega)
    rw [fX3_doesRest_4, ifler 12 (by decide) (by omega), if_neg (by omega)]
    unfold fX3_doesRest_64 fX3_doesRest_65
    rw [nI_1]
    by_cases hs : rstN V (k / 12) (k % 12) i = false
    · have e : rstN V (k / 12) (k % 12) (i + 1) = false := by show (rstN V (k / 12) (k % 12) i && _) = false; rw [hs]; rfl
      rw [if_pos (b2_0.mpr hs)]
      rw [e] at ih; exact ih
    · have hs' : rstN V (k / 12) (k % 12) i = true := by simpa using hs
      have e : rstN V (k / 12) (k % 12) (i + 1) = (!decide (V (k / 12) (k % 12) < V i (k % 12)) && !decide (V (k / 12) i < V (k / 12) (k % 12))) := by show (rstN V (k / 12) (k % 12) i && _) = _; rw [hs']; rfl
      have v1 : t.2.1 10 (12 * i + k % 12) = V i (k % 12) := by
        rw [h _ (by omega), show (12 * i + k % 12) / 12 = i by omega, show (12 * i + k % 12) % 12 = k % 12 by omega]
      have v2 : t.2.1 10 k = V (k / 12) (k % 12) := h k hk
      have v3 : t.2.1 10 (k / 12 * 12 + i) = V (k / 12) i := by
        rw [h _ (by omega), show (k / 12 * 12 + i) / 12 = k / 12 by omega, show (k / 12 * 12 + i) % 12 = i by omega]
      rw [if_neg (fun g => hs (b2_0.mp g)), ilit 12, pk_rem' 12 (by omega) (by decide) (by decide), nI_mul, nI_add, mald_nI (by omega) (by decide), v1, mald_nI (by omega) (by decide), v2, nI_quo (by omega) (by decide), nI_mul, nI_add, mald_nI (by omega) (by decide), v3, mald_nI (by omega) (by decide), v2]
      rw [e] at ih
      by_cases h1 : V (k / 12) (k % 12) < V i (k % 12)
      · rw [if_pos h1]
        rw [decide_eq_true h1] at ih; exact ih
      · rw [if_neg h1]
        rw [decide_eq_false h1] at ih
        by_cases h2 : V (k / 12) i < V (k / 12) (k % 12)
        · rw [if_pos h2]
          rw [decide_eq_true h2] at ih; exact ih
        · rw [if_neg h2]
          rw [decide_eq_false h2] at ih; exact ih
theorem m_du133 {V : Nat → Nat → Int32} {bt : Nat} (hbt : bt ≤ 1) (h : ∀ i, i < 144 → t.2.1 10 i = V (i / 12) (i % 12)) : ∀ (j k fuel : Nat), k + j = 144 → j < fuel → fX3_duel_133 fuel (nI bt) (nI (cnt (rst V) k)) (fF (rst V) k) (nI k) t = some (if bt = 0 then nI (cnt (rst V) 144) else fF (rst V) 144, t)
  | 0, k, fuel, hj, hf => by
    obtain ⟨m, rfl⟩ : ∃ m, fuel = m + 1 := ⟨fuel - 1, by omega⟩
    obtain rfl : k = 144 := by omega
    rw [fX3_duel_133, ifler 144 (by decide) (by decide), if_pos (Nat.le_refl _), ifl 0 (by omega) (by decide)]
    split <;> rfl
  | j + 1, k, fuel, hj, hf => by
    obtain ⟨m, rfl⟩ : ∃ m, fuel = m + 1 := ⟨fuel - 1, by omega⟩
    have ih := m_du133 hbt h j (k + 1) m (by omega) (by omega)
    have hle := cnt_le (rst V) k
    have hr : fX3_doesRest (nI k) t = some (b2 (rst V k), t) := m_rs4 (by omega) h 12 0 1000 (by omega) (by omega)
    have e1 : fF (rst V) (k + 1) = if rst V k = true ∧ cnt (rst V) k = 0 then codeK k else fF (rst V) k := rfl
    rw [fX3_duel_133, ifler 144 (by decide) (by omega), if_neg (by omega), hr, gm_some]
    unfold fX3_duel_174 fX3_duel_179
    rw [nI_1]
    rw [e1, cnt_succ] at ih
    by_cases hs : rst V k = false
    · have hs2 : ¬ rst V k = true := by rw [hs]; decide
      rw [if_pos (b2_0.mpr hs)]
      rw [if_neg hs2, Nat.add_zero, if_neg (fun g => hs2 g.1)] at ih
      exact ih
    · have hs2 : rst V k = true := by simpa using hs
      rw [if_neg (fun g => hs (b2_0.mp g)), ifl 0 (by omega) (by decide), ilit 12, pk_rem' 12 (by omega) (by decide) (by decide), nI_quo (by omega) (by decide), ilit 100, nI_mul, nI_add, nI_1]
      rw [if_pos hs2] at ih
      by_cases hc : cnt (rst V) k = 0
      · rw [if_pos hc]
        rw [if_pos ⟨hs2, hc⟩] at ih
        exact ih
      · rw [if_neg hc]
        rw [if_neg (fun g => hc g.2)] at ih
        exact ih
/-- the table of a duel in the store: the first k are V's -/
def DR (σ : Sg) (T : Nat → Nat) (d : Nat) (V : Nat → Nat → Int32) (k : Nat) : Prop := T d = 11 ∧ ∃ (f : Nat → Option Nat) (r : Nat → Nat) (v : Nat → Nat → Int32), σ d = some (true, .inl (6, 12, .inr (.inr (.inr (.inr f))))) ∧ (∀ i, i < 12 → f i = some (r i) ∧ T (r i) = 16 ∧ σ (r i) = some (true, .inl (2, 12, .inl (v i))) ∧ ∀ j, j < 12 → r i = r j → i = j) ∧ ∀ i, i < 12 → ∀ j, j < 12 → 12 * i + j < k → v i j = V i j
theorem DR.kp {σ' : Sg} {T' : Nat → Nat} {d k : Nat} {V : Nat → Nat → Int32} (H : DR σ T d V k) (K : Kp T σ T' σ' (fun i => i ≠ 3)) : DR σ' T' d V k := by
  obtain ⟨h1, f, r, v, h2, h3, h4⟩ := H
  obtain ⟨a1, a2⟩ := K.at h1 (by decide) (by decide)
  refine ⟨a1, f, r, v, a2.trans h2, fun i hi => ?_, h4⟩
  obtain ⟨x1, x2, x3, x4⟩ := h3 i hi
  obtain ⟨b1, b2⟩ := K.at x2 (by decide) (by decide)
  exact ⟨x1, b1, b2.trans x3, x4⟩
theorem DR.due {d k : Nat} {V : Nat → Nat → Int32} (H : DR σ T d V k) : PDue σ T ex d := by
  obtain ⟨h1, f, r, v, h2, h3, h4⟩ := H
  exact ⟨h1, f, r, h2, fun i hi => ⟨(h3 i hi).1, (h3 i hi).2.1, ⟨v i, (h3 i hi).2.2.1⟩, (h3 i hi).2.2.2⟩⟩
theorem CW.dr0 (H : CW σ T ex z o a W) (V : Nat → Nat → Int32) : DR σ T (a 3) V 0 := by
  obtain ⟨h1, f, r, h2, h3⟩ := H.du
  have hv : ∀ i, ∃ v : Nat → Int32, i < 12 → σ (r i) = some (true, .inl (2, 12, .inl v)) := fun i => by
    by_cases hi : i < 12
    · obtain ⟨v, hv⟩ := (h3 i hi).2.2.1
      exact ⟨v, fun _ => hv⟩
    · exact ⟨fun _ => 0, fun g => absurd g hi⟩
  exact ⟨h1, f, r, fun i => (hv i).choose, h2, fun i hi => ⟨(h3 i hi).1, (h3 i hi).2.1, (hv i).choose_spec hi, (h3 i hi).2.2.2⟩, fun i _ j _ hk => by omega⟩
theorem c_du54 (O : W.OK) {A B n x : Nat} (hA : A < W.C.R.n) (hB : B < W.C.R.n) (hn : n ≤ 200) (hx : x < 12) (xb : Int32) (kc : Nat → Int32 → Int32 → Int32 → Int32 → Int32 → St → Option (Int32 × St)) : ∀ (j y fuel : Nat) (σ : Sg) (T : Nat → Nat) (c1 c2 : Nat), y + j = 12 → j < fuel → CW σ T ex (z + c1) o a W → DR σ T (a 3) (W.C.R.duV A B n) (12 * x + y) → ∃ σ' T' d1 d2, fX0_duel_54 ex z kc fuel o (nI A) (nI B) (nI n) xb (nI x) (nI y) (σ, c1, c2) = kc o (nI A) (nI B) (nI n) xb (nI (x + 1)) (σ', c1 + d1, c2 + d2) ∧ CW σ' T' ex (z + (c1 + d1)) o a W ∧ DR σ' T' (a 3) (W.C.R.duV A B n) (12 * x + 12) ∧ Kp T σ T' σ' (fun i => i = 50) ∧ d1 ≤ 10 * j ∧ d2 ≤ 64 * j
  | 0, y, fuel, σ, T, c1, c2, hj, hf, H, hD => by
    obtain ⟨m, rfl⟩ : ∃ m, fuel = m + 1 := ⟨fuel - 1, by omega⟩
    obtain rfl : y = 12 := by omega
    rw [fX0_duel_54, ifler 12 (by decide) (by decide), if_pos (Nat.le_refl _), nI_1]
    exact ⟨σ, T, 0, 0, rfl, H, hD, Kp.rf _ _ _, by omega, by omega⟩
  | j + 1, y, fuel, σ, T, c1, c2, hj, hf, H, hD => by
    obtain ⟨m, rfl⟩ : ∃ m, fuel = m + 1 := ⟨fuel - 1, by omega⟩
    have hy : y < 12 := by omega
    have hnow := O.c.now
    obtain ⟨at_, hob⟩ := H.obj
    obtain ⟨Q3, A3, al3, h3⟩ := H.tra
    obtain ⟨σ1, T1, Ad1, dc, ds, q1, q2, q3, q4, q5⟩ := ct_takes H O
    obtain ⟨at1, hob1⟩ := q2.1.obj
    obtain ⟨σ2, w1, w2, w3⟩ := rt_turns (n := 60 * x) q2.2.2 O.ba hA (by omega)
    have O2 := Rc.trn_OK O.c.r A (60 * x)
    obtain ⟨e2, f2⟩ := q2.put (al' := none) w2 O2.b w3
    obtain ⟨at2, hob2⟩ := e2.1.obj
    obtain ⟨σ3, u1, u2, u3⟩ := rt_turns (n := 60 * y) e2.2.2 O2.b (c := B) hB (by omega)
    have O3 := Rc.trn_OK O2 B (60 * y)
    obtain ⟨e3, f3⟩ := e2.put (al' := none) u2 O3.b u3
    obtain ⟨at3, hob3⟩ := e3.1.obj
    have hnw : ((W.C.R.trn A (60 * x)).trn B (60 * y)).now = W.C.R.now := rfl
    obtain ⟨σ4, v1, v2, v3⟩ := ct_goOn (n := n) e3 alOK.no O3 (by omega) (by rw [hnw]; omega) (z + (c1 + dc))
    obtain ⟨at4, hob4⟩ := v2.1.obj
    have O4 := Rc.gos_OK O3 none n (by rw [hnw]; omega)
    have k4 := Rc.gos_keep ((W.C.R.trn A (60 * x)).trn B (60 * y)) none n
    have hA4 : A < (W.C.R.dq A B n x y).n := by show A < (((W.C.R.trn A (60 * x)).trn B (60 * y)).gos none n).n; rw [k4.1]; exact hA
    have hB4 : B < (W.C.R.dq A B n x y).n := by show B < (((W.C.R.trn A (60 * x)).trn B (60 * y)).gos none n).n; rw [k4.1]; exact hB
    have v2' : CT σ4 T1 ex (z + c1 + dc) o a W Ad1 (W.C.R.dq A B n x y) none := v2
    have O4' : (W.C.R.dq A B n x y).OK := O4
    have K4 : Kp T σ T1 σ4 (fun i => i ≠ 3) := ((q3.tr f2).tr f3).tr v3
    obtain ⟨hd1, f, r, v, hd2, hd3, hd4⟩ := hD.kp K4
    obtain ⟨r1, r2, r3, r4⟩ := hd3 x hx
    have hA2 : A < (W.C.R.trn A (60 * x)).n := hA
    have hB2 : B < (W.C.R.trn A (60 * x)).n := hB
    have o5 : Ow T1 16 σ4 (z + c1 + dc) (g_u σ4 (r x) (true, .inl (2, 12, .inl (upd (v x) y (W.C.R.duV A B n x y))))) (z + c1 + dc) := Ow.put r2 _
    have K5 := o5.kp0 v2.1.fr
    have D5 : DR (g_u σ4 (r x) (true, .inl (2, 12, .inl (upd (v x) y (W.C.R.duV A B n x y))))) T1 (a 3) (W.C.R.duV A B n) (12 * x + (y + 1)) := by
      refine ⟨hd1, f, r, fun i => if i = x then upd (v x) y (W.C.R.duV A B n x y) else v i, ?_, fun i hi => ?_, fun i hi q hq hlt => ?_⟩
      · rw [g_u_ne]
        · exact hd2
        · intro g; rw [← g, hd1] at r2; exact absurd r2 (by decide)
      · obtain ⟨y1, y2, y3, y4⟩ := hd3 i hi
        refine ⟨y1, y2, ?_, y4⟩
        show _ = some (true, Sum.inl (2, 12, Sum.inl (if i = x then upd (v x) y (W.C.R.duV A B n x y) else v i)))
        by_cases hix : i = x
        · subst hix; rw [if_pos rfl]; exact g_u_self _ _ _
        · rw [if_neg hix, g_u_ne _ _ (fun g => hix (y4 x hx g))]; exact y3
      · show (if i = x then upd (v x) y (W.C.R.duV A B n x y) else v i) q = _
        by_cases hix : i = x
        · subst hix
          rw [if_pos rfl]
          by_cases hqy : q = y
          · subst hqy; rw [upd_at]
          · rw [upd_no _ _ hqy]; exact hd4 i hi q hq (by omega)
        · rw [if_neg hix]; exact hd4 i hi q hq (by omega)
    have H5 : CW (g_u σ4 (r x) (true, .inl (2, 12, .inl (upd (v x) y (W.C.R.duV A B n x y))))) T1 ex (z + (c1 + dc)) o a W := by
      rw [← Nat.add_assoc]
      exact v2.1.u_du (W' := W) v2.1.fr (K5.sub (fun i h g => h (Or.inr g))) D5.due rfl rfl rfl rfl rfl rfl rfl rfl rfl rfl rfl rfl rfl rfl rfl rfl rfl rfl rfl rfl rfl rfl rfl rfl
    rw [fX0_duel_54, ifler 12 (by decide) (by omega), if_neg (by omega), A_t hob (by decide) rfl, A_t hob (by decide) rfl, X_t h3 (by decide), q1, gb_app, A_t hob1 (by decide) rfl, X_t q2.ra (by decide), q2.clock O.ba hA, gb_two, X_t (q2.ck hA) (kin (O.ba.k A hA)), ilit 60, nI_mul, w1, gb_z, A_t hob2 (by decide) rfl, X_t e2.ra (by decide), e2.clock O2.b hB2, gb_two, X_t (e2.ck hB2) (kin (O2.b.k B hB2)), nI_mul, u1, gb_z, X_t hob3 (by decide), v1, gb_z, A_t hob4 (by decide) rfl, aldA_t hd2 hx (by decide) r1, A_t hob4 (by decide) rfl, X_t v2.ra (by decide), v2'.clock O4'.b hA4, gb_two, I_t (v2'.ck hA4) (kin (O4'.b.k A hA4)) rfl, A_t hob4 (by decide) rfl, X_t v2.ra (by decide), v2'.clock O4'.b hB4, gb_two, I_t (v2'.ck hB4) (kin (O4'.b.k B hB4)) rfl, ast_t r3 hy (by decide), nI_1]
    obtain ⟨σ6, T6, d1, d2, s1, s2, s3, s4, s5, s6⟩ := c_du54 O hA hB hn hx xb kc j (y + 1) m _ T1 (c1 + dc) (c2 + ds) (by omega) (by omega) H5 D5
    refine ⟨σ6, T6, dc + d1, ds + d2, ?_, ?_, s3, ((K4.sub (fun i h => by rw [h]; decide)).tr (K5.sub (fun i h => by rw [h]; decide))).tr s4, by omega, by omega⟩
    · refine s1.trans ?_
      rw [Nat.add_assoc, Nat.add_assoc]
    · rw [← Nat.add_assoc c1]; exact s2
theorem c_du44 (O : W.OK) {A B n : Nat} (hA : A < W.C.R.n) (hB : B < W.C.R.n) (hn : n ≤ 200) (xb : Int32) : ∀ (j x fuel : Nat) (σ : Sg) (T : Nat → Nat) (c1 c2 : Nat), x + j = 12 → j < fuel → CW σ T ex (z + c1) o a W → DR σ T (a 3) (W.C.R.duV A B n) (12 * x) → ∃ σ' T' d1 d2, fX0_duel_44 ex z fuel o (nI A) (nI B) (nI n) xb (nI x) (σ, c1, c2) = fX0_duel_165 ex z 1000 o xb 0 (-4) 11 (σ', c1 + d1, c2 + d2) ∧ CW σ' T' ex (z + (c1 + d1)) o a W ∧ DR σ' T' (a 3) (W.C.R.duV A B n) 144 ∧ Kp T σ T' σ' (fun i => i = 50) ∧ d1 ≤ 120 * j ∧ d2 ≤ 768 * j
  | 0, x, fuel, σ, T, c1, c2, hj, hf, H, hD => by
    obtain ⟨m, rfl⟩ : ∃ m, fuel = m + 1 := ⟨fuel - 1, by omega⟩
    obtain rfl : x = 12 := by omega
    rw [fX0_duel_44, ifler 12 (by decide) (by decide), if_pos (Nat.le_refl _)]
    exact ⟨σ, T, 0, 0, rfl, H, hD, Kp.rf _ _ _, by omega, by omega⟩
  | j + 1, x, fuel, σ, T, c1, c2, hj, hf, H, hD => by
    obtain ⟨m, rfl⟩ : ∃ m, fuel = m + 1 := ⟨fuel - 1, by omega⟩
    obtain ⟨σ1, T1, d1, d2, s1, s2, s3, s4, s5, s6⟩ := c_du54 O hA hB hn (show x < 12 by omega) xb (fun a0 a1 a2 a3 a4 a5 a6 => fX0_duel_44 ex z m a0 a1 a2 a3 a4 a5 a6) 12 0 1000 σ T c1 c2 (by omega) (by omega) H hD
    obtain ⟨σ2, T2, e1, e2, r1, r2, r3, r4, r5, r6⟩ := c_du44 O hA hB hn xb j (x + 1) m σ1 T1 (c1 + d1) (c2 + d2) (by omega) (by omega) s2 s3
    rw [fX0_duel_44, ifler 12 (by decide) (by omega), if_neg (by omega)]
    refine ⟨σ2, T2, d1 + e1, d2 + e2, ?_, ?_, r3, s4.tr r4, by omega, by omega⟩
    · refine s1.trans (r1.trans ?_)
      rw [Nat.add_assoc, Nat.add_assoc]
    · rw [← Nat.add_assoc c1]; exact r2
theorem c_rs2 {V : Nat → Nat → Int32} {x y zz : Nat} (H : CW σ T ex z o a W) (hD : DR σ T (a 3) V 144) (hx : x < 12) (hy : y < 12) (c : Nat × Nat) : ∀ (j k fuel : Nat), k + j = 12 → j < fuel → rstN V x y k = true → fX0_rests_2 ex zz fuel o (nI x) (nI y) (nI k) (σ, c) = some (b2 (rstN V x y 12), (σ, c))
  | 0, k, fuel, hj, hf, hr => by
    obtain ⟨m, rfl⟩ : ∃ m, fuel = m + 1 := ⟨fuel - 1, by omega⟩
    obtain rfl : k = 12 := by omega
    rw [fX0_rests_2, ifler 12 (by decide) (by decide), if_pos (Nat.le_refl _), hr]
    rfl
  | j + 1, k, fuel, hj, hf, hr => by
    obtain ⟨m, rfl⟩ : ∃ m, fuel = m + 1 := ⟨fuel - 1, by omega⟩
    have hk : k < 12 := by omega
    obtain ⟨at_, hob⟩ := H.obj
    obtain ⟨-, f, r, v, hd2, hd3, hd4⟩ := id hD
    obtain ⟨rk1, rk2, rk3, -⟩ := hd3 k hk
    obtain ⟨rx1, rx2, rx3, -⟩ := hd3 x hx
    have e : rstN V x y (k + 1) = (!decide (V x y < V k y) && !decide (V x k < V x y)) := by show (rstN V x y k && _) = _; rw [hr]; rfl
    rw [fX0_rests_2, ifler 12 (by decide) (by omega), if_neg (by omega), A_t hob (by decide) rfl, aldA_t hd2 hk (by decide) rk1, ald_t rk3 hy (by decide), A_t hob (by decide) rfl, aldA_t hd2 hx (by decide) rx1, ald_t rx3 hy (by decide), A_t hob (by decide) rfl, aldA_t hd2 hx (by decide) rx1, ald_t rx3 hk (by decide), A_t hob (by decide) rfl, aldA_t hd2 hx (by decide) rx1, ald_t rx3 hy (by decide), hd4 k hk y hy (by omega), hd4 x hx y hy (by omega), hd4 x hx k hk (by omega), nI_1]
    by_cases h1 : V x y < V k y
    · rw [decide_eq_true h1] at e
      have := rstN_false (show rstN V x y (k + 1) = false from e) j
      rw [show k + 1 + j = 12 by omega] at this
      rw [if_pos h1, this]; rfl
    · rw [decide_eq_false h1] at e
      rw [if_neg h1]
      by_cases h2 : V x k < V x y
      · rw [decide_eq_true h2] at e
        have := rstN_false (show rstN V x y (k + 1) = false from e) j
        rw [show k + 1 + j = 12 by omega] at this
        rw [if_neg (fun g => by rw [Int32.lt_iff_toInt_lt] at h2; rw [Int32.le_iff_toInt_le] at g; omega), this]; rfl
      · rw [decide_eq_false h2] at e
        rw [if_pos (by rw [Int32.lt_iff_toInt_lt] at h2; rw [Int32.le_iff_toInt_le]; omega)]
        exact c_rs2 H hD hx hy c j (k + 1) m (by omega) (by omega) e
/-- many and first of those from k on -/
def cB (P : Nat → Bool) (k : Nat) : Nat := cnt P 144 - cnt P k
theorem cB_step (P : Nat → Bool) {k : Nat} (hk : k < 144) : cB P k = cB P (k + 1) + if P k = true then 1 else 0 := by
  unfold cB
  have h1 := cnt_mono P (show k + 1 ≤ 144 from hk)
  have e := cnt_succ P k
  rw [e] at h1
  rw [e]
  by_cases hp : P k = true
  · rw [if_pos hp] at h1 ⊢; omega
  · rw [if_neg hp] at h1 ⊢; omega
def bF (P : Nat → Bool) (k : Nat) : Int32 := lfF P (144 - k) k
theorem bF_step (P : Nat → Bool) {k : Nat} (hk : k < 144) : bF P k = if P k = true then codeK k else bF P (k + 1) := by
  unfold bF
  rw [show 144 - k = 144 - (k + 1) + 1 by omega]
  rfl
theorem c_du174 {V : Nat → Nat → Int32} {zf x : Nat} (H : CW σ T ex z o a W) (hD : DR σ T (a 3) V 144) (hx : x < 12) (xb : Int32) (c : Nat × Nat) (kc : Nat → Int32 → Int32 → Int32 → Int32 → St → Option (Int32 × St)) : ∀ (y fuel : Nat), y ≤ 12 → y < fuel → fX0_duel_174 ex zf kc fuel o xb (nI (cB (rst V) (12 * x + y))) (bF (rst V) (12 * x + y)) (nI x) (nI y - 1) (σ, c) = kc o xb (nI (cB (rst V) (12 * x))) (bF (rst V) (12 * x)) (nI x - 1) (σ, c)
  | 0, fuel, hy, hf => by
    obtain ⟨m, rfl⟩ : ∃ m, fuel = m + 1 := ⟨fuel - 1, by omega⟩
    rw [fX0_duel_174, if_pos (by decide), Nat.add_zero, Int32.sub_eq_add_neg]
  | y + 1, fuel, hy, hf => by
    obtain ⟨m, rfl⟩ : ∃ m, fuel = m + 1 := ⟨fuel - 1, by omega⟩
    obtain ⟨at_, hob⟩ := H.obj
    have ih := c_du174 (zf := zf) H hD hx xb c kc y m (by omega) (by omega)
    have hk : 12 * x + y < 144 := by omega
    have hr : ∀ zz cc, fX0_rests ex zz o (nI x) (nI y) (σ, cc) = some (b2 (rst V (12 * x + y)), (σ, cc)) := fun zz cc => by
      have := c_rs2 (zz := zz) H hD hx (show y < 12 by omega) cc 12 0 1000 (by omega) (by omega) rfl
      unfold rst
      rw [show (12 * x + y) / 12 = x by omega, show (12 * x + y) % 12 = y by omega]
      exact this
    have hcd : codeK (12 * x + y) = nI (100 * x + y) := by
      unfold codeK
      rw [show (12 * x + y) / 12 = x by omega, show (12 * x + y) % 12 = y by omega]
    rw [cB_step _ hk, bF_step _ hk] at ih
    rw [fX0_duel_174, nI_sub1 (by omega), Nat.add_sub_cancel, if_neg (nI_pos (by omega)), X_t hob (by decide), hr, gb_two]
    unfold fX0_duel_206
    simp only [lt]
    have em : nI y + (-1) = nI y - 1 := by rw [Int32.sub_eq_add_neg]
    rw [em]
    by_cases hs : rst V (12 * x + y) = false
    · have hs2 : ¬ rst V (12 * x + y) = true := by rw [hs]; decide
      rw [if_pos (b2_0.mpr hs)]
      rw [if_neg hs2, if_neg hs2, Nat.add_zero] at ih
      exact ih
    · have hs2 : rst V (12 * x + y) = true := by simpa using hs
      rw [if_neg (fun g => hs (b2_0.mp g)), ilit 100, nI_mul, nI_add, nI_1]
      rw [if_pos hs2, if_pos hs2, hcd] at ih
      exact ih
theorem c_du165 {V : Nat → Nat → Int32} {zf bt : Nat} (hbt : bt ≤ 1) (H : CW σ T ex z o a W) (hD : DR σ T (a 3) V 144) (c : Nat × Nat) : ∀ (x fuel : Nat), x ≤ 12 → x < fuel → fX0_duel_165 ex zf fuel o (nI bt) (nI (cB (rst V) (12 * x))) (bF (rst V) (12 * x)) (nI x - 1) (σ, c) = some (if bt = 0 then nI (cB (rst V) 0) else bF (rst V) 0, (σ, c))
  | 0, fuel, hx, hf => by
    obtain ⟨m, rfl⟩ : ∃ m, fuel = m + 1 := ⟨fuel - 1, by omega⟩
    rw [fX0_duel_165, if_pos (by decide), ifl 0 (by omega) (by decide)]
    split <;> rfl
  | x + 1, fuel, hx, hf => by
    obtain ⟨m, rfl⟩ : ∃ m, fuel = m + 1 := ⟨fuel - 1, by omega⟩
    have ih := c_du165 (zf := zf) hbt H hD c x m (by omega) (by omega)
    have r := c_du174 (zf := zf) H hD (show x < 12 by omega) (nI bt) c (fun a0 a1 a2 a3 a4 a5 => fX0_duel_165 ex zf m a0 a1 a2 a3 a4 a5) 12 1000 (by omega) (by omega)
    rw [fX0_duel_165, nI_sub1 (by omega), Nat.add_sub_cancel, if_neg (nI_pos (by omega))]
    exact r.trans ih
theorem b_duel (M : MW t W) (H : CW σ T ex z o a W) (O : W.OK) (x1 x2 x3 x4 : Int32) : Both σ T ex z o a (fX3_duel x1 x2 x3 x4 t) (fX0_duel ex z o x1 x2 x3 x4 (σ, 0, 0)) := by
  obtain ⟨at_, hob⟩ := H.obj
  have h9 := O.n
  unfold fX3_duel fX0_duel
  rw [X_t hob (by decide)]
  by_cases h : ∃ i, i < W.C.R.n ∧ x1 = nI i
  · obtain ⟨A, hA, rfl⟩ := h
    rw [m_clk1 M O hA, gm_some, if_neg n10, c_clk1 H O hA, gb_two, if_neg n10, X_t hob (by decide)]
    by_cases h : ∃ i, i < W.C.R.n ∧ x2 = nI i
    · obtain ⟨B, hB, rfl⟩ := h
      rw [m_clk1 M O hB, gm_some, if_neg n10, c_clk1 H O hB, gb_two, if_neg n10]
      by_cases hab : nI A = nI B
      · rw [if_pos hab, if_pos hab]
        exact Both.same M H O _ rfl rfl
      rw [if_neg hab, if_neg hab]
      by_cases h : ∃ c, 0 ≤ c ∧ c ≤ 200 ∧ x3 = nI c
      · obtain ⟨n, -, hn, rfl⟩ := h
        rw [m_long1 hn, gm_some, if_neg n10, c_few1 hn, gb_two, if_neg n10]
        by_cases h : ∃ c, 0 ≤ c ∧ c ≤ 1 ∧ x4 = nI c
        · obtain ⟨bt, -, hbt, rfl⟩ := h
          rw [m_iL1 0 1 t (by omega) hbt (by decide), gm_some, if_neg n10, c_iL1 0 1 _ (by omega) hbt (by decide), gb_two, if_neg n10]
          obtain ⟨t1, m1, m2, m3⟩ := m_du44 (bt := bt) O hA hB hn 144 0 1000 t (by omega) (by omega) M (fun i hi => by omega)
          have m1' : fX3_duel_44 1000 (nI A) (nI B) (nI n) (nI bt) 0 t = fX3_duel_133 1000 (nI bt) 0 (-4) 0 t1 := m1
          have m4 : fX3_duel_133 1000 (nI bt) 0 (-4) 0 t1 = some (if bt = 0 then nI (cnt (rst (W.C.R.duV A B n)) 144) else fF (rst (W.C.R.duV A B n)) 144, t1) := m_du133 hbt m3 144 0 1000 (by omega) (by omega)
          obtain ⟨σ1, T1, d1, d2, s1, s2, s3, s4, s5, s6⟩ := c_du44 (z := z) O hA hB hn (nI bt) 12 0 1000 σ T 0 0 (by omega) (by omega) H (H.dr0 _)
          have s1' : fX0_duel_44 ex z 1000 o (nI A) (nI B) (nI n) (nI bt) 0 (σ, 0, 0) = fX0_duel_165 ex z 1000 o (nI bt) 0 (-4) 11 (σ1, 0 + d1, 0 + d2) := s1
          have e0 : cB (rst (W.C.R.duV A B n)) (12 * 12) = 0 := Nat.sub_self _
          have r := c_du165 (zf := z) hbt s2 s3 (0 + d1, 0 + d2) 12 1000 (by omega) (by omega)
          rw [e0] at r
          have r' : fX0_duel_165 ex z 1000 o (nI bt) 0 (-4) 11 (σ1, 0 + d1, 0 + d2) = some (if bt = 0 then nI (cB (rst (W.C.R.duV A B n)) 0) else bF (rst (W.C.R.duV A B n)) 0, (σ1, 0 + d1, 0 + d2)) := r
          have e1 : cB (rst (W.C.R.duV A B n)) 0 = cnt (rst (W.C.R.duV A B n)) 144 := Nat.sub_zero _
          have e2 : bF (rst (W.C.R.duV A B n)) 0 = fF (rst (W.C.R.duV A B n)) 144 := (fF_eq _).symm
          rw [m1', m4, s1', r', e1, e2]
          simp only [Nat.zero_add] at s2 ⊢
          exact ⟨_, t1, W, σ1, T1, d1, d2, rfl, rfl, m2, s2, O, s4, by omega, by omega⟩
        · rw [m_iL0 0 1 t (by omega) (by decide) h, gm_some, if_pos rfl, c_iL0 0 1 _ (by omega) (by decide) h, gb_two, if_pos rfl]
          exact Both.same M H O _ rfl rfl
      · rw [m_long0 h, gm_some, if_pos rfl, c_few0 h, gb_two, if_pos rfl]
        exact Both.same M H O _ rfl rfl
    · rw [m_clk0 M O h, gm_some, if_pos rfl, c_clk0 H O h, gb_two, if_pos rfl]
      exact Both.same M H O _ rfl rfl
  · rw [m_clk0 M O h, gm_some, if_pos rfl, c_clk0 H O h, gb_two, if_pos rfl]
    exact Both.same M H O _ rfl rfl
end O9a
