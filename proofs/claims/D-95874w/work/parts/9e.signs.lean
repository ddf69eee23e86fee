/-! texts: rows of signs -/
set_option maxRecDepth 100000
def sgF (W : Wv) (i lo hi : Nat) : Nat → Nat → Nat → (Nat → Nat) → (Nat × (Nat → Nat)) ⊕ Nat
  | 0, k, p, g => if k < lo then .inr (W.sk p) else .inl (k, g)
  | j + 1, k, p, g => if W.nx p = 0 then (if k < lo then .inr (W.sk p) else .inl (k, g)) else match txI i (W.nx p) with
    | none => .inr (W.sk p)
    | some x => if k = hi then .inr (W.sk p) else sgF W i lo hi j (k + 1) (W.sk p + 1) (up g k x)
theorem sgF_0 {W : Wv} {i lo hi j k p : Nat} {g : Nat → Nat} (h : W.nx p = 0) : sgF W i lo hi j k p g = if k < lo then .inr (W.sk p) else .inl (k, g) := by
  cases j with
  | zero => rfl
  | succ j => rw [sgF, if_pos h]
theorem sgF_n {W : Wv} {i lo hi j k p : Nat} {g : Nat → Nat} (h : W.nx p ≠ 0) (e : txI i (W.nx p) = none) : sgF W i lo hi (j + 1) k p g = .inr (W.sk p) := by
  rw [sgF, if_neg h, e]
theorem sgF_s {W : Wv} {i lo hi j k p x : Nat} {g : Nat → Nat} (h : W.nx p ≠ 0) (e : txI i (W.nx p) = some x) : sgF W i lo hi (j + 1) k p g = if k = hi then .inr (W.sk p) else sgF W i lo hi j (k + 1) (W.sk p + 1) (up g k x) := by
  rw [sgF, if_neg h, e]
theorem sgF_ok {W : Wv} {i lo hi : Nat} (hlh : lo ≤ hi) : ∀ (j k p : Nat) (g : Nat → Nat) (k' : Nat) (g' : Nat → Nat), k ≤ hi → (∀ q, q < k → g q < (txt i).length) → sgF W i lo hi j k p g = .inl (k', g') → lo ≤ k' ∧ k' ≤ hi ∧ ∀ q, q < k' → g' q < (txt i).length := by
  have fin : ∀ (k : Nat) (g : Nat → Nat) (s k' : Nat) (g' : Nat → Nat), k ≤ hi → (∀ q, q < k → g q < (txt i).length) → (if k < lo then .inr s else .inl (k, g) : (Nat × (Nat → Nat)) ⊕ Nat) = .inl (k', g') → lo ≤ k' ∧ k' ≤ hi ∧ ∀ q, q < k' → g' q < (txt i).length := by
    intro k g s k' g' hk hg h
    by_cases c : k < lo
    · rw [if_pos c] at h; cases h
    · rw [if_neg c] at h
      cases h
      exact ⟨by omega, hk, hg⟩
  intro j
  induction j with
  | zero => intro k p g k' g' hk hg h; exact fin k g _ k' g' hk hg h
  | succ j ih =>
    intro k p g k' g' hk hg h
    by_cases h0 : W.nx p = 0
    · rw [sgF_0 h0] at h; exact fin k g _ k' g' hk hg h
    · cases e : txI i (W.nx p) with
      | none => rw [sgF_n h0 e] at h; cases h
      | some x =>
        rw [sgF_s h0 e] at h
        by_cases c : k = hi
        · rw [if_pos c] at h; cases h
        · rw [if_neg c] at h
          refine ih (k + 1) _ _ k' g' (by omega) (fun q hq => ?_) h
          by_cases hqk : q = k
          · subst hqk; rw [up_self]
            have := ixL_lt _ _ _ _ _ e
            omega
          · rw [up_ne _ _ hqk]; exact hg q (by omega)
section O9e
variable {t : MS} {W : Wv} {σ : Sg} {T : Nat → Nat} {ex : Nat → Option Nat} {z o : Nat} {a : Nat → Nat}
theorem nx_sk (W : Wv) (p : Nat) : W.nx (W.sk p) = W.nx p := by unfold Wv.nx; rw [sk_sk]
theorem lx_sk (W : Wv) (p : Nat) : W.lx (W.sk p) = W.lx p := by unfold Wv.lx; rw [sk_sk]
theorem r_sg (M : MW t W) (O : W.OK) {i lo hi : Nat} {x3 : Int32} (hx : (x3 = 0 ∧ i = 2) ∨ (x3 = 1 ∧ i = 1)) (hlh : lo ≤ hi) (hh : hi ≤ 24) : ∀ (j k p : Nat) (g : Nat → Nat) (f : Nat → Int32) (fuel : Nat), p ≤ W.tn → W.tn ≤ p + j → j < fuel → k ≤ hi → (∀ q, q < k → f q = nI (g q)) → (∃ k' g' q f', sgF W i lo hi j k p g = .inl (k', g') ∧ fX3_readSigns_10 fuel (nI lo) (nI hi) x3 (tx t p (nI k) f) = some (1, tx t q (nI k') f') ∧ (∀ q, q < k' → f' q = nI (g' q)) ∧ q ≤ W.tn) ∨ (∃ s n' f', sgF W i lo hi j k p g = .inr s ∧ fX3_readSigns_10 fuel (nI lo) (nI hi) x3 (tx t p (nI k) f) = some (0, tx t s n' f') ∧ s ≤ W.tn ∧ W.sk s = s) := by
  have zero : ∀ (j k p : Nat) (g : Nat → Nat) (f : Nat → Int32) (fuel : Nat), W.nx p = 0 → p ≤ W.tn → 0 < fuel → k ≤ hi → (∀ q, q < k → f q = nI (g q)) → (∃ k' g' q f', sgF W i lo hi j k p g = .inl (k', g') ∧ fX3_readSigns_10 fuel (nI lo) (nI hi) x3 (tx t p (nI k) f) = some (1, tx t q (nI k') f') ∧ (∀ q, q < k' → f' q = nI (g' q)) ∧ q ≤ W.tn) ∨ (∃ s n' f', sgF W i lo hi j k p g = .inr s ∧ fX3_readSigns_10 fuel (nI lo) (nI hi) x3 (tx t p (nI k) f) = some (0, tx t s n' f') ∧ s ≤ W.tn ∧ W.sk s = s) := by
    intro j k p g f fuel h0 hp hf hk hg
    obtain ⟨m, rfl⟩ : ∃ m, fuel = m + 1 := ⟨fuel - 1, by omega⟩
    have hs := sk_le hp
    have e17 : (tx t (W.sk p) (nI k) f).1 17 = nI k := rfl
    rw [sgF_0 h0, fX3_readSigns_10, r_next M O hp, gm_some, if_pos ((lx_neg O p).mpr h0), iflt lo e17 rfl (by omega) (by omega)]
    by_cases c : k < lo
    · rw [if_pos c, if_pos c]
      exact Or.inr ⟨_, _, _, rfl, rfl, hs.2, sk_sk p⟩
    · rw [if_neg c, if_neg c]
      exact Or.inl ⟨_, _, _, _, rfl, rfl, hg, hs.2⟩
  intro j
  induction j with
  | zero =>
    intro k p g f fuel hp hj hf hk hg
    refine zero 0 k p g f fuel ?_ hp (by omega) hk hg
    have := sk_le hp
    exact (nx_0 O p).mpr (by omega)
  | succ j ih =>
    intro k p g f fuel hp hj hf hk hg
    by_cases h0 : W.nx p = 0
    · exact zero (j + 1) k p g f fuel h0 hp (by omega) hk hg
    obtain ⟨m, rfl⟩ : ∃ m, fuel = m + 1 := ⟨fuel - 1, by omega⟩
    have hs := sk_le hp
    have hn := nx_le O p
    have hin := nx_in O h0 rfl
    have step : ∀ x3' : Int32, fX3_readSigns_10 (m + 1) (nI lo) (nI hi) x3 (tx t p (nI k) f) = fX3_readSigns_38 (fun a0 a1 a2 a3 => fX3_readSigns_10 m a0 a1 a2 a3) (nI lo) (nI hi) x3 (oI (txI i (W.nx p))) (tx t (W.sk p) (nI k) f) := by
      intro _
      rw [fX3_readSigns_10, r_next M O hp, gm_some, if_neg (fun g => h0 ((lx_neg O p).mp g)), r_next M O hs.2, gm_some, gm_some, sk_sk, lx_sk, lx_pos O h0]
      rcases hx with ⟨e1, e2⟩ | ⟨e1, e2⟩
      · rw [e1, e2, if_pos rfl, m_sky (by omega), gm_some]
      · rw [e1, e2, if_neg (show ¬ (1 : Int32) = 0 by decide), m_dial (by omega), gm_some]
    rw [step 0]
    cases e : txI i (W.nx p) with
    | none =>
      rw [sgF_n h0 e]
      exact Or.inr ⟨_, _, _, rfl, rfl, hs.2, sk_sk p⟩
    | some x =>
      have hxl := ixL_lt _ _ _ _ _ e
      obtain ⟨⟨l0, l1⟩, -⟩ := txt_b i (by omega) (by omega)
      have e17 : (tx t (W.sk p) (nI k) f).1 17 = nI k := rfl
      rw [sgF_s h0 e]
      unfold fX3_readSigns_38
      rw [show oI (some x) = nI x from rfl, if_neg (nI_pos (by omega)), e17, ife hi rfl (by omega) (by omega)]
      by_cases c : k = hi
      · rw [if_pos c, if_pos c]
        exact Or.inr ⟨_, _, _, rfl, rfl, hs.2, sk_sk p⟩
      · rw [if_neg c, if_neg c, mast_nI (by omega) (by decide), tx_a]
        simp only [lt]
        rw [show (tx t (W.sk p) (nI k) (upd f k (nI x))).1 17 = nI k from rfl, nI_1, tx_n, show (tx t (W.sk p) (nI (k + 1)) (upd f k (nI x))).1 16 = nI (W.sk p) from rfl, nI_1, tx_p]
        refine ih (k + 1) (W.sk p + 1) (up g k x) _ m (by omega) (by omega) (by omega) (by omega) (fun q hq => ?_)
        by_cases hqk : q = k
        · subst hqk; rw [up_self, upd_at]
        · rw [up_ne _ _ hqk, upd_no _ _ hqk]; exact hg q (by omega)
/-- the signs that the component has read -/
def SG (σ : Sg) (a : Nat → Nat) (k : Nat) (g : Nat → Nat) : Prop := ∃ f, σ (a 9) = some (true, .inl (0, 24, .inl f)) ∧ ∀ q, q < k → f q = nI (g q)
theorem SG.kp {σ' : Sg} {T' : Nat → Nat} {k : Nat} {g : Nat → Nat} (S : SG σ a k g) (H : CW σ T ex z o a W) (K : Kp T σ T' σ' (fun i => i ≠ 1)) : SG σ' a k g := by
  obtain ⟨f, h1, h2⟩ := S
  exact ⟨f, (K.at H.sg.1 (by decide) (by decide)).2.trans h1, h2⟩
theorem c_sg (O : W.OK) {i lo hi s : Nat} (h1 : 1 ≤ i) (h3 : i ≤ 3) (hs : ex i = some s) (hlh : lo ≤ hi) (hh : hi ≤ 24) : ∀ (j k p : Nat) (g : Nat → Nat) (σ : Sg) (fuel : Nat), p ≤ W.tn → W.tn ≤ p + j → j < fuel → k ≤ hi → CA σ T ex z o a W p → SG σ a k g → (∃ k' g' q σ', sgF W i lo hi j k p g = .inl (k', g') ∧ fX0_readSigns_3 ex z fuel o s (nI lo) (nI hi) (nI k) (σ, 0, 0) = some (.inl (nI k'), (σ', 0, 0)) ∧ CA σ' T ex z o a W q ∧ SG σ' a k' g' ∧ Kp T σ T σ' (fun i => i ≠ 1 ∧ i ≠ 13)) ∨ (∃ q b σ' T', sgF W i lo hi j k p g = .inr q ∧ fX0_readSigns_3 ex z fuel o s (nI lo) (nI hi) (nI k) (σ, 0, 0) = some (.inr b, (σ', 1, 7)) ∧ CW σ' T' ex (z + 1) o a W ∧ σ' b = some (fltC (nI q)) ∧ Kp T σ T' σ' (fun i => i ≠ 1 ∧ i ≠ 13)) := by
  intro j
  induction j with
  | zero =>
    intro k p g σ fuel hp hj hf hk H S
    obtain ⟨m, rfl⟩ : ∃ m, fuel = m + 1 := ⟨fuel - 1, by omega⟩
    have hsk := sk_le hp
    have h0 : W.nx p = 0 := (nx_0 O p).mpr (by omega)
    rw [sgF_0 h0, fX0_readSigns_3, ifle k rfl rfl (by omega) (by omega)]
    by_cases c : hi ≤ k
    · rw [if_pos c, X_t H.2 (by decide), if_neg (show ¬ k < lo by omega)]
      rcases c_ends H O hp with ⟨v, p', σ', r1, r2, r3, r4, r5⟩ | ⟨q, b, σ', T', r1, r2, r3, r4, r5, r6⟩
      · show (∃ k' g' q σ', _ ∧ gbT (fX0_ends ex z o (σ, 0, 0)) (σ, 0, 0) _ _ = _ ∧ _) ∨ _
        rw [r2, gbT_l]
        exact Or.inl ⟨_, _, _, _, rfl, rfl, r3, S.kp H.1 r4, r4.sub (fun i h => h.1)⟩
      · rw [if_pos h0] at r1; cases r1
    · rw [if_neg c, iflt lo rfl rfl (by omega) (by omega)]
      by_cases d : k < lo
      · rw [if_pos d, if_pos d]
        unfold fX0_readSigns_22
        rw [A_t H.2 (by decide) rfl, X_t H.2 (by decide)]
        show (∃ k' g' q σ', _ ∧ gbT (fX0_letter ex z o s (σ, 0, 0)) (σ, 0, 0) _ _ = _ ∧ _) ∨ (∃ q b σ' T', _ ∧ gbT (fX0_letter ex z o s (σ, 0, 0)) (σ, 0, 0) _ _ = _ ∧ _)
        rcases c_letter H O hp h1 h3 hs with ⟨v, p', σ', r1, r2, r3, r4, r5⟩ | ⟨q, b, σ', T', r1, r2, r3, r4, r5, r6⟩
        · unfold Wv.le at r1; rw [h0, txI_0 i h1 h3] at r1; cases r1
        · unfold Wv.le at r1; rw [h0, txI_0 i h1 h3] at r1; cases r1
          rw [r2, gbT_r]
          exact Or.inr ⟨_, _, _, _, rfl, rfl, r3, r4, r5.sub (fun i h => h.1)⟩
      · rw [if_neg d, if_neg d, X_t H.2 (by decide)]
        obtain ⟨σ1, q1, H1, K1⟩ := c_here (zz := z) H O hp (0, 0)
        show (∃ k' g' q σ', _ ∧ gb (fX0_here ex z o (σ, 0, 0)) (σ, 0, 0) _ = _ ∧ _) ∨ (∃ q b σ' T', _ ∧ gb (fX0_here ex z o (σ, 0, 0)) (σ, 0, 0) _ = _ ∧ _)
        rw [q1, gb_z, h0, if_pos (show nI 0 = 0 from rfl), X_t H1.2 (by decide)]
        rcases c_ends H1 O hsk.2 with ⟨v, p', σ', r1, r2, r3, r4, r5⟩ | ⟨q, b, σ', T', r1, r2, r3, r4, r5, r6⟩
        · show (∃ k' g' q σ', _ ∧ gbT (fX0_ends ex z o (σ1, 0, 0)) (σ1, 0, 0) _ _ = _ ∧ _) ∨ _
          rw [r2, gbT_l]
          exact Or.inl ⟨_, _, _, _, rfl, rfl, r3, S.kp H.1 (K1.tr r4), (K1.tr r4).sub (fun i h => h.1)⟩
        · rw [nx_sk, if_pos h0] at r1; cases r1
  | succ j ih =>
    intro k p g σ fuel hp hj hf hk H S
    obtain ⟨m, rfl⟩ : ∃ m, fuel = m + 1 := ⟨fuel - 1, by omega⟩
    have hsk := sk_le hp
    have step : k < hi → (W.nx p = 0 → k < lo) → ∀ (p1 : Nat) (σ1 : Sg), W.sk p1 = W.sk p → p1 ≤ W.tn → CA σ1 T ex z o a W p1 → Kp T σ T σ1 (fun i => i ≠ 1) → (∃ k' g' q σ', sgF W i lo hi (j + 1) k p g = .inl (k', g') ∧ fX0_readSigns_22 ex z (fun a0 a1 a2 a3 a4 a5 => fX0_readSigns_3 ex z m a0 a1 a2 a3 a4 a5) o s (nI lo) (nI hi) (nI k) (σ1, 0, 0) = some (.inl (nI k'), (σ', 0, 0)) ∧ CA σ' T ex z o a W q ∧ SG σ' a k' g' ∧ Kp T σ T σ' (fun i => i ≠ 1 ∧ i ≠ 13)) ∨ (∃ q b σ' T', sgF W i lo hi (j + 1) k p g = .inr q ∧ fX0_readSigns_22 ex z (fun a0 a1 a2 a3 a4 a5 => fX0_readSigns_3 ex z m a0 a1 a2 a3 a4 a5) o s (nI lo) (nI hi) (nI k) (σ1, 0, 0) = some (.inr b, (σ', 1, 7)) ∧ CW σ' T' ex (z + 1) o a W ∧ σ' b = some (fltC (nI q)) ∧ Kp T σ T' σ' (fun i => i ≠ 1 ∧ i ≠ 13)) := by
      intro hkh hz p1 σ1 hp1 hp1t H1 K1
      have en : W.nx p1 = W.nx p := by unfold Wv.nx; rw [hp1]
      unfold fX0_readSigns_22
      rw [A_t H1.2 (by decide) rfl, X_t H1.2 (by decide)]
      show (∃ k' g' q σ', _ ∧ gbT (fX0_letter ex z o s (σ1, 0, 0)) (σ1, 0, 0) _ _ = _ ∧ _) ∨ (∃ q b σ' T', _ ∧ gbT (fX0_letter ex z o s (σ1, 0, 0)) (σ1, 0, 0) _ _ = _ ∧ _)
      have hle : W.le p1 i = W.le p i := by unfold Wv.le; rw [en, hp1]
      rcases c_letter H1 O hp1t h1 h3 hs with ⟨v, p', σ', r1, r2, r3, r4, r5⟩ | ⟨q, b, σ', T', r1, r2, r3, r4, r5, r6⟩
      · rw [hle] at r1
        unfold Wv.le at r1
        cases e : txI i (W.nx p) with
        | none => rw [e] at r1; cases r1
        | some x =>
          rw [e] at r1
          cases r1
          have h0 : W.nx p ≠ 0 := fun h0 => by rw [h0, txI_0 i h1 h3] at e; cases e
          have hxl := ixL_lt _ _ _ _ _ e
          obtain ⟨⟨l0, l1⟩, -⟩ := txt_b i h1 h3
          have S2 := (S.kp H.1 K1).kp H1.1 r4
          obtain ⟨f, f1, f2⟩ := S2
          rw [sgF_s h0 e, if_neg (show ¬ k = hi by omega), r2, gbT_l, ast_t f1 (by omega) (by decide), nar_byte (by omega), nI_1]
          have hT := r3.1.sg.1
          have O1 : Ow T 13 σ' z (g_u σ' (a 9) (true, .inl (0, 24, .inl (upd f k (nI x))))) z := Ow.put hT _
          have ho : o ≠ a 9 := by intro g; have := r3.1.ob.1; rw [g, hT] at this; exact absurd this (by decide)
          have H4 : CA (g_u σ' (a 9) (true, .inl (0, 24, .inl (upd f k (nI x))))) T ex z o a W (W.sk p + 1) := ⟨r3.1.u_sg (W' := W) r3.1.fr (O1.kp0 r3.1.fr) ⟨hT, _, g_u_self _ _ _⟩ rfl rfl rfl rfl rfl rfl rfl rfl rfl rfl rfl rfl rfl rfl rfl rfl rfl rfl rfl rfl rfl rfl rfl rfl, (g_u_ne _ _ ho).trans r3.2⟩
          have S4 : SG (g_u σ' (a 9) (true, .inl (0, 24, .inl (upd f k (nI x))))) a (k + 1) (up g k x) := ⟨_, g_u_self _ _ _, fun q hq => by
            by_cases hqk : q = k
            · subst hqk; rw [up_self, upd_at]
            · rw [up_ne _ _ hqk, upd_no _ _ hqk]; exact f2 q (by omega)⟩
          have K4 : Kp T σ T (g_u σ' (a 9) (true, .inl (0, 24, .inl (upd f k (nI x))))) (fun i => i ≠ 1 ∧ i ≠ 13) := ((K1.tr r4).sub (fun i h => h.1)).tr ((O1.kp0 r3.1.fr).sub (fun i h => h.2))
          rcases ih (k + 1) (W.sk p + 1) (up g k x) _ m r5 (by omega) (by omega) (by omega) H4 S4 with ⟨k', g', q, σ5, y1, y2, y3, y4, y5⟩ | ⟨q, b, σ5, T5, y1, y2, y3, y4, y5⟩
          · exact Or.inl ⟨k', g', q, σ5, y1, y2, y3, y4, K4.tr y5⟩
          · exact Or.inr ⟨q, b, σ5, T5, y1, y2, y3, y4, K4.tr y5⟩
      · rw [hle] at r1
        unfold Wv.le at r1
        cases e : txI i (W.nx p) with
        | some x => rw [e] at r1; cases r1
        | none =>
          rw [e] at r1
          cases r1
          rw [r2, gbT_r]
          refine Or.inr ⟨_, _, _, _, ?_, rfl, r3, r4, (K1.tr r5).sub (fun i h => h.1)⟩
          by_cases h0 : W.nx p = 0
          · rw [sgF_0 h0, if_pos (hz h0)]
          · rw [sgF_n h0 e]
    rw [fX0_readSigns_3, ifle k rfl rfl (by omega) (by omega)]
    by_cases c : hi ≤ k
    · rw [if_pos c, X_t H.2 (by decide)]
      rcases c_ends H O hp with ⟨v, p', σ', r1, r2, r3, r4, r5⟩ | ⟨q, b, σ', T', r1, r2, r3, r4, r5, r6⟩
      · by_cases h0 : W.nx p = 0
        · show (∃ k' g' q σ', _ ∧ gbT (fX0_ends ex z o (σ, 0, 0)) (σ, 0, 0) _ _ = _ ∧ _) ∨ _
          rw [sgF_0 h0, if_neg (show ¬ k < lo by omega), r2, gbT_l]
          exact Or.inl ⟨_, _, _, _, rfl, rfl, r3, S.kp H.1 r4, r4.sub (fun i h => h.1)⟩
        · rw [if_neg h0] at r1; cases r1
      · by_cases h0 : W.nx p = 0
        · rw [if_pos h0] at r1; cases r1
        · rw [if_neg h0] at r1
          cases r1
          show (∃ k' g' q σ', _ ∧ gbT (fX0_ends ex z o (σ, 0, 0)) (σ, 0, 0) _ _ = _ ∧ _) ∨ (∃ q b σ' T', _ ∧ gbT (fX0_ends ex z o (σ, 0, 0)) (σ, 0, 0) _ _ = _ ∧ _)
          rw [r2, gbT_r]
          refine Or.inr ⟨_, _, _, _, ?_, rfl, r3, r4, r5.sub (fun i h => h.1)⟩
          cases e : txI i (W.nx p) with
          | none => rw [sgF_n h0 e]
          | some x => rw [sgF_s h0 e, if_pos (by omega)]
    · rw [if_neg c, iflt lo rfl rfl (by omega) (by omega)]
      by_cases d : k < lo
      · rw [if_pos d]
        exact step (by omega) (fun _ => d) p σ rfl hp H (Kp.rf _ _ _)
      · rw [if_neg d, X_t H.2 (by decide)]
        obtain ⟨σ1, q1, H1, K1⟩ := c_here (zz := z) H O hp (0, 0)
        have hn := nx_le O p
        show (∃ k' g' q σ', _ ∧ gb (fX0_here ex z o (σ, 0, 0)) (σ, 0, 0) _ = _ ∧ _) ∨ (∃ q b σ' T', _ ∧ gb (fX0_here ex z o (σ, 0, 0)) (σ, 0, 0) _ = _ ∧ _)
        rw [q1, gb_z, ifl 0 (by omega) (by decide)]
        by_cases h0 : W.nx p = 0
        · rw [if_pos h0, X_t H1.2 (by decide)]
          rcases c_ends H1 O hsk.2 with ⟨v, p', σ', r1, r2, r3, r4, r5⟩ | ⟨q, b, σ', T', r1, r2, r3, r4, r5, r6⟩
          · show (∃ k' g' q σ', _ ∧ gbT (fX0_ends ex z o (σ1, 0, 0)) (σ1, 0, 0) _ _ = _ ∧ _) ∨ _
            rw [sgF_0 h0, if_neg d, r2, gbT_l]
            exact Or.inl ⟨_, _, _, _, rfl, rfl, r3, S.kp H.1 (K1.tr r4), (K1.tr r4).sub (fun i h => h.1)⟩
          · rw [nx_sk, if_pos h0] at r1; cases r1
        · rw [if_neg h0]
          exact step (by omega) (fun h => absurd h h0) (W.sk p) σ1 (sk_sk p) hsk.2 H1 K1
/-- the text is used up -/
theorem cw_tn0 (H : CW σ T ex z o a W) : ∃ x, (∀ {β : Type} (K : St → Option β) (c : Nat × Nat), cput [0] 7 (σ, c) o (.int 0) K = K (g_u σ o x, c)) ∧ CW (g_u σ o x) T ex z o a (W.s_tn 0) ∧ Kp T σ T (g_u σ o x) (fun i => i ≠ 1) := by
  obtain ⟨at_, hob⟩ := H.obj
  have O1 : Ow T 1 σ z (g_u σ o (obC a (nI W.C.dr) (nI 0) at_ (nI W.im) (nI W.I.dr))) z := Ow.put H.ob.1 _
  refine ⟨obC a (nI W.C.dr) (nI 0) at_ (nI W.im) (nI W.I.dr), fun K c => ?_, H.u_ob (W' := W.s_tn 0) H.fr (O1.kp0 H.fr) ⟨H.ob.1, at_, g_u_self _ _ _⟩ ?_ rfl rfl rfl rfl rfl rfl rfl rfl rfl rfl rfl rfl rfl rfl rfl rfl rfl rfl rfl, O1.kp0 H.fr⟩
  · rw [P_t hob (by decide) (by show 7 < 19; decide)]; rfl
  · obtain ⟨h1, f, h2, -⟩ := H.tp
    exact ⟨h1, f, h2, fun i hi => absurd hi (Nat.not_lt_zero i)⟩
theorem MW.tn0 (M : MW t W) : MW (setI t 15 0) (W.s_tn 0) := ⟨⟨M.c.r.i1 (by decide) (by decide) (by decide), M.c.bn, M.c.b, M.c.un, M.c.u, M.c.dr⟩, M.sky, M.im, M.kp, (setI_at _ _ _), (fun i hi => absurd hi (Nat.not_lt_zero i)), M.s⟩
theorem Wv.OK.tn0 (O : W.OK) : (W.s_tn 0).OK := ⟨O.c, O.i, O.im, Nat.zero_le _, fun i hi => absurd hi (Nat.not_lt_zero i), O.s⟩
theorem r_end0 (M : MW t W) (O : W.OK) {p q : Nat} (hp : p ≤ W.tn) (hq : W.sk p = q) (n : Int32) (f : Nat → Int32) : fX3_end 0 (tx t p n f) = some (-20 - nI q, setI (tx t q n f) 15 0) := by
  unfold fX3_end fX3_end_9
  rw [if_pos rfl, r_next M O hp, gm_some, hq]
  simp only [lt]
  rfl
theorem r_end1 {p : Nat} (n : Int32) (f : Nat → Int32) : fX3_end 1 (tx t p n f) = some (0, setI (tx t p n f) 15 0) := by
  unfold fX3_end fX3_end_9
  rw [if_neg (by decide)]
  simp only [lt]
  rfl
theorem neg20 {q : Nat} (h : q ≤ 160) : ¬ (0 : Int32) ≤ -20 - nI q := by
  rw [show (-20 : Int32) - nI q = Int32.ofInt (-20 - q) from by rw [show (-20 : Int32) = Int32.ofInt (-20) from rfl, nI_ofInt, ← Int32.ofInt_sub], Int32.le_iff_toInt_le, Int32.toInt_ofInt]
  have : Int.bmod (-20 - (q : Int)) (2 ^ 32) = -20 - q := Int.bmod_eq_of_le (by omega) (by omega)
  rw [show (0 : Int32).toInt = 0 from rfl]
  show ¬ (0 : Int) ≤ Int.bmod (-20 - (q : Int)) Int32.size
  rw [show (Int32.size : Nat) = 2 ^ 32 from rfl, this]
  omega
end O9e
