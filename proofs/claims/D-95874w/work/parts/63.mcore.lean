/-! the reference's core: what a clock shows, whether it goes, an hour -/
set_option maxRecDepth 100000
theorem pk_rem' {a : Nat} (d : Nat) (ha : a < 2 ^ 31) (h0 : 0 < d) (hd : d < 2 ^ 31) : nI a - nI a / nI d * nI d = nI (a % d) := pk_rem ha h0 hd
section MCR
variable {t : MS} {R : Rc}
theorem m_truth (H : MRb t R) (B : R.Ba) : fX3_truth t = some (nI R.truth, t) := by
  unfold fX3_truth
  have h1 := B.now
  rw [ilit 60, mald_nI (by decide) (by decide), H.now, ilit 720, nI_mul, pk_rem' 720 (by omega) (by decide) (by decide)]
  rfl
theorem m_sh22 (H : MRb t R) (B : R.Ba) {c : Nat} (hc : c < R.n) : fX3_shownBy_22 (nI c) t = some (if R.k c = 3 then nI R.truth else nI (R.h c), t) := by
  have hn := B.n
  have hk := B.k c hc
  unfold fX3_shownBy_22
  rw [mald_nI (by omega) (by decide), H.k c hc, ifl 3 (by omega) (by decide)]
  by_cases h : R.k c = 3
  · rw [if_pos h, m_truth H B, gm_some, if_pos h]
  · rw [if_neg h, if_neg h, ilit 24, nI_add, mald_nI (by omega) (by decide), H.h c hc]
theorem m_sh2 (H : MRb t R) (B : R.Ba) : ∀ (c fuel : Nat), c < R.n → c < fuel → fX3_shownBy_2 fuel (nI c) t = some (nI (R.sh c), t)
  | 0, fuel, hc, hf => by
    obtain ⟨m, rfl⟩ : ∃ m, fuel = m + 1 := ⟨fuel - 1, by omega⟩
    rw [fX3_shownBy_2, if_pos (by decide), m_sh22 H B hc]
    unfold Rc.sh
    split <;> rfl
  | c + 1, fuel, hc, hf => by
    obtain ⟨m, rfl⟩ : ∃ m, fuel = m + 1 := ⟨fuel - 1, by omega⟩
    have hn := B.n
    have hk := B.k _ hc
    have e0 : R.sh (c + 1) = if R.k (c + 1) = 4 then R.sh c else if R.k (c + 1) = 3 then R.truth else R.h (c + 1) := rfl
    rw [fX3_shownBy_2, if_neg (nI_nle (by omega) (by omega)), mald_nI (by omega) (by decide), H.k _ hc, ifl 4 (by omega) (by decide), e0]
    by_cases h : R.k (c + 1) = 4
    · rw [if_pos h, if_pos h, nI_m1, m_sh2 H B c m (by omega) (by omega)]
    · rw [if_neg h, if_neg h, m_sh22 H B hc]
      split <;> rfl
theorem m_shownBy (H : MRb t R) (B : R.Ba) {c : Nat} (hc : c < R.n) : fX3_shownBy (nI c) t = some (nI (R.sh c), t) := by
  have := B.n
  exact m_sh2 H B c 1000 hc (by omega)
theorem m_strikes (H : MRb t R) (B : R.Ba) {c : Nat} (hc : c < R.n) : fX3_strikes (nI c) t = some (nI (R.stk c), t) := by
  have h1 := Rc.sh_lt B c hc
  unfold fX3_strikes
  rw [m_shownBy H B hc, gm_some, ilit 60, nI_quo (by omega) (by decide)]
  rfl
theorem m_strokesOf {v : Nat} (hv : v < 1000) : fX3_strokesOf (nI v) t = some (nI (stro v), t) := by
  unfold fX3_strokesOf stro
  by_cases h : v = 0
  · subst h; rfl
  · rw [if_neg (nI_ne0 (by omega) (by omega)), if_neg h]
theorem m_isHome (H : MRb t R) (B : R.Ba) {c : Nat} (hc : c < R.n) : fX3_isHome (nI c) t = some (if R.p c = R.W - 1 then 1 else 0, t) := by
  have hn := B.n
  have hp := B.p c hc
  have hW := B.W1
  have hW0 := B.W0
  unfold fX3_isHome
  rw [ilit 42, nI_add, mald_nI (by omega) (by decide), H.p c hc, H.W, nI_sub1 (by omega), ife (R.W - 1) rfl (by omega) (by omega)]
  split <;> rfl
theorem m_goes16 (H : MRb t R) (B : R.Ba) {c : Nat} (hc : c < R.n) (hp : R.p c ≠ R.W - 1) : fX3_goes_16 (nI c) t = some (if R.d (R.p c + 1) = 12 ∨ R.d (R.p c + 1) = R.stk c ∨ (R.k c = 5 ∧ R.now % 6 = 0) then 1 else 0, t) := by
  have hn := B.n
  have hpp := B.p c hc
  have hW := B.W1
  have hd := B.d (R.p c + 1) (by omega)
  have hs := Rc.stk_lt B hc
  have hk := B.k c hc
  have hnow := B.now
  unfold fX3_goes_16
  rw [ilit 42, nI_add, mald_nI (by omega) (by decide), H.p c hc, nI_1, mald_nI (by omega) (by decide), H.d _ (by omega), ifl 12 (by omega) (by decide)]
  by_cases h1 : R.d (R.p c + 1) = 12
  · rw [if_pos h1, if_pos (Or.inl h1)]
  · rw [if_neg h1, m_strikes H B hc, gm_some, ife (R.stk c) rfl (by omega) (by omega)]
    by_cases h2 : R.d (R.p c + 1) = R.stk c
    · rw [if_pos h2, if_pos (Or.inr (Or.inl h2))]
    · rw [if_neg h2, mald_nI (by omega) (by decide), H.k c hc, ifl 5 (by omega) (by decide)]
      by_cases h3 : R.k c = 5
      · rw [if_pos h3, ilit 60, mald_nI (by decide) (by decide), H.now, ilit 6, pk_rem' 6 (by omega) (by decide) (by decide), ifl 0 (by omega) (by decide)]
        simp only [h1, h2, h3, false_or, true_and]
        split <;> rfl
      · simp only [h1, h2, h3, false_or, false_and, if_false]
theorem m_goes (H : MRb t R) (B : R.Ba) {c w : Nat} (hc : c < R.n) (hp : R.p c ≠ R.W - 1) (hw : w < 4) : fX3_goes (nI c) (nI w) t = some (if R.goC w c then 1 else 0, t) := by
  have hn := B.n
  have hk := B.k c hc
  unfold fX3_goes
  rw [mald_nI (by omega) (by decide), H.k c hc, ifl 3 (by omega) (by decide)]
  by_cases h : R.k c = 3
  · rw [if_pos h, ifl 0 (by omega) (by decide)]
    by_cases hw0 : w = 0
    · rw [if_pos hw0, m_goes16 H B hc hp]
      simp only [Rc.goC, hw0, ne_eq, not_true_eq_false, and_false, not_false_eq_true, true_and]
    · rw [if_neg hw0, if_neg]
      exact fun g => g.1 ⟨h, hw0⟩
  · rw [if_neg h, m_goes16 H B hc hp]
    simp only [Rc.goC, h, false_and, not_false_eq_true, true_and]
end MCR
theorem nI_ofInt (a : Nat) : nI a = Int32.ofInt (a : Int) := (Int32.ofInt_eq_ofNat).symm
theorem nI_or (a b : Nat) : nI a ||| nI b = nI (a ||| b) := by
  apply Int32.toBitVec_inj.mp
  apply BitVec.eq_of_getLsbD_eq
  intro i hi
  simp [nI, Int32.toBitVec_ofNat', hi]
theorem one_shl : ∀ c, c < 9 → (1 : Int32) <<< (nI c &&& 31) = nI (2 ^ c) := by decide +kernel
theorem Rc.mv_Ba {R : Rc} (B : R.Ba) (w : Nat) {c : Nat} (hc : c < R.n) : (R.mv w c).Ba := by
  have hs := Rc.stk_lt B hc
  have hx := Rc.next_lt R w c B.W0
  refine ⟨B.n, B.W0, B.W1, ?_, B.k, B.h, B.r0, B.r1, B.s, ?_, B.now, B.sk, B.mn0, B.mn1⟩
  · intro x hx
    show up R.d (R.p c) (R.stk c) x ≤ 12
    unfold up; split
    · omega
    · exact B.d x hx
  · intro x hx'
    show up R.p c (R.next w c) x < R.W
    unfold up; split
    · exact hx
    · exact B.p x hx'
theorem Rc.lp_keep (R : Rc) (w : Nat) : ∀ c, (R.lp w c).1.n = R.n ∧ (R.lp w c).1.W = R.W ∧ (R.lp w c).1.k = R.k ∧ (R.lp w c).1.h = R.h ∧ (R.lp w c).1.r = R.r ∧ (R.lp w c).1.s = R.s ∧ (R.lp w c).1.now = R.now ∧ (R.lp w c).1.sk = R.sk ∧ (R.lp w c).1.mn = R.mn
  | 0 => ⟨rfl, rfl, rfl, rfl, rfl, rfl, rfl, rfl, rfl⟩
  | c + 1 => by
    have ih := Rc.lp_keep R w c
    rw [show R.lp w (c + 1) = Rc.t1 w c (R.lp w c) from rfl]
    unfold Rc.t1
    split
    · exact ih
    · exact ih
theorem Rc.lp_Ba {R : Rc} (B : R.Ba) (w : Nat) : ∀ c, c ≤ R.n → (R.lp w c).1.Ba
  | 0, _ => B
  | c + 1, hc => by
    have ih := Rc.lp_Ba B w c (by omega)
    have e := (Rc.lp_keep R w c).1
    show (Rc.t1 w c (R.lp w c)).1.Ba
    unfold Rc.t1
    split
    · exact Rc.mv_Ba ih w (by rw [e]; omega)
    · exact ih
theorem Rc.run1_Ba {R : Rc} (B : R.Ba) {c : Nat} (hc : c < R.n) : (R.run1 c).Ba := by
  unfold Rc.run1
  split
  · refine ⟨B.n, B.W0, B.W1, B.d, B.k, ?_, B.r0, B.r1, ?_, B.p, B.now, B.sk, B.mn0, B.mn1⟩
    · intro x hx
      show up R.h c _ x < 720
      unfold up; split
      · omega
      · exact B.h x hx
    · intro x hx
      show up R.s c _ x ≤ 99
      unfold up; split
      · have := B.s c hc; omega
      · exact B.s x hx
  · exact B
theorem Rc.lr_keep (R : Rc) : ∀ c, (R.lr c).n = R.n ∧ (R.lr c).W = R.W ∧ (R.lr c).k = R.k ∧ (R.lr c).r = R.r ∧ (R.lr c).now = R.now ∧ (R.lr c).sk = R.sk ∧ (R.lr c).mn = R.mn ∧ (R.lr c).p = R.p ∧ (R.lr c).f = R.f ∧ (R.lr c).d = R.d ∧ (R.lr c).he = R.he ∧ (R.lr c).so = R.so
  | 0 => ⟨rfl, rfl, rfl, rfl, rfl, rfl, rfl, rfl, rfl, rfl, rfl, rfl⟩
  | c + 1 => by
    have ih := Rc.lr_keep R c
    rw [show R.lr (c + 1) = (R.lr c).run1 c from rfl]
    unfold Rc.run1
    split
    · exact ih
    · exact ih
theorem Rc.lr_Ba {R : Rc} (B : R.Ba) : ∀ c, c ≤ R.n → (R.lr c).Ba
  | 0, _ => B
  | c + 1, hc => Rc.run1_Ba (Rc.lr_Ba B c (by omega)) (by rw [(Rc.lr_keep R c).1]; omega)
section MCR
variable {t : MS} {R : Rc}
/-- beside the race: only the array 0 differs, and of it not the finishes -/
def Sf (t t' : MS) : Prop := Sm t t' ∧ ∀ i, i < 9 → t'.2.1 0 (51 + i) = t.2.1 0 (51 + i)
theorem Sf.rf (t : MS) : Sf t t := ⟨Sm.rf t, fun _ _ => rfl⟩
theorem Sf.tr {t u v : MS} (h : Sf t u) (g : Sf u v) : Sf t v := ⟨h.1.tr g.1, fun i hi => (g.2 i hi).trans (h.2 i hi)⟩
theorem Sf.set (t : MS) {i : Nat} (v : Int32) (hi : i < 51 ∨ 60 ≤ i) : Sf t (setA t 0 i v) := ⟨Sm.set t i v, fun j hj => by rw [setA_same, upd_no _ _ (by omega)]⟩
theorem m_run (H : MRb t R) (B : R.Ba) {c : Nat} (hc : c < R.n) : ∃ t', fX3_run (nI c) t = some ((), t') ∧ MRb t' (R.run1 c) ∧ Sf t t' := by
  have hn := B.n
  have hk := B.k c hc
  have hs := B.s c hc
  have hh := B.h c hc
  have hr0 := B.r0 c hc
  have hr1 := B.r1 c hc
  unfold fX3_run Rc.run1
  rw [mald_nI (by omega) (by decide), H.k c hc, ifl 2 (by omega) (by decide)]
  by_cases h2 : R.k c = 2
  · rw [if_pos h2, if_neg (fun g => g.1 h2)]
    exact ⟨t, rfl, H, Sf.rf t⟩
  rw [if_neg h2, mald_nI (by omega) (by decide), H.k c hc, ifl 3 (by omega) (by decide)]
  by_cases h3 : R.k c = 3
  · rw [if_pos h3, if_neg (fun g => g.2.1 h3)]
    exact ⟨t, rfl, H, Sf.rf t⟩
  rw [if_neg h3, ilit 33, nI_add, mald_nI (by omega) (by decide), H.s c hc]
  by_cases h4 : R.s c = 0
  · rw [if_pos (by rw [h4]; decide), if_neg (fun g => by omega)]
    exact ⟨t, rfl, H, Sf.rf t⟩
  have e1 : (nI (R.h c) + 60 + Int32.ofInt (R.r c)) + 720 = nI ((R.h c : Int) + 60 + R.r c + 720).toNat := by
    rw [nI_ofInt, nI_ofInt, show (60 : Int32) = Int32.ofInt 60 from rfl, show (720 : Int32) = Int32.ofInt 720 from rfl, ← Int32.ofInt_add, ← Int32.ofInt_add, ← Int32.ofInt_add]
    congr 1
    omega
  rw [if_neg (nI_nle (by omega) (by omega)), if_pos ⟨h2, h3, by omega⟩, ilit 24, nI_add, mald_nI (by omega) (by decide), mald_nI (by omega) (by decide), mast_nI (by omega) (by decide), H.h c hc, H.r c hc, mald_nI (by omega) (by decide), setA_same, upd_no _ _ (by omega), H.s c hc, mast_nI (by omega) (by decide), e1, ilit 720, pk_rem' 720 (by omega) (by decide) (by decide), nI_sub1 (by omega)]
  refine ⟨_, rfl, ?_, (Sf.set _ _ (Or.inl (by omega))).tr (Sf.set _ _ (Or.inl (by omega)))⟩
  have H1 : MRb (setA t 0 (24 + c) (nI (((R.h c : Int) + 60 + R.r c + 720).toNat % 720))) (Rc.mk R.n R.W R.d R.k (up R.h c ((((R.h c : Int) + 60 + R.r c) % 720).toNat)) R.r R.s R.p R.f R.now R.sk R.mn R.he R.so) := by
    refine H.put rfl rfl rfl rfl rfl rfl ?_ ?_ ?_ ?_ ?_ ?_ ?_
    · intro w hw; rw [upd_no _ _ (by omega)]; exact H.d w hw
    · intro x hx
      by_cases hq : x = c
      · subst hq
        rw [upd_at]
        show _ = nI (up R.h x _ x)
        rw [up_self]
        congr 1
        omega
      · rw [upd_no _ _ (by omega)]
        show _ = nI (up R.h c _ x)
        rw [up_ne _ _ hq]; exact H.h x hx
    · intro x hx; rw [upd_no _ _ (by omega)]; exact H.s x hx
    · intro x hx; rw [upd_no _ _ (by omega)]; exact H.p x hx
    · rw [upd_no _ _ (by omega)]; exact H.now
    · rw [upd_no _ _ (by omega)]; exact H.he
    · rw [upd_no _ _ (by omega)]; exact H.so
  refine H1.put rfl rfl rfl rfl rfl rfl ?_ ?_ ?_ ?_ ?_ ?_ ?_
  · intro w hw; rw [upd_no _ _ (by omega)]; exact H1.d w hw
  · intro x hx; rw [upd_no _ _ (by have : x < R.n := hx; omega)]; exact H1.h x hx
  · intro x hx
    by_cases hq : x = c
    · subst hq
      rw [upd_at]
      show _ = nI (up R.s x _ x)
      rw [up_self]
    · rw [upd_no _ _ (by omega)]
      show _ = nI (up R.s c _ x)
      rw [up_ne _ _ hq]; exact H1.s x hx
  · intro x hx; rw [upd_no _ _ (by have : x < R.n := hx; omega)]; exact H1.p x hx
  · rw [upd_no _ _ (by omega)]; exact H1.now
  · rw [upd_no _ _ (by omega)]; exact H1.he
  · rw [upd_no _ _ (by omega)]; exact H1.so
end MCR
