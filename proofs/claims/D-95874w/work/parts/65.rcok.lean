/-! an hour keeps what holds of every race -/
set_option maxRecDepth 100000
theorem or_lt {a c : Nat} (h : a < 2 ^ c) : a ||| 2 ^ c < 2 ^ (c + 1) := Nat.or_lt_two_pow (by rw [Nat.pow_succ]; omega) (by rw [Nat.pow_succ]; have := Nat.two_pow_pos c; omega)
theorem Rc.lp_hs {R : Rc} (B : R.Ba) (w : Nat) : ∀ c, c ≤ R.n → (R.lp w c).1.he < 2 ^ c ∧ (R.lp w c).1.so ≤ 12 * c
  | 0, _ => ⟨Nat.lt_of_lt_of_le Nat.zero_lt_one (Nat.le_refl 1), Nat.le_refl 0⟩
  | c + 1, hc => by
    obtain ⟨h1, h2⟩ := Rc.lp_hs B w c (by omega)
    have b := Rc.lp_Ba B w c (by omega)
    have kp := Rc.lp_keep R w c
    have hs := Rc.stk_lt b (c := c) (by rw [kp.1]; omega)
    have hst : stro ((R.lp w c).1.stk c) ≤ 12 := by unfold stro; split <;> omega
    rw [show R.lp w (c + 1) = Rc.t1 w c (R.lp w c) from rfl]
    unfold Rc.t1
    split
    · refine ⟨?_, ?_⟩
      · show (if w = 2 then (R.lp w c).1.he else (R.lp w c).1.he ||| 2 ^ c) < _
        split
        · rw [Nat.pow_succ]; omega
        · exact or_lt h1
      · show (if w = 2 then (R.lp w c).1.so else (R.lp w c).1.so + stro ((R.lp w c).1.stk c)) ≤ _
        split <;> omega
    · exact ⟨by rw [Nat.pow_succ]; omega, by omega⟩
theorem Rc.go_keep (R : Rc) (w : Nat) : (R.go w).n = R.n ∧ (R.go w).W = R.W ∧ (R.go w).k = R.k ∧ (R.go w).r = R.r ∧ (R.go w).now = R.now + 1 ∧ (R.go w).sk = R.sk ∧ (R.go w).mn = R.mn ∧ (R.go w).p = (R.lp w R.n).1.p ∧ (R.go w).f = (R.lp w R.n).1.f ∧ (R.go w).d = (R.lp w R.n).1.d ∧ (R.go w).he = (R.lp w R.n).1.he ∧ (R.go w).so = (R.lp w R.n).1.so := by
  have kp := Rc.lp_keep R w R.n
  have kr := Rc.lr_keep (R.lp w R.n).1 R.n
  refine ⟨kr.1.trans kp.1, kr.2.1.trans kp.2.1, kr.2.2.1.trans kp.2.2.1, kr.2.2.2.1.trans kp.2.2.2.2.1, ?_, kr.2.2.2.2.2.1.trans kp.2.2.2.2.2.2.2.1, kr.2.2.2.2.2.2.1.trans kp.2.2.2.2.2.2.2.2, kr.2.2.2.2.2.2.2.1, kr.2.2.2.2.2.2.2.2.1, kr.2.2.2.2.2.2.2.2.2.1, kr.2.2.2.2.2.2.2.2.2.2.1, kr.2.2.2.2.2.2.2.2.2.2.2⟩
  show ((R.lp w R.n).1.lr R.n).now + 1 = _
  rw [kr.2.2.2.2.1, kp.2.2.2.2.2.2.1]
theorem Rc.go_Ba {R : Rc} (B : R.Ba) (hnow : R.now + 1 < 100000) (w : Nat) : (R.go w).Ba := by
  have kp := Rc.lp_keep R w R.n
  have b := Rc.lr_Ba (Rc.lp_Ba B w R.n (Nat.le_refl _)) R.n (by rw [kp.1]; exact Nat.le_refl _)
  exact ⟨b.n, b.W0, b.W1, b.d, b.k, b.h, b.r0, b.r1, b.s, b.p, by rw [(Rc.go_keep R w).2.2.2.2.1]; exact hnow, b.sk, b.mn0, b.mn1⟩
theorem Rc.go_OK {R : Rc} (O : R.OK) (hnow : R.now + 1 < 100000) (w : Nat) : (R.go w).OK := by
  obtain ⟨e1, e2, -, -, e5, -, -, e8, e9, -, e11, e12⟩ := Rc.go_keep R w
  have hf := (Rc.lp_f O w R.n (Nat.le_refl _)).2
  have hh := Rc.lp_hs O.b w R.n (Nat.le_refl _)
  refine ⟨Rc.go_Ba O.b hnow w, ?_, ?_, ?_, ?_⟩
  · intro c hc
    rw [e1] at hc
    rw [e9, e8, e2, hf c hc]
    by_cases h : (R.lp w R.n).1.p c = R.W - 1
    · by_cases h0 : R.f c = 0
      · rw [if_pos ⟨h, h0⟩]; omega
      · rw [if_neg (fun g => h0 g.2)]; omega
    · rw [if_neg (fun g => h g.1)]
      have h1 := O.f c hc
      constructor
      · intro _; exact h
      · intro _
        refine h1.mpr (fun g => h ?_)
        -- one that was home stays
        have hst : ∀ j, j ≤ R.n → (R.lp w j).1.p c = R.W - 1 := by
          intro j hj
          induction j with
          | zero => exact g
          | succ j ih =>
            have i1 := ih (by omega)
            have kp := Rc.lp_keep R w j
            rw [show R.lp w (j + 1) = Rc.t1 w j (R.lp w j) from rfl]
            unfold Rc.t1
            split
            · rename_i q
              show up (R.lp w j).1.p j ((R.lp w j).1.next w j) c = _
              by_cases hq : c = j
              · subst hq; exact absurd (i1.trans (by rw [kp.2.1])) q.1
              · rw [up_ne _ _ hq]; exact i1
            · exact i1
        exact hst R.n (Nat.le_refl _)
  · intro c hc
    rw [e1] at hc
    rw [e9, e5, hf c hc]
    have := O.f1 c hc
    split <;> omega
  · rw [e11, e1]; exact hh.1
  · rw [e12]; have := O.b.n; omega
