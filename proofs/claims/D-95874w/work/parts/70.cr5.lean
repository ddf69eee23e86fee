/-! the component's race: one goes on; an hour -/
set_option maxRecDepth 100000
theorem Rc.Ba.c_he {R : Rc} (B : R.Ba) (x : Nat) : (R.s_he x).Ba := by unfold Rc.Ba at B ⊢; simpa [rcS] using B
theorem Rc.Ba.c_so {R : Rc} (B : R.Ba) (x : Nat) : (R.s_so x).Ba := by unfold Rc.Ba at B ⊢; simpa [rcS] using B
theorem Rc.Ba.c_f {R : Rc} (B : R.Ba) (x : Nat → Nat) : (R.s_f x).Ba := by unfold Rc.Ba at B ⊢; simpa [rcS] using B
theorem Rc.Ba.c_d {R : Rc} (B : R.Ba) {x : Nat → Nat} (h : ∀ w, w < 24 → x w ≤ 12) : (R.s_d x).Ba := by
  unfold Rc.Ba at B ⊢; simp only [Rc.s_d_n, Rc.s_d_W, Rc.s_d_d, Rc.s_d_k, Rc.s_d_h, Rc.s_d_r, Rc.s_d_s, Rc.s_d_p, Rc.s_d_now, Rc.s_d_sk, Rc.s_d_mn]
  exact ⟨B.1, B.2.1, B.2.2.1, h, B.2.2.2.2⟩
theorem Rc.Ba.c_p {R : Rc} (B : R.Ba) {x : Nat → Nat} (h : ∀ c, c < R.n → x c < R.W) : (R.s_p x).Ba := by
  unfold Rc.Ba at B ⊢; simp only [Rc.s_p_n, Rc.s_p_W, Rc.s_p_d, Rc.s_p_k, Rc.s_p_h, Rc.s_p_r, Rc.s_p_s, Rc.s_p_p, Rc.s_p_now, Rc.s_p_sk, Rc.s_p_mn]
  exact ⟨B.1, B.2.1, B.2.2.1, B.2.2.2.1, B.2.2.2.2.1, B.2.2.2.2.2.1, B.2.2.2.2.2.2.1, B.2.2.2.2.2.2.2.1, B.2.2.2.2.2.2.2.2.1, h, B.2.2.2.2.2.2.2.2.2.2⟩
theorem skyOf.cong {R Q : Rc} {al : Int32} {w : Nat} (h : skyOf R al w) (h1 : Q.sk = R.sk) (h2 : Q.now = R.now) (h3 : Q.mn = R.mn) : skyOf Q al w := by
  unfold skyOf at h ⊢; rw [h1, h2, h3]; exact h
theorem gb_two {α β : Type} {σ : Sg} {c : Nat × Nat} {r : α} {k : α → St → Option (β × St)} : gb (some (r, (σ, 0, 0))) (σ, c) k = k r (σ, c) := rfl
section CV
variable {ex : Nat → Option Nat} {z : Nat} {t : St} {A : Ad} {R : Rc} {al : Int32}
theorem c_moves (H : RR t.1 A R al) (B : R.Ba) {c w : Nat} (hc : c < R.n) (hp : R.p c ≠ R.W - 1) (hw : w < 4) (hs : skyOf R al w) : ∃ σ', fX1_moves ex z A.r (A.ca c) t = some ((), (σ', t.2)) ∧ RR σ' A (R.mv w c) al ∧ ∀ q, q ≠ A.r → q ≠ A.d → q ≠ A.ca c → σ' q = t.1 q := by
  have hn := B.n
  have hk := B.k c hc
  have hpp := B.p c hc
  have hW := B.W1
  have hW0 := B.W0
  have hst := Rc.stk_lt B hc
  have hnow := B.now
  have hfar : R.far w c ≤ 2 := by unfold Rc.far; split <;> omega
  obtain ⟨f, hf1, hf2⟩ := H.dl
  unfold fX1_moves
  rw [cgA_at H.ra (by decide) rfl, cgI_at (H.ck c hc) (kin hk) rfl, ccast_at (H.ck c hc) (kin hk), c_strikes (t := (t.1, 0, 0)) H B hc, gb_pure, cast_at hf1 (by omega) (by decide), nar_byte (by omega)]
  -- the dial
  have H1 : RR (g_u t.1 A.d (true, .inl (0, 24, .inl (upd f (R.p c) (nI (R.stk c)))))) A (R.s_d (up R.d (R.p c) (R.stk c))) al := H.putD (by simp [rcS]) (by simp [rcS, raC]) (by simp [rcS]) (fun i hi => by simp [rcS, ckC]) (fun x hx => by
    rw [Rc.s_d_d]
    by_cases hq : x = R.p c
    · subst hq; rw [upd_at, up_self]
    · rw [upd_no _ _ hq, up_ne _ _ hq]; exact hf2 x hx)
  have B1 : (R.s_d (up R.d (R.p c) (R.stk c))).Ba := B.c_d (fun x hx => by
    unfold up; split
    · omega
    · exact B.d x hx)
  generalize hσ1 : g_u t.1 A.d (true, .inl (0, 24, .inl (upd f (R.p c) (nI (R.stk c))))) = σ1 at H1 ⊢
  generalize hR1 : R.s_d (up R.d (R.p c) (R.stk c)) = R1 at H1 B1
  have n1 : R1.n = R.n := by rw [← hR1]; simp [rcS]
  have w1 : R1.W = R.W := by rw [← hR1]; simp [rcS]
  have k1 : R1.k = R.k := by rw [← hR1]; simp [rcS]
  have p1 : R1.p = R.p := by rw [← hR1]; simp [rcS]
  have now1 : R1.now = R.now := by rw [← hR1]; simp [rcS]
  have h1 : R1.h = R.h := by rw [← hR1]; simp [rcS]
  have s1 : skyOf R1 al w := hs.cong (by rw [← hR1]; simp [rcS]) now1 (by rw [← hR1]; simp [rcS])
  have hc1 : c < R1.n := by rw [n1]; exact hc
  have far1 : R1.far w c = R.far w c := by unfold Rc.far; rw [k1]
  rw [ccast_at (t := (σ1, t.2)) H1.ra (by decide), c_home (t := (σ1, 0, 0)) H1 B1, gb_two, cgI_at (t := (σ1, t.2)) (H1.ck c hc1) (kin (B1.k c hc1)) rfl, ccast_at (t := (σ1, t.2)) (H1.ck c hc1) (kin (B1.k c hc1)), c_far (t := (σ1, 0, 0)) H1 B1 hc1 hw s1, gb_two, nI_add, c_min (by omega) (by rw [p1]; omega), gb_two, w1, p1, far1]
  have enx : (if R.p c + R.far w c < R.W - 1 then R.p c + R.far w c else R.W - 1) = R.next w c := by
    unfold Rc.next
    by_cases g : R.p c + R.far w c < R.W - 1
    · rw [if_pos g, if_pos (by omega)]
    · rw [if_neg g]; split <;> omega
  have hnx := Rc.next_lt R w c hW0
  rw [enx, cput_at (t := (σ1, t.2)) (H1.ck c hc1) (kin (B1.k c hc1)) (by show 4 < 6; decide)]
  -- its window
  have H2 : RR (g_u σ1 (A.ca c) (ckC (R1.s_p (up R1.p c (R.next w c))) c)) A (R1.s_p (up R1.p c (R.next w c))) al := H1.putC B1 hc1 (by simp [rcS]) (by simp [rcS, raC]) (by simp [rcS]) (by simp [rcS]) (fun i hi hne => by simp [rcS, ckC, up_ne _ _ hne]) rfl
  have B2 : (R1.s_p (up R1.p c (R.next w c))).Ba := B1.c_p (fun x hx => by
    unfold up; split
    · rw [w1]; exact hnx
    · exact B1.p x hx)
  have e2 : (true, Sum.inr (4 + R1.k c, [Value.int (nI c), Value.int (nI (R1.h c)), Value.int (Int32.ofInt (R1.r c)), Value.int (nI (R1.s c)), Value.int (nI (R1.p c)), Value.int (fin (R1.f c))].set 4 (.int (nI (R.next w c))))) = ckC (R1.s_p (up R1.p c (R.next w c))) c := by simp [rcS, ckC, up_self]
  rw [e2]
  generalize hσ2 : g_u σ1 (A.ca c) (ckC (R1.s_p (up R1.p c (R.next w c))) c) = σ2 at H2 ⊢
  generalize hR2 : R1.s_p (up R1.p c (R.next w c)) = R2 at H2 B2
  have n2 : R2.n = R.n := by rw [← hR2]; simp [rcS, n1]
  have w2 : R2.W = R.W := by rw [← hR2]; simp [rcS, w1]
  have p2 : R2.p c = R.next w c := by rw [← hR2]; simp [rcS, up_self]
  have k2 : R2.k = R.k := by rw [← hR2]; simp [rcS, k1]
  have h2' : R2.h = R.h := by rw [← hR2]; simp [rcS, h1]
  have now2 : R2.now = R.now := by rw [← hR2]; simp [rcS, now1]
  have s2 : skyOf R2 al w := s1.cong (by rw [← hR2]; simp [rcS]) (by rw [now2, now1]) (by rw [← hR2]; simp [rcS])
  have hc2 : c < R2.n := by rw [n2]; exact hc
  rw [cgI_at (t := (σ2, t.2)) (H2.ck c hc2) (kin (B2.k c hc2)) rfl, ccast_at (t := (σ2, t.2)) H2.ra (by decide), p2, c_isHomeW (t := (σ2, 0, 0)) H2 B2 (by omega), gb_two, w2]
  have fin' : ∀ (σ3 : Sg) (R3 : Rc), RR σ3 A R3 al → R3.Ba → R3.n = R.n → R3.k = R.k → R3.h = R.h → R3.now = R.now → skyOf R3 al w → (∀ q, q ≠ A.ca c → σ3 q = σ2 q) → (if w = 2 then R3 else (R3.s_he (R3.he ||| 2 ^ c)).s_so (R3.so + stro (R3.stk c))) = R.mv w c → ∃ σ', fX1_moves_57 ex z A.r (A.ca c) (σ3, t.2) = some ((), (σ', t.2)) ∧ RR σ' A (R.mv w c) al ∧ ∀ q, q ≠ A.r → q ≠ A.d → q ≠ A.ca c → σ' q = t.1 q := by
    intro σ3 R3 H3 B3 g1 g2 g3 g4 g5 g6 g7
    obtain ⟨σ', q1, q2, q3⟩ := c_57 (ex := ex) (z := z) (t := (σ3, t.2)) H3 B3 (by rw [g1]; exact hc) hw g5
    rw [g7] at q2
    refine ⟨σ', q1, q2, fun q r1 r2 r3 => ?_⟩
    rw [q3 q r1]
    show σ3 q = _
    rw [g6 q r3, ← hσ2, g_u_ne _ _ r3, ← hσ1, g_u_ne _ _ r2]
  by_cases hh : R.next w c = R.W - 1
  · rw [if_pos hh, if_neg (by decide), cgI_at (t := (σ2, t.2)) H2.ra (by decide) rfl, now2, nI_1, cput_at (t := (σ2, t.2)) (H2.ck c hc2) (kin (B2.k c hc2)) (by show 5 < 6; decide)]
    have efin : nI (R.now + 1) = fin (R.now + 1) := by unfold fin; rw [if_neg (by omega)]
    refine fin' _ (R2.s_f (up R2.f c (R.now + 1))) (H2.putC B2 hc2 (by simp [rcS]) (by simp [rcS, raC]) (by simp [rcS]) (by simp [rcS]) (fun i hi hne => by simp [rcS, ckC, up_ne _ _ hne]) (by simp [rcS, ckC, up_self, efin])) (B2.c_f _) (by simp [rcS, n2]) (by simp [rcS, k2]) (by simp [rcS, h2']) (by simp [rcS, now2]) (s2.cong (by simp [rcS]) (by simp [rcS]) (by simp [rcS])) (fun q hq => g_u_ne _ _ hq) ?_
    have est : (R2.s_f (up R2.f c (R.now + 1))).stk c = R.stk c := Rc.stk_cong (by simp [rcS, k2]) (by simp [rcS, h2']) (by simp [rcS, now2]) c
    rw [est, ← hR2, ← hR1]
    unfold Rc.mv
    rw [if_pos hh]
    split <;> rfl
  · rw [if_neg hh, if_pos rfl]
    refine fin' σ2 R2 H2 B2 n2 k2 h2' now2 s2 (fun q _ => rfl) ?_
    have est : R2.stk c = R.stk c := Rc.stk_cong k2 h2' now2 c
    rw [est, ← hR2, ← hR1]
    unfold Rc.mv
    rw [if_neg hh]
    split <;> rfl
end CV
