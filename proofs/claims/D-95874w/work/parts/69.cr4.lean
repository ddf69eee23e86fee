/-! the component's race: one goes on; an hour -/
set_option maxRecDepth 100000
theorem byte_small {n : Nat} (h : n < 128) : (nI n).toInt8.toInt32 = nI n := by
  refine Int32.toInt_inj.mp ?_
  rw [nI_toInt (by omega)]
  have h1 : (nI n).toInt8.toInt = (n : Int) := by
    rw [Int32.toInt_toInt8, nI_toInt (by omega)]
    exact Int.bmod_eq_of_le (by omega) (by omega)
  simpa using h1
theorem nar_byte {n : Nat} (h : n < 128) : vp_nar .byte ((nI n).toInt8.toInt32) = nI n := by
  show ((nI n).toInt8.toInt32).toInt8.toInt32 = nI n
  rw [byte_small h, byte_small h]
theorem Rc.sh_cong {R Q : Rc} (h1 : Q.k = R.k) (h2 : Q.h = R.h) (h3 : Q.now = R.now) : ∀ c, Q.sh c = R.sh c
  | 0 => by unfold Rc.sh Rc.truth; rw [h1, h2, h3]
  | c + 1 => by
    have ih := Rc.sh_cong h1 h2 h3 c
    unfold Rc.sh
    rw [ih]
    unfold Rc.truth
    rw [h1, h2, h3]
theorem Rc.stk_cong {R Q : Rc} (h1 : Q.k = R.k) (h2 : Q.h = R.h) (h3 : Q.now = R.now) (c : Nat) : Q.stk c = R.stk c := by
  unfold Rc.stk; rw [Rc.sh_cong h1 h2 h3]
section CM
variable {ex : Nat → Option Nat} {z : Nat} {t : St} {A : Ad} {R : Rc} {al : Int32}
theorem c_min {a b : Nat} (ha : a < 2 ^ 31) (hb : b < 2 ^ 31) : fJ4_min ex z (nI a) (nI b) t = some (nI (if b < a then b else a), t) := by
  unfold fJ4_min
  rw [iflt a rfl rfl hb ha]
  split <;> rfl
/-- heard and strokes of one that goes on -/
theorem c_57 (H : RR t.1 A R al) (B : R.Ba) {c w : Nat} (hc : c < R.n) (hw : w < 4) (hs : skyOf R al w) : ∃ σ', fX1_moves_57 ex z A.r (A.ca c) t = some ((), (σ', t.2)) ∧ RR σ' A (if w = 2 then R else (R.s_he (R.he ||| 2 ^ c)).s_so (R.so + stro (R.stk c))) al ∧ ∀ q, q ≠ A.r → σ' q = t.1 q := by
  have hn := B.n
  have hk := B.k c hc
  unfold fX1_moves_57
  rw [ccast_at H.ra (by decide), c_sky (t := (t.1, 0, 0)) H B hs, gb_pure, ifl 2 (by omega) (by decide)]
  by_cases h2 : w = 2
  · rw [if_pos h2, if_pos h2]
    exact ⟨t.1, rfl, H, fun q _ => rfl⟩
  · rw [if_neg h2, if_neg h2, cgI_at H.ra (by decide) rfl, cgI_at (H.ck c hc) (kin hk) rfl, one_shl c (by omega), nI_or]
    generalize R.he ||| 2 ^ c = x
    rw [cput_at H.ra (by decide) (by show 7 < 9; decide)]
    have H1 : RR (g_u t.1 A.r (raC (R.s_he x) A al)) A (R.s_he x) al := H.putR (by rfl) (by rfl) (by rfl) (fun i hi => by rfl) (by rfl)
    have e1 : (true, Sum.inr (1, [Value.int (nI R.W), Value.ref A.d, Value.ref A.l, Value.int (nI R.now), Value.ref A.s, Value.int (nI R.mn), Value.int al, Value.int (nI R.he), Value.int (nI R.so)].set 7 (.int (nI x)))) = raC (R.s_he x) A al := rfl
    have B1 : (R.s_he x).Ba := B
    rw [e1, cgI_at H1.ra (by decide) rfl, ccast_at (H1.ck c hc) (kin hk), c_strokes (t := (g_u t.1 A.r (raC (R.s_he x) A al), 0, 0)) H1 B1 hc]
    show ∃ σ', (gb (some (_, ((g_u t.1 A.r (raC (R.s_he x) A al), t.2) : St).1, 0, 0)) (g_u t.1 A.r (raC (R.s_he x) A al), t.2) _) = _ ∧ _
    rw [gb_pure, cput_at H1.ra (by decide) (by show 8 < 9; decide), g_u_twice]
    have e2 : (R.s_he x).stk c = R.stk c := Rc.stk_cong (by rfl) (by rfl) (by rfl) c
    rw [e2]
    have e3 : nI (R.s_he x).so + nI (stro (R.stk c)) = nI (R.so + stro (R.stk c)) := nI_add _ _
    rw [e3]
    generalize R.so + stro (R.stk c) = y
    exact ⟨_, rfl, H.putR (by simp [rcS]) (by simp [rcS]) (by simp [rcS]) (fun i hi => by simp [rcS, ckC]) (by simp [rcS, raC]), fun q hq => g_u_ne _ _ hq⟩
end CM
