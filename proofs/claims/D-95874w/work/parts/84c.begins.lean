set_option maxRecDepth 100000
section MB
variable {t : MS} {R : Rc}
theorem m_ab2 (B : R.Ba) : ∀ (j c fuel : Nat) (t : MS), c + j = R.n → j < fuel → MR t (R.bk c) → ∃ t', fX3_allBack_2 fuel (nI c) t = some ((), setI t' 12 0) ∧ MR t' (R.bk R.n) ∧ Sm t t'
  | 0, c, fuel, t, hj, hf, H => by
    obtain ⟨m, rfl⟩ : ∃ m, fuel = m + 1 := ⟨fuel - 1, by omega⟩
    obtain rfl : c = R.n := by omega
    have hn := B.n
    have en : (R.bk R.n).n = R.n := rfl
    rw [fX3_allBack_2, H.1.n, en, if_pos (nI_le (Nat.le_refl _) (by omega))]
    exact ⟨t, rfl, H, Sm.rf t⟩
  | j + 1, c, fuel, t, hj, hf, H => by
    obtain ⟨m, rfl⟩ : ∃ m, fuel = m + 1 := ⟨fuel - 1, by omega⟩
    have hn := B.n
    have en : (R.bk c).n = R.n := rfl
    rw [fX3_allBack_2, H.1.n, en, if_neg (nI_ge (by omega) (by omega)), ilit 42, nI_add, mast_nI (by omega) (by decide), ilit 51, nI_add, mast_nI (by omega) (by decide), nI_1]
    have S1 : Sm t (setA (setA t 0 (42 + c) 0) 0 (51 + c) (-4)) := (Sm.set t _ _).sets _ _
    have e0 : (setA (setA t 0 (42 + c) 0) 0 (51 + c) (-4)).2.1 0 = upd (upd (t.2.1 0) (42 + c) 0) (51 + c) (-4) := by rw [setA_same, setA_same]
    have H1 : MR (setA (setA t 0 (42 + c) 0) 0 (51 + c) (-4)) (R.bk (c + 1)) := by
      refine ⟨H.1.to S1 rfl rfl rfl rfl rfl rfl ?_ ?_ ?_ ?_ ?_ ?_ ?_, ?_⟩
      · intro w hw; rw [e0, upd_no _ _ (by omega), upd_no _ _ (by omega)]; exact H.1.d w hw
      · intro i hi; have hi' : i < R.n := hi; rw [e0, upd_no _ _ (by omega), upd_no _ _ (by omega)]; exact H.1.h i hi
      · intro i hi; have hi' : i < R.n := hi; rw [e0, upd_no _ _ (by omega), upd_no _ _ (by omega)]; exact H.1.s i hi
      · intro i hi
        have hi' : i < R.n := hi
        rw [e0, upd_no _ _ (by omega)]
        by_cases hq : i = c
        · subst hq; rw [upd_at, show (R.bk (i + 1)).p i = 0 from if_pos (Nat.lt_succ_self i)]; rfl
        · rw [upd_no _ _ (by omega), H.1.p i hi]
          show nI (if i < c then 0 else R.p i) = nI (if i < c + 1 then 0 else R.p i)
          have : (i < c + 1) ↔ (i < c) := by omega
          simp only [this]
      · rw [e0, upd_no _ _ (by omega), upd_no _ _ (by omega)]; exact H.1.now
      · rw [e0, upd_no _ _ (by omega), upd_no _ _ (by omega)]; exact H.1.he
      · rw [e0, upd_no _ _ (by omega), upd_no _ _ (by omega)]; exact H.1.so
      · intro i hi
        have hi' : i < R.n := hi
        rw [e0]
        by_cases hq : i = c
        · subst hq; rw [upd_at, show (R.bk (i + 1)).f i = 0 from if_pos (Nat.lt_succ_self i)]; rfl
        · rw [upd_no _ _ (by omega), upd_no _ _ (by omega), H.2 i hi]
          show fin (if i < c then 0 else R.f i) = fin (if i < c + 1 then 0 else R.f i)
          have : (i < c + 1) ↔ (i < c) := by omega
          simp only [this]
    obtain ⟨t2, q1, q2, q3⟩ := m_ab2 B j (c + 1) m _ (by omega) (by omega) H1
    exact ⟨t2, q1, q2, S1.tr q3⟩
theorem m_allBack (H : MR t R) (B : R.Ba) : ∃ t', fX3_allBack t = some ((), setI t' 12 0) ∧ MR t' R.back ∧ Sm t t' := by
  have hn := B.n
  have h0 : MR t (R.bk 0) := H.cong rfl rfl rfl (fun _ _ => rfl) (fun _ _ => rfl) (fun _ _ => rfl) (fun c _ => by show (if c < 0 then 0 else R.p c) = _; rw [if_neg (Nat.not_lt_zero c)]) (fun c _ => by show (if c < 0 then 0 else R.f c) = _; rw [if_neg (Nat.not_lt_zero c)]) (fun _ _ => rfl) (fun _ _ => rfl) (fun _ _ => rfl) rfl rfl rfl
  obtain ⟨t', q1, q2, q3⟩ := m_ab2 B R.n 0 1000 t (by omega) (by omega) h0
  exact ⟨t', q1, q2.cong rfl rfl rfl (fun _ _ => rfl) (fun _ _ => rfl) (fun _ _ => rfl) (fun c hc => by have hc' : c < R.n := hc; show 0 = (if c < R.n then 0 else R.p c); rw [if_pos hc']) (fun c hc => by have hc' : c < R.n := hc; show 0 = (if c < R.n then 0 else R.f c); rw [if_pos hc']) (fun _ _ => rfl) (fun _ _ => rfl) (fun _ _ => rfl) rfl rfl rfl, q3⟩
end MB
