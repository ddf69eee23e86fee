/-! pure facts of the reference's functions -/
set_option maxRecDepth 100000
theorem i64_ltE {x y : Int64} : x < y ↔ x.toInt < y.toInt := Int64.lt_iff_toInt_lt
/-- 'in' -/
theorem m_in (v a b : Int64) (t : MS) : fX3_in v a b t = some (if a ≤ v ∧ v ≤ b then 1 else 0, t) := by
  unfold fX3_in
  have h1 : (a < v ∨ a = v) ↔ a ≤ v := by
    simp only [Int64.lt_iff_toInt_lt, Int64.le_iff_toInt_le, ← Int64.toInt_inj]; omega
  by_cases h : a ≤ v
  · have e1 : ¬ ((if a < v then 1 else if v = a then 0 else -1 : Int32) < 0) := by
      rcases h1.mpr h with h2 | h2
      · rw [if_pos h2]; decide
      · subst h2
        have : ¬ a < a := by simp only [Int64.lt_iff_toInt_lt]; omega
        rw [if_neg this, if_pos rfl]; decide
    rw [if_neg e1]
    by_cases g : b < v
    · have g2 : ¬ v ≤ b := by simp only [Int64.lt_iff_toInt_lt, Int64.le_iff_toInt_le] at g ⊢; omega
      rw [if_pos g, if_pos (by decide), if_neg (fun q => g2 q.2)]
    · have g2 : v ≤ b := by simp only [Int64.lt_iff_toInt_lt, Int64.le_iff_toInt_le] at g ⊢; omega
      rw [if_neg g, if_pos (show a ≤ v ∧ v ≤ b from ⟨h, g2⟩)]
      by_cases g3 : v = b
      · rw [if_pos g3, if_neg (by decide)]
      · rw [if_neg g3, if_neg (by decide)]
  · have n1 : ¬ a < v := fun q => h (h1.mp (Or.inl q))
    have n2 : ¬ v = a := fun q => h (h1.mp (Or.inr q.symm))
    rw [if_neg n1, if_neg n2, if_pos (by decide), if_neg (fun q => h q.1)]
theorem i32_64 (x : Int32) : x.toInt64.toInt = x.toInt := by simp
/-- 'in' of whole numbers -/
theorem m_inI (x a b : Int32) (t : MS) : fX3_in x.toInt64 a.toInt64 b.toInt64 t = some (if a ≤ x ∧ x ≤ b then 1 else 0, t) := by
  rw [m_in]
  simp only [Int64.le_iff_toInt_le, Int32.le_iff_toInt_le, i32_64]
theorem m_isClock (x : Int32) (t : MS) : fX3_isClock x t = some (if 0 ≤ x ∧ x ≤ t.1 3 - 1 then 1 else 0, t) := by
  unfold fX3_isClock
  rw [show (0 : Int64) = (0 : Int32).toInt64 from rfl, m_inI, gm_some]
  by_cases h : 0 ≤ x ∧ x ≤ t.1 3 - 1
  · rw [if_pos h]; rfl
  · rw [if_neg h]; rfl
