/-! image, restore -/
set_option maxRecDepth 100000
theorem setA_id (t : MS) (j i : Nat) : setA t j i (t.2.1 j i) = t := by
  have e : (fun a => if a = j then upd (t.2.1 j) i (t.2.1 j i) else t.2.1 a) = t.2.1 := by
    funext a
    by_cases h : a = j
    · subst h
      rw [if_pos rfl]
      funext q
      by_cases hq : q = i
      · subst hq; rw [upd_at]
      · rw [upd_no _ _ hq]
    · rw [if_neg h]
  unfold setA
  rw [e]
theorem setI_id (t : MS) (k : Nat) : setI t k (t.1 k) = t := by
  have e : upd t.1 k (t.1 k) = t.1 := by
    funext q
    by_cases hq : q = k
    · subst hq; rw [upd_at]
    · rw [upd_no _ _ hq]
  unfold setI
  rw [e]
/-- where what is carried lies: an array (below 7) and a place of it, or 7 and a field -/
def pos (k : Nat) : Nat × Nat := if k < 63 then (0, k) else if k < 72 then (1, k - 63) else if k < 81 then (2, k - 72) else if k < 93 then (3, k - 81) else if k < 99 then (4, k - 93) else if k < 105 then (5, k - 99) else if k < 135 then (6, k - 105) else if k = 135 then (7, 3) else if k = 136 then (7, 4) else if k = 137 then (7, 6) else if k = 138 then (7, 10) else if k = 139 then (7, 12) else (7, 13)
def ipos (p : Nat × Nat) : Nat := if p.1 = 0 then p.2 else if p.1 = 1 then p.2 + 63 else if p.1 = 2 then p.2 + 72 else if p.1 = 3 then p.2 + 81 else if p.1 = 4 then p.2 + 93 else if p.1 = 5 then p.2 + 99 else if p.1 = 6 then p.2 + 105 else if p.2 = 3 then 135 else if p.2 = 4 then 136 else if p.2 = 6 then 137 else if p.2 = 10 then 138 else if p.2 = 12 then 139 else 140
theorem ipos_pos : ∀ k, k < 141 → ipos (pos k) = k := by decide +kernel
theorem pos_ok : ∀ k, k < 141 → (pos k).1 < 8 ∧ ((pos k).1 = 7 → (pos k).2 = 3 ∨ (pos k).2 = 4 ∨ (pos k).2 = 6 ∨ (pos k).2 = 10 ∨ (pos k).2 = 12 ∨ (pos k).2 = 13) := by decide +kernel
def gt (t : MS) (p : Nat × Nat) : Int32 := if p.1 < 7 then t.2.1 p.1 p.2 else t.1 p.2
def pt (t : MS) (p : Nat × Nat) (v : Int32) : MS := if p.1 < 7 then setA t p.1 p.2 v else setI t p.2 v
theorem gt_pt (t : MS) (p : Nat × Nat) (v : Int32) : gt (pt t p v) p = v := by
  unfold gt pt
  by_cases h : p.1 < 7
  · rw [if_pos h, if_pos h, setA_same, upd_at]
  · rw [if_neg h, if_neg h, setI_at]
theorem gt_pn (t : MS) {p q : Nat × Nat} (v : Int32) (hp : p.1 < 8) (hq : q.1 < 8) (hne : q ≠ p) : gt (pt t p v) q = gt t q := by
  unfold gt pt
  by_cases h : p.1 < 7
  · rw [if_pos h]
    by_cases g : q.1 < 7
    · rw [if_pos g, if_pos g]
      by_cases e : q.1 = p.1
      · rw [e, setA_same, upd_no]
        intro e2; exact hne (Prod.ext e e2)
      · rw [setA_other _ _ _ e]
    · rw [if_neg g, if_neg g]; rfl
  · rw [if_neg h]
    by_cases g : q.1 < 7
    · rw [if_pos g, if_pos g]; rfl
    · rw [if_neg g, if_neg g]
      show upd t.1 p.2 v q.2 = t.1 q.2
      rw [upd_no]
      intro e2; exact hne (Prod.ext (by omega) e2)
theorem carr_gt (t : MS) (k : Nat) : carr t k = gt t (pos k) := by
  unfold carr pos
  by_cases h1 : k < 63
  · rw [if_pos h1, if_pos h1]; rfl
  rw [if_neg h1, if_neg h1]
  by_cases h2 : k < 72
  · rw [if_pos h2, if_pos h2]; rfl
  rw [if_neg h2, if_neg h2]
  by_cases h3 : k < 81
  · rw [if_pos h3, if_pos h3]; rfl
  rw [if_neg h3, if_neg h3]
  by_cases h4 : k < 93
  · rw [if_pos h4, if_pos h4]; rfl
  rw [if_neg h4, if_neg h4]
  by_cases h5 : k < 99
  · rw [if_pos h5, if_pos h5]; rfl
  rw [if_neg h5, if_neg h5]
  by_cases h6 : k < 105
  · rw [if_pos h6, if_pos h6]; rfl
  rw [if_neg h6, if_neg h6]
  by_cases h7 : k < 135
  · rw [if_pos h7, if_pos h7]; rfl
  rw [if_neg h7, if_neg h7]
  by_cases h8 : k = 135
  · rw [if_pos h8, if_pos h8]; rfl
  rw [if_neg h8, if_neg h8]
  by_cases h9 : k = 136
  · rw [if_pos h9, if_pos h9]; rfl
  rw [if_neg h9, if_neg h9]
  by_cases h10 : k = 137
  · rw [if_pos h10, if_pos h10]; rfl
  rw [if_neg h10, if_neg h10]
  by_cases h11 : k = 138
  · rw [if_pos h11, if_pos h11]; rfl
  rw [if_neg h11, if_neg h11]
  by_cases h12 : k = 139
  · rw [if_pos h12, if_pos h12]; rfl
  rw [if_neg h12, if_neg h12]; rfl
theorem i10 : ¬ (1 : Int32) = 0 := by decide
theorem m_car (t : MS) (v : Int32) {k : Nat} (hk : k < 141) : fX3_carried (nI k) 0 0 t = some (carr t k, t) ∧ ∃ r, fX3_carried (nI k) v 1 t = some (r, pt t (pos k) v) := by
  unfold fX3_carried carr pos
  rw [ifler 63 (by decide) (by omega), ifler 63 (by decide) (by omega)]
  by_cases h1 : k < 63
  · rw [if_neg (show ¬ 63 ≤ k by omega), if_neg (show ¬ 63 ≤ k by omega), if_pos h1, if_pos h1, if_pos rfl, if_neg i10, mald_nI h1 (by decide), mast_nI h1 (by decide), setA_id, mald_nI h1 (by decide), mast_nI h1 (by decide), mald_nI h1 (by decide)]
    exact ⟨rfl, _, rfl⟩
  rw [if_pos (show 63 ≤ k by omega), if_pos (show 63 ≤ k by omega), if_neg h1, if_neg h1, ifler 81 (by decide) (by omega), ifler 81 (by decide) (by omega)]
  by_cases h3 : k < 81
  · have hq : (k - 63) % 9 < 9 := Nat.mod_lt _ (by decide)
    rw [if_neg (show ¬ 81 ≤ k by omega), if_neg (show ¬ 81 ≤ k by omega)]
    simp only [lt]
    rw [ilit 63, nI_sub (by omega), ilit 9, pk_rem' 9 (by omega) (by decide) (by decide), if_pos trivial, if_neg i10, ifler 72 (by decide) (by omega)]
    unfold fX3_carried_68 fX3_carried_75 fX3_carried_96 fX3_carried_103
    by_cases h2 : k < 72
    · have e : (k - 63) % 9 = k - 63 := by omega
      rw [e, if_pos h2, if_pos h2, if_neg (show ¬ 72 ≤ k by omega), mald_nI (by omega) (by decide), mast_nI (by omega) (by decide), setA_id, if_pos rfl, mald_nI (by omega) (by decide), mast_nI (by omega) (by decide), setA_id, ifler 72 (by decide) (by omega), if_neg (show ¬ 72 ≤ k by omega), mald_nI (by omega) (by decide), mast_nI (by omega) (by decide), if_neg i10, ifltl 72 (by omega) (by decide), if_pos h2, mald_nI (by omega) (by decide), mast_nI (by omega) (by decide), setA_id, ifler 72 (by decide) (by omega), if_neg (show ¬ 72 ≤ k by omega), mald_nI (by omega) (by decide)]
      exact ⟨rfl, _, rfl⟩
    · have e : (k - 63) % 9 = k - 72 := by omega
      rw [e, if_neg h2, if_neg h2, if_pos h3, if_pos h3, if_pos (show 72 ≤ k by omega), mald_nI (by omega) (by decide), mast_nI (by omega) (by decide), setA_id, if_pos rfl, mald_nI (by omega) (by decide), mast_nI (by omega) (by decide), setA_id, ifler 72 (by decide) (by omega), if_pos (show 72 ≤ k by omega), mald_nI (by omega) (by decide), mald_nI (by omega) (by decide), mast_nI (by omega) (by decide), setA_id, if_neg i10, ifltl 72 (by omega) (by decide), if_neg h2, mast_nI (by omega) (by decide), ifler 72 (by decide) (by omega), if_pos (show 72 ≤ k by omega), mald_nI (by omega) (by decide)]
      exact ⟨rfl, _, rfl⟩
  rw [if_pos (show 81 ≤ k by omega), if_pos (show 81 ≤ k by omega), if_neg (show ¬ k < 72 by omega), if_neg (show ¬ k < 72 by omega), if_neg h3, if_neg h3, ifler 93 (by decide) (by omega), ifler 93 (by decide) (by omega)]
  by_cases h4 : k < 93
  · rw [if_neg (show ¬ 93 ≤ k by omega), if_neg (show ¬ 93 ≤ k by omega), if_pos h4, if_pos h4, if_pos rfl, if_neg i10]
    unfold fX3_carried_159
    rw [ilit 81, nI_sub (by omega), mald_nI (by omega) (by decide), mast_nI (by omega) (by decide), setA_id, mald_nI (by omega) (by decide), mast_nI (by omega) (by decide), mald_nI (by omega) (by decide)]
    exact ⟨rfl, _, rfl⟩
  rw [if_pos (show 93 ≤ k by omega), if_pos (show 93 ≤ k by omega), if_neg h4, if_neg h4, ifler 105 (by decide) (by omega), ifler 105 (by decide) (by omega)]
  by_cases h6 : k < 105
  · have hq : (k - 93) % 6 < 6 := Nat.mod_lt _ (by decide)
    rw [if_neg (show ¬ 105 ≤ k by omega), if_neg (show ¬ 105 ≤ k by omega)]
    simp only [lt]
    rw [ilit 93, nI_sub (by omega), ilit 6, pk_rem' 6 (by omega) (by decide) (by decide), if_pos trivial, if_neg i10, ifler 99 (by decide) (by omega)]
    unfold fX3_carried_205 fX3_carried_212 fX3_carried_233 fX3_carried_240
    by_cases h2 : k < 99
    · have e : (k - 93) % 6 = k - 93 := by omega
      rw [e, if_pos h2, if_pos h2, if_neg (show ¬ 99 ≤ k by omega), mald_nI (by omega) (by decide), mast_nI (by omega) (by decide), setA_id, if_pos rfl, mald_nI (by omega) (by decide), mast_nI (by omega) (by decide), setA_id, ifler 99 (by decide) (by omega), if_neg (show ¬ 99 ≤ k by omega), mald_nI (by omega) (by decide), mast_nI (by omega) (by decide), if_neg i10, ifltl 99 (by omega) (by decide), if_pos h2, mald_nI (by omega) (by decide), mast_nI (by omega) (by decide), setA_id, ifler 99 (by decide) (by omega), if_neg (show ¬ 99 ≤ k by omega), mald_nI (by omega) (by decide)]
      exact ⟨rfl, _, rfl⟩
    · have e : (k - 93) % 6 = k - 99 := by omega
      rw [e, if_neg h2, if_neg h2, if_pos h6, if_pos h6, if_pos (show 99 ≤ k by omega), mald_nI (by omega) (by decide), mast_nI (by omega) (by decide), setA_id, if_pos rfl, mald_nI (by omega) (by decide), mast_nI (by omega) (by decide), setA_id, ifler 99 (by decide) (by omega), if_pos (show 99 ≤ k by omega), mald_nI (by omega) (by decide), mald_nI (by omega) (by decide), mast_nI (by omega) (by decide), setA_id, if_neg i10, ifltl 99 (by omega) (by decide), if_neg h2, mast_nI (by omega) (by decide), ifler 99 (by decide) (by omega), if_pos (show 99 ≤ k by omega), mald_nI (by omega) (by decide)]
      exact ⟨rfl, _, rfl⟩
  rw [if_pos (show 105 ≤ k by omega), if_pos (show 105 ≤ k by omega), if_neg (show ¬ k < 99 by omega), if_neg (show ¬ k < 99 by omega), if_neg h6, if_neg h6, ifler 135 (by decide) (by omega), ifler 135 (by decide) (by omega)]
  by_cases h7 : k < 135
  · rw [if_neg (show ¬ 135 ≤ k by omega), if_neg (show ¬ 135 ≤ k by omega), if_pos h7, if_pos h7, if_pos rfl, if_neg i10]
    unfold fX3_carried_297
    rw [ilit 105, nI_sub (by omega), mald_nI (by omega) (by decide), mast_nI (by omega) (by decide), setA_id, mald_nI (by omega) (by decide), mast_nI (by omega) (by decide), mald_nI (by omega) (by decide)]
    exact ⟨rfl, _, rfl⟩
  rw [if_pos (show 135 ≤ k by omega), if_pos (show 135 ≤ k by omega), if_neg h7, if_neg h7]
  rcases (show k = 135 ∨ k = 136 ∨ k = 137 ∨ k = 138 ∨ k = 139 ∨ k = 140 by omega) with rfl | rfl | rfl | rfl | rfl | rfl <;>
  · simp +decide only [fX3_carried_324, fX3_carried_328, fX3_carried_347, fX3_carried_351, fX3_carried_370, fX3_carried_374, fX3_carried_393, fX3_carried_397, fX3_carried_416, fX3_carried_420, fX3_carried_439, fX3_carried_443, lt, setI_id, if_true, if_false]
    exact ⟨trivial, _, rfl⟩
/-- carried or not: what is the core's only differs -/
def Sc (t t' : MS) : Prop := (∀ i, i ≠ 3 → i ≠ 4 → i ≠ 6 → i ≠ 10 → i ≠ 12 → i ≠ 13 → t'.1 i = t.1 i) ∧ (∀ j, 7 ≤ j → t'.2.1 j = t.2.1 j) ∧ t'.2.2 = t.2.2
theorem Sc.rf (t : MS) : Sc t t := ⟨fun _ _ _ _ _ _ _ => rfl, fun _ _ => rfl, rfl⟩
theorem Sc.tr {t u v : MS} (h : Sc t u) (g : Sc u v) : Sc t v := ⟨fun i a b c d e f => (g.1 i a b c d e f).trans (h.1 i a b c d e f), fun j hj => (g.2.1 j hj).trans (h.2.1 j hj), g.2.2.trans h.2.2⟩
theorem Sc.ofpt (t : MS) {k : Nat} (hk : k < 141) (v : Int32) : Sc t (pt t (pos k) v) := by
  obtain ⟨h1, h2⟩ := pos_ok k hk
  show Sc t (if (pos k).1 < 7 then setA t (pos k).1 (pos k).2 v else setI t (pos k).2 v)
  by_cases h : (pos k).1 < 7
  · rw [if_pos h]
    exact ⟨fun _ _ _ _ _ _ _ => rfl, fun j hj => setA_other _ _ _ (by omega), rfl⟩
  · rw [if_neg h]
    have h3 := h2 (by omega)
    exact ⟨fun i a b c d e f => upd_no _ _ (by omega), fun _ _ => rfl, rfl⟩
theorem m_im2 {t0 : MS} : ∀ (j k fuel : Nat) (t : MS), k + j = 141 → j < fuel → t.1 = t0.1 → (∀ i, i ≠ 11 → t.2.1 i = t0.2.1 i) → t.2.2 = t0.2.2 → (∀ i, i < k → t.2.1 11 i = carr t0 i) → ∃ t', fX3_image_2 fuel (nI k) t = some (1, setI t' 21 1) ∧ t'.1 = t0.1 ∧ (∀ i, i ≠ 11 → t'.2.1 i = t0.2.1 i) ∧ t'.2.2 = t0.2.2 ∧ ∀ i, i < 141 → t'.2.1 11 i = carr t0 i
  | 0, k, fuel, t, hj, hf, h1, h2, h3, h4 => by
    obtain ⟨m, rfl⟩ : ∃ m, fuel = m + 1 := ⟨fuel - 1, by omega⟩
    obtain rfl : k = 141 := by omega
    rw [fX3_image_2, ifler 141 (by decide) (by decide), if_pos (Nat.le_refl _)]
    exact ⟨t, rfl, h1, h2, h3, h4⟩
  | j + 1, k, fuel, t, hj, hf, h1, h2, h3, h4 => by
    obtain ⟨m, rfl⟩ : ∃ m, fuel = m + 1 := ⟨fuel - 1, by omega⟩
    have ec : carr t k = carr t0 k := by
      unfold carr
      rw [h1, h2 0 (by decide), h2 1 (by decide), h2 2 (by decide), h2 3 (by decide), h2 4 (by decide), h2 5 (by decide), h2 6 (by decide)]
    rw [fX3_image_2, ifler 141 (by decide) (by omega), if_neg (by omega), (m_car t 0 (by omega)).1, gm_some, mast_nI (by omega) (by decide), nI_1]
    refine m_im2 j (k + 1) m _ (by omega) (by omega) h1 (fun i hi => (setA_other _ _ _ hi).trans (h2 i hi)) h3 (fun i hi => ?_)
    rw [setA_same]
    by_cases hq : i = k
    · subst hq; rw [upd_at, ec]
    · rw [upd_no _ _ hq]; exact h4 i (by omega)
theorem m_re12 {t0 : MS} : ∀ (j k fuel : Nat) (t : MS), k + j = 141 → j < fuel → Sc t0 t → (∀ i, i < k → carr t i = t0.2.1 11 i) → ∃ t', fX3_restore_12 fuel (nI k) t = some (1, t') ∧ Sc t0 t' ∧ ∀ i, i < 141 → carr t' i = t0.2.1 11 i
  | 0, k, fuel, t, hj, hf, h1, h2 => by
    obtain ⟨m, rfl⟩ : ∃ m, fuel = m + 1 := ⟨fuel - 1, by omega⟩
    obtain rfl : k = 141 := by omega
    rw [fX3_restore_12, ifler 141 (by decide) (by decide), if_pos (Nat.le_refl _)]
    exact ⟨t, rfl, h1, h2⟩
  | j + 1, k, fuel, t, hj, hf, h1, h2 => by
    obtain ⟨m, rfl⟩ : ∃ m, fuel = m + 1 := ⟨fuel - 1, by omega⟩
    obtain ⟨r, hr⟩ := (m_car t (t.2.1 11 k) (show k < 141 by omega)).2
    rw [fX3_restore_12, ifler 141 (by decide) (by omega), if_neg (by omega), mald_nI (by omega) (by decide), hr, gm_some, nI_1]
    refine m_re12 j (k + 1) m _ (by omega) (by omega) (h1.tr (Sc.ofpt t (by omega) _)) (fun i hi => ?_)
    rw [carr_gt]
    by_cases hq : i = k
    · subst hq; rw [gt_pt, h1.2.1 11 (by decide)]
    · rw [gt_pn _ _ (pos_ok k (by omega)).1 (pos_ok i (by omega)).1 (fun e => hq (by
        have := congrArg ipos e
        rw [ipos_pos i (by omega), ipos_pos k (by omega)] at this; exact this)), ← carr_gt]
      exact h2 i (by omega)
/-- the core, by what is carried -/
theorem MCo.carr {t t' : MS} {C : Co} (H : MCo t C) (h9 : C.R.n ≤ 9) (hb : C.bn ≤ 6) (hu : C.un ≤ 10) (h : ∀ k, k < 141 → carr t' k = carr t k) : MCo t' C := by
  have c0 : ∀ i, i < 63 → t'.2.1 0 i = t.2.1 0 i := fun i hi => by
    have := h i (by omega); rw [carr_gt, carr_gt] at this
    rw [show pos i = (0, i) from if_pos hi] at this; exact this
  have q : ∀ (k j i : Nat), k < 141 → pos k = (j, i) → j < 7 → t'.2.1 j i = t.2.1 j i := fun k j i hk hp hj => by
    have := h k hk; rw [carr_gt, carr_gt, hp] at this
    unfold gt at this
    rw [if_pos hj, if_pos hj] at this; exact this
  have qi : ∀ (k i : Nat), k < 141 → pos k = (7, i) → t'.1 i = t.1 i := fun k i hk hp => by
    have := h k hk; rw [carr_gt, carr_gt, hp] at this; exact this
  have p1 : ∀ c, c < 9 → t'.2.1 1 c = t.2.1 1 c := fun c hc => q (63 + c) 1 c (by omega) (by unfold pos; rw [if_neg (by omega), if_pos (by omega), Nat.add_sub_cancel_left]) (by decide)
  have p2 : ∀ c, c < 9 → t'.2.1 2 c = t.2.1 2 c := fun c hc => q (72 + c) 2 c (by omega) (by unfold pos; rw [if_neg (by omega), if_neg (by omega), if_pos (by omega), Nat.add_sub_cancel_left]) (by decide)
  have p3 : ∀ c, c < 12 → t'.2.1 3 c = t.2.1 3 c := fun c hc => q (81 + c) 3 c (by omega) (by unfold pos; rw [if_neg (by omega), if_neg (by omega), if_neg (by omega), if_pos (by omega), Nat.add_sub_cancel_left]) (by decide)
  have p4 : ∀ c, c < 6 → t'.2.1 4 c = t.2.1 4 c := fun c hc => q (93 + c) 4 c (by omega) (by unfold pos; rw [if_neg (by omega), if_neg (by omega), if_neg (by omega), if_neg (by omega), if_pos (by omega), Nat.add_sub_cancel_left]) (by decide)
  have p5 : ∀ c, c < 6 → t'.2.1 5 c = t.2.1 5 c := fun c hc => q (99 + c) 5 c (by omega) (by unfold pos; rw [if_neg (by omega), if_neg (by omega), if_neg (by omega), if_neg (by omega), if_neg (by omega), if_pos (by omega), Nat.add_sub_cancel_left]) (by decide)
  have p6 : ∀ c, c < 30 → t'.2.1 6 c = t.2.1 6 c := fun c hc => q (105 + c) 6 c (by omega) (by unfold pos; rw [if_neg (by omega), if_neg (by omega), if_neg (by omega), if_neg (by omega), if_neg (by omega), if_neg (by omega), if_pos (by omega), Nat.add_sub_cancel_left]) (by decide)
  have b := H.r.1
  refine ⟨⟨⟨?_, ?_, ?_, ?_, ?_, ?_, ?_, ?_, ?_, ?_, ?_, ?_, ?_⟩, ?_⟩, ?_, ?_, ?_, ?_, ?_⟩
  · rw [qi 135 3 (by decide) (by decide)]; exact b.n
  · rw [qi 136 4 (by decide) (by decide)]; exact b.W
  · rw [qi 137 6 (by decide) (by decide)]; exact b.mn
  · intro w hw; rw [c0 _ (by omega)]; exact b.d w hw
  · intro c hc; rw [c0 _ (by omega)]; exact b.h c hc
  · intro c hc; rw [c0 _ (by omega)]; exact b.s c hc
  · intro c hc; rw [c0 _ (by omega)]; exact b.p c hc
  · rw [c0 _ (by omega)]; exact b.now
  · rw [c0 _ (by omega)]; exact b.he
  · rw [c0 _ (by omega)]; exact b.so
  · intro c hc; rw [p1 c (by omega)]; exact b.k c hc
  · intro c hc; rw [p2 c (by omega)]; exact b.r c hc
  · intro j hj; rw [p3 j hj]; exact b.sk j hj
  · intro c hc; rw [c0 _ (by omega)]; exact H.r.2 c hc
  · rw [qi 138 10 (by decide) (by decide)]; exact H.bn
  · intro i hi; rw [p4 i (by omega), p5 i (by omega)]; exact H.b i hi
  · rw [qi 139 12 (by decide) (by decide)]; exact H.un
  · intro u hu'; rw [p6 _ (by omega), p6 _ (by omega), p6 _ (by omega)]; exact H.u u hu'
  · rw [qi 140 13 (by decide) (by decide)]; exact H.dr
theorem IL.addAll {σ : Sg} {T : Nat → Nat} {ex : Nat → Option Nat} {z k l j l2 m : Nat} {c0 cl : Nat → Bool × va_E} (H : IL σ T ex k l 0 c0) (H2 : IL σ T ex j l2 m cl) (F : Fre T z) (hkj : k ≠ j) (hk9 : k ≠ 99) (hk2 : k ≠ 20) (ho : ∀ b, b < m → obj (cl b)) (hm : m ≤ 10) : ∃ σ' dc ds r, fJ2_addAll ex z l l2 (σ, 0, 0) = some (r, (σ', dc, ds)) ∧ IL σ' (ext T z (z + dc) k) ex k l m cl ∧ Ow T k σ z σ' (z + dc) ∧ dc ≤ 2 ∧ ds ≤ 20 := by
  obtain ⟨h0, e, g, h1, h2⟩ := H
  obtain ⟨i0, e2, g2, i1, i2⟩ := H2
  have E : El σ g2 m := fun q hq => by
    obtain ⟨a, b, c, d, e⟩ := ho q hq
    exact ⟨a, b, c, by rw [← d]; exact (i2 q hq).2, e⟩
  obtain ⟨σ', e', dc, ds, r, q1, q2, q3, q4, q5⟩ := al_addAll h1 i1 F h0 i0 hkj hk9 E (fun i hi => F.lt (i2 i hi).1 (by decide)) hm
  refine ⟨σ', dc, ds, r, q1, ⟨h0, e', g2, q2, fun b hb => ?_⟩, q3, q4, q5⟩
  obtain ⟨a1, a2⟩ := i2 b hb
  exact ⟨Ow.own F a1 (by decide), (q3.at F a1 (by decide) (fun x => hk2 x.symm)).trans a2⟩
section O95
variable {t : MS} {W : Wv} {σ : Sg} {T : Nat → Nat} {ex : Nat → Option Nat} {z o : Nat} {a : Nat → Nat}
theorem b_image (M : MW t W) (H : CW σ T ex z o a W) (O : W.OK) : Both σ T ex z o a (fX3_image t) (fX0_image ex z o (σ, 0, 0)) := by
  obtain ⟨at_, hob⟩ := H.obj
  have hbn := O.c.bn
  have hun := O.c.un
  have ibn := O.i.bn
  have iun := O.i.un
  -- the reference
  obtain ⟨t1, m1, m2, m3, m4, m5⟩ := m_im2 (t0 := t) 141 0 1000 t (by omega) (by omega) rfl (fun _ _ => rfl) rfl (fun i hi => by omega)
  have m1' : fX3_image t = some (1, setI t1 21 1) := m1
  have M1 : MW (setI t1 21 1) (Wv.mk (W.C) (W.C) (1) (W.tn) (W.tp) (W.sl) (W.sz) (W.it)) := by
    have io : ∀ i, i ≠ 21 → (setI t1 21 1).1 i = t.1 i := fun i hi => (upd_no _ _ hi).trans (by rw [m2])
    refine ⟨⟨M.c.r.i (io 3 (by decide)) (io 4 (by decide)) (io 6 (by decide)) (fun j hj => m3 j (by omega)), ?_, ?_, ?_, ?_, ?_⟩, ?_, setI_at _ _ _, ?_, ?_, ?_, ?_⟩
    · rw [io 10 (by decide)]; exact M.c.bn
    · show ∀ b, b < W.C.bn → t1.2.1 4 b = _ ∧ t1.2.1 5 b = _
      rw [m3 4 (by decide), m3 5 (by decide)]; exact M.c.b
    · rw [io 12 (by decide)]; exact M.c.un
    · show ∀ u, u < W.C.un → t1.2.1 6 (3 * u) = _ ∧ t1.2.1 6 (3 * u + 1) = _ ∧ t1.2.1 6 (3 * u + 2) = _
      rw [m3 6 (by decide)]; exact M.c.u
    · rw [io 13 (by decide)]; exact M.c.dr
    · rw [io 7 (by decide)]; exact M.sky
    · exact fun _ => ⟨t, M.c, m5⟩
    · rw [io 15 (by decide)]; exact M.tn
    · show ∀ i, i < W.tn → t1.2.1 7 i = _
      rw [m3 7 (by decide)]; exact M.tp
    · show ∀ i, i < 4 → t1.2.1 12 i = _ ∧ (_ → t1.2.1 13 i = _ ∧ ∀ j, j < W.sz i → t1.2.2 0 (24 * i + j) = _)
      rw [m3 12 (by decide), m3 13 (by decide), m4]; exact M.s
  -- the component: that there is one
  have o1 : Ow T 1 σ z (g_u σ o (obC a (nI W.C.dr) (nI W.tn) at_ (nI 1) (nI W.I.dr))) z := Ow.put H.ob.1 _
  have H1 : CW (g_u σ o (obC a (nI W.C.dr) (nI W.tn) at_ (nI 1) (nI W.I.dr))) T ex z o a (Wv.mk (W.C) (W.I) (1) (W.tn) (W.tp) (W.sl) (W.sz) (W.it)) := H.u_ob (W' := (Wv.mk (W.C) (W.I) (1) (W.tn) (W.tp) (W.sl) (W.sz) (W.it))) H.fr (o1.kp0 H.fr) ⟨H.ob.1, at_, g_u_self _ _ _⟩ H.tp rfl rfl rfl rfl rfl rfl rfl rfl rfl rfl rfl rfl rfl rfl rfl rfl rfl rfl rfl
  have k1 := o1.k50' H.fr (by decide)
  unfold fX0_image
  rw [P_t hob (by decide) (by show 12 < 19; decide)]
  have e1 : (true, Sum.inr (0, [Value.ref (a 0), Value.ref (a 1), Value.ref (a 2), Value.ref (a 3), Value.ref (a 4), Value.int (nI W.C.dr), Value.ref (a 6), Value.int (nI W.tn), Value.int at_, Value.ref (a 9), Value.ref (a 10), Value.ref (a 11), Value.int (nI W.im), Value.ref (a 13), Value.ref (a 14), Value.ref (a 15), Value.int (nI W.I.dr), Value.ref (a 17), Value.ref (a 18)].set 12 (.int 1))) = obC a (nI W.C.dr) (nI W.tn) at_ (nI 1) (nI W.I.dr) := rfl
  rw [e1]
  generalize g_u σ o (obC a (nI W.C.dr) (nI W.tn) at_ (nI 1) (nI W.I.dr)) = σ1 at o1 H1 k1 ⊢
  obtain ⟨at1, hob1⟩ := H1.obj
  -- the race
  obtain ⟨A, hA, R⟩ := H1.race
  obtain ⟨-, A4, hA4, R4⟩ := H1.im
  have R' : RT σ1 T 2 ex A W.C.R (-4) := R
  have R4' : RT σ1 T 4 ex A4 W.I.R (-4) := R4
  obtain ⟨σ2, A2, dc2, ds2, p1, p2, p3, p4, p5, p6⟩ := rt_takes R4' O.i.r.b R' O.ba H1.fr (by decide) (by decide) (by decide) (by decide)
  rw [hA4, hA] at p1
  have K2 := p4.kp H1.fr
  have k2 := p4.k50 H1.fr (by decide)
  have H2 := H1.u_im (W' := (Wv.mk (W.C) ((Co.mk (W.C.R) (W.I.bn) (W.I.bc) (W.I.bs) (W.I.un) (W.I.uk) (W.I.uw) (W.I.ua) (W.I.dr))) (1) (W.tn) (W.tp) (W.sl) (W.sz) (W.it))) (H1.fr.ext (by omega)) K2 ⟨by decide, A2, p3.trans hA4, p2⟩ rfl rfl rfl rfl rfl rfl rfl rfl rfl rfl rfl rfl rfl rfl rfl rfl rfl rfl rfl rfl rfl rfl rfl
  have hr4 : σ1 (a 13) = some (raC W.I.R A4 (-4)) := by rw [← hA4]; exact R4'.1.ra
  rw [A_t hob1 (by decide) rfl, A_t hob1 (by decide) rfl, X_t hr4 (by decide)]
  simp only [Nat.add_zero]
  rw [p1, gb_app]
  simp only [Nat.zero_add]
  generalize ext T z (z + dc2) 4 = T2 at H2 K2 k2
  obtain ⟨at2, hob2⟩ := H2.obj
  -- its bets
  have Hib := PBts.il.mp H2.ib
  obtain ⟨mc3, e3, hl3⟩ := Hib.li
  obtain ⟨σ3, c1, c2, c3⟩ := Hib.clear (z := z + dc2) (show W.I.bn ≤ 160 by omega) (z + dc2)
  have K3 := c3.kp0 H2.fr
  have H3 := H2.u_ib (W' := (Wv.mk (W.C) ((Co.mk (W.C.R) (0) (W.I.bc) (W.I.bs) (W.I.un) (W.I.uk) (W.I.uw) (W.I.ua) (W.I.dr))) (1) (W.tn) (W.tp) (W.sl) (W.sz) (W.it))) H2.fr K3 (c2 _) rfl rfl rfl rfl rfl rfl rfl rfl rfl rfl rfl rfl rfl rfl rfl rfl rfl rfl rfl rfl rfl
  obtain ⟨at3, hob3⟩ := H3.obj
  rw [A_t hob2 (by decide) rfl, X_t hl3 (by decide), c1, gb_z]
  have Hb3 := PBts.il.mp H3.bt
  have Hib3 := PBts.il.mp H3.ib
  obtain ⟨mc4, e4, hl4⟩ := Hib3.li
  obtain ⟨σ4, dc4, ds4, r4, d1, d2, d3, d4, d5⟩ := IL.addAll (z := z + dc2) Hib3 Hb3 H3.fr (by decide) (by decide) (by decide) (fun b _ => obj_bt _ _) (show W.C.bn ≤ 10 by omega)
  have K4 := d3.kp H3.fr
  have k4 := d3.k50 H3.fr (by decide)
  have H4 := H3.u_ib (W' := (Wv.mk (W.C) ((Co.mk (W.C.R) (W.C.bn) (W.C.bc) (W.C.bs) (W.I.un) (W.I.uk) (W.I.uw) (W.I.ua) (W.I.dr))) (1) (W.tn) (W.tp) (W.sl) (W.sz) (W.it))) (H3.fr.ext (by omega)) K4 d2 rfl rfl rfl rfl rfl rfl rfl rfl rfl rfl rfl rfl rfl rfl rfl rfl rfl rfl rfl rfl rfl
  rw [A_t hob3 (by decide) rfl, A_t hob3 (by decide) rfl, X_t hl4 (by decide), d1, gb_app]
  generalize ext T2 (z + dc2) (z + dc2 + dc4) 7 = T4 at H4 K4 k4
  obtain ⟨at4, hob4⟩ := H4.obj
  -- its repairs
  have Hiu := PUns.il.mp H4.iu
  obtain ⟨mc5, e5, hl5⟩ := Hiu.li
  obtain ⟨σ5, f1, f2, f3⟩ := Hiu.clear (z := z + dc2 + dc4) (show W.I.un ≤ 160 by omega) (z + (dc2 + dc4))
  have K5 := f3.kp0 H4.fr
  have H5 := H4.u_iu (W' := (Wv.mk (W.C) ((Co.mk (W.C.R) (W.C.bn) (W.C.bc) (W.C.bs) (0) (W.I.uk) (W.I.uw) (W.I.ua) (W.I.dr))) (1) (W.tn) (W.tp) (W.sl) (W.sz) (W.it))) H4.fr K5 (f2 _) rfl rfl rfl rfl rfl rfl rfl rfl rfl rfl rfl rfl rfl rfl rfl rfl rfl rfl rfl rfl
  obtain ⟨at5, hob5⟩ := H5.obj
  rw [A_t hob4 (by decide) rfl, X_t hl5 (by decide), f1, gb_z]
  have Hu5 := PUns.il.mp H5.un
  have Hiu5 := PUns.il.mp H5.iu
  obtain ⟨mc6, e6, hl6⟩ := Hiu5.li
  obtain ⟨σ6, dc6, ds6, r6, g1, g2, g3, g4, g5⟩ := IL.addAll (z := z + dc2 + dc4) Hiu5 Hu5 H5.fr (by decide) (by decide) (by decide) (fun b _ => obj_un _ _ _ _) (show W.C.un ≤ 10 by omega)
  have g1' : fJ2_addAll ex (z + (dc2 + dc4)) (a 15) (a 2) (σ5, 0, 0) = some (r6, (σ6, dc6, ds6)) := by rw [← Nat.add_assoc]; exact g1
  have K6 := g3.kp H5.fr
  have k6 := g3.k50 H5.fr (by decide)
  have H6 := H5.u_iu (W' := (Wv.mk (W.C) ((Co.mk (W.C.R) (W.C.bn) (W.C.bc) (W.C.bs) (W.C.un) (W.C.uk) (W.C.uw) (W.C.ua) (W.I.dr))) (1) (W.tn) (W.tp) (W.sl) (W.sz) (W.it))) (H5.fr.ext (by omega)) K6 g2 rfl rfl rfl rfl rfl rfl rfl rfl rfl rfl rfl rfl rfl rfl rfl rfl rfl rfl rfl rfl
  rw [A_t hob5 (by decide) rfl, A_t hob5 (by decide) rfl, X_t hl6 (by decide), g1', gb_app]
  generalize ext T4 (z + dc2 + dc4) (z + dc2 + dc4 + dc6) 8 = T6 at H6 K6 k6
  obtain ⟨at6, hob6⟩ := H6.obj
  -- the draw
  rw [I_t hob6 (by decide) rfl, P_t hob6 (by decide) (by show 16 < 19; decide)]
  have o7 : Ow T6 1 σ6 (z + dc2 + dc4 + dc6) (g_u σ6 o (obC a (nI W.C.dr) (nI W.tn) at6 (nI 1) (nI W.C.dr))) (z + dc2 + dc4 + dc6) := Ow.put H6.ob.1 _
  have H7 : CW (g_u σ6 o (obC a (nI W.C.dr) (nI W.tn) at6 (nI 1) (nI W.C.dr))) T6 ex (z + dc2 + dc4 + dc6) o a (Wv.mk (W.C) (W.C) (1) (W.tn) (W.tp) (W.sl) (W.sz) (W.it)) := H6.u_ob (W' := (Wv.mk (W.C) (W.C) (1) (W.tn) (W.tp) (W.sl) (W.sz) (W.it))) H6.fr (o7.kp0 H6.fr) ⟨H6.ob.1, at6, g_u_self _ _ _⟩ H6.tp rfl rfl rfl rfl rfl rfl rfl rfl rfl rfl rfl rfl rfl rfl rfl rfl rfl rfl rfl
  refine ⟨_, _, (Wv.mk (W.C) (W.C) (1) (W.tn) (W.tp) (W.sl) (W.sz) (W.it)), _, T6, dc2 + dc4 + dc6, ds2 + ds4 + ds6, m1', rfl, M1, ?_, ⟨O.c, O.c, by show 1 ≤ 1; omega, O.tn, O.tp, O.s⟩, ?_, by omega, by omega⟩
  · rw [← Nat.add_assoc, ← Nat.add_assoc]; exact H7
  · exact (((((k1.tr k2).tr (c3.k50' H2.fr (by decide))).tr k4).tr (f3.k50' H4.fr (by decide))).tr k6).tr (o7.k50' H6.fr (by decide))
theorem b_restore (M : MW t W) (H : CW σ T ex z o a W) (O : W.OK) : Both σ T ex z o a (fX3_restore t) (fX0_restore ex z o (σ, 0, 0)) := by
  obtain ⟨at_, hob⟩ := H.obj
  have hbn := O.c.bn
  have hun := O.c.un
  have ibn := O.i.bn
  have iun := O.i.un
  have him := O.im
  unfold fX3_restore fX0_restore
  rw [M.im, ifl 0 (by omega) (by decide), I_t hob (by decide) rfl, ifl 0 (by omega) (by decide)]
  by_cases h0 : W.im = 0
  · rw [if_pos h0, if_pos h0]
    exact Both.same M H O _ rfl rfl
  rw [if_neg h0, if_neg h0]
  -- the reference
  obtain ⟨ti, i1, i2⟩ := M.kp (by omega)
  obtain ⟨t1, m1, m2, m3⟩ := m_re12 (t0 := t) 141 0 1000 t (by omega) (by omega) (Sc.rf t) (fun i hi => by omega)
  have m1' : fX3_restore_12 1000 0 t = some (1, t1) := m1
  have M1 : MW t1 (Wv.mk (W.I) (W.I) (W.im) (W.tn) (W.tp) (W.sl) (W.sz) (W.it)) := by
    obtain ⟨s1, s2, s3⟩ := m2
    refine ⟨i1.carr O.i.r.b.n ibn iun (fun k hk => (m3 k hk).trans (i2 k hk)), ?_, ?_, ?_, ?_, ?_, ?_⟩
    · rw [s1 7 (by decide) (by decide) (by decide) (by decide) (by decide) (by decide)]; exact M.sky
    · rw [s1 21 (by decide) (by decide) (by decide) (by decide) (by decide) (by decide)]; exact M.im
    · rw [s2 11 (by decide)]; exact M.kp
    · rw [s1 15 (by decide) (by decide) (by decide) (by decide) (by decide) (by decide)]; exact M.tn
    · rw [s2 7 (by decide)]; exact M.tp
    · rw [s2 12 (by decide), s2 13 (by decide), s3]; exact M.s
  -- the component: the race
  obtain ⟨A, hA, R⟩ := H.race
  obtain ⟨-, A4, hA4, R4⟩ := H.im
  obtain ⟨σ2, A2, dc2, ds2, p1, p2, p3, p4, p5, p6⟩ := rt_takes R O.ba R4 O.i.r.b H.fr (by decide) (by decide) (by decide) (by decide)
  rw [hA4, hA] at p1
  have K2 := p4.kp H.fr
  have k2 := p4.k50 H.fr (by decide)
  have H2 := H.u_rc (W' := (Wv.mk ((Co.mk (W.I.R) (W.C.bn) (W.C.bc) (W.C.bs) (W.C.un) (W.C.uk) (W.C.uw) (W.C.ua) (W.C.dr))) (W.I) (W.im) (W.tn) (W.tp) (W.sl) (W.sz) (W.it))) (H.fr.ext (by omega)) K2 ⟨by decide, A2, p3.trans hA, p2⟩ rfl rfl rfl rfl rfl rfl rfl rfl rfl rfl rfl rfl rfl rfl rfl rfl rfl rfl rfl rfl rfl rfl rfl
  have hr0 : σ (a 0) = some (raC W.C.R A (-4)) := by rw [← hA]; exact R.1.ra
  rw [A_t hob (by decide) rfl, A_t hob (by decide) rfl, X_t hr0 (by decide)]
  simp only [Nat.add_zero]
  rw [p1, gb_app]
  simp only [Nat.zero_add]
  generalize ext T z (z + dc2) 2 = T2 at H2 K2 k2
  obtain ⟨at2, hob2⟩ := H2.obj
  -- bets
  have Hib := PBts.il.mp H2.bt
  obtain ⟨mc3, e3, hl3⟩ := Hib.li
  obtain ⟨σ3, c1, c2, c3⟩ := Hib.clear (z := z + dc2) (show W.C.bn ≤ 160 by omega) (z + dc2)
  have K3 := c3.kp0 H2.fr
  have H3 := H2.u_bt (W' := (Wv.mk ((Co.mk (W.I.R) (0) (W.C.bc) (W.C.bs) (W.C.un) (W.C.uk) (W.C.uw) (W.C.ua) (W.C.dr))) (W.I) (W.im) (W.tn) (W.tp) (W.sl) (W.sz) (W.it))) H2.fr K3 (c2 _) rfl rfl rfl rfl rfl rfl rfl rfl rfl rfl rfl rfl rfl rfl rfl rfl rfl rfl rfl rfl rfl
  obtain ⟨at3, hob3⟩ := H3.obj
  rw [A_t hob2 (by decide) rfl, X_t hl3 (by decide), c1, gb_z]
  have Hb3 := PBts.il.mp H3.bt
  have Hib3 := PBts.il.mp H3.ib
  obtain ⟨mc4, e4, hl4⟩ := Hb3.li
  obtain ⟨σ4, dc4, ds4, r4, d1, d2, d3, d4, d5⟩ := IL.addAll (z := z + dc2) Hb3 Hib3 H3.fr (by decide) (by decide) (by decide) (fun b _ => obj_bt _ _) (show W.I.bn ≤ 10 by omega)
  have K4 := d3.kp H3.fr
  have k4 := d3.k50 H3.fr (by decide)
  have H4 := H3.u_bt (W' := (Wv.mk ((Co.mk (W.I.R) (W.I.bn) (W.I.bc) (W.I.bs) (W.C.un) (W.C.uk) (W.C.uw) (W.C.ua) (W.C.dr))) (W.I) (W.im) (W.tn) (W.tp) (W.sl) (W.sz) (W.it))) (H3.fr.ext (by omega)) K4 d2 rfl rfl rfl rfl rfl rfl rfl rfl rfl rfl rfl rfl rfl rfl rfl rfl rfl rfl rfl rfl rfl
  rw [A_t hob3 (by decide) rfl, A_t hob3 (by decide) rfl, X_t hl4 (by decide), d1, gb_app]
  generalize ext T2 (z + dc2) (z + dc2 + dc4) 5 = T4 at H4 K4 k4
  obtain ⟨at4, hob4⟩ := H4.obj
  -- repairs
  have Hiu := PUns.il.mp H4.un
  obtain ⟨mc5, e5, hl5⟩ := Hiu.li
  obtain ⟨σ5, f1, f2, f3⟩ := Hiu.clear (z := z + dc2 + dc4) (show W.C.un ≤ 160 by omega) (z + (dc2 + dc4))
  have K5 := f3.kp0 H4.fr
  have H5 := H4.u_un (W' := (Wv.mk ((Co.mk (W.I.R) (W.I.bn) (W.I.bc) (W.I.bs) (0) (W.C.uk) (W.C.uw) (W.C.ua) (W.C.dr))) (W.I) (W.im) (W.tn) (W.tp) (W.sl) (W.sz) (W.it))) H4.fr K5 (f2 _) rfl rfl rfl rfl rfl rfl rfl rfl rfl rfl rfl rfl rfl rfl rfl rfl rfl rfl rfl rfl
  obtain ⟨at5, hob5⟩ := H5.obj
  rw [A_t hob4 (by decide) rfl, X_t hl5 (by decide), f1, gb_z]
  have Hu5 := PUns.il.mp H5.un
  have Hiu5 := PUns.il.mp H5.iu
  obtain ⟨mc6, e6, hl6⟩ := Hu5.li
  obtain ⟨σ6, dc6, ds6, r6, g1, g2, g3, g4, g5⟩ := IL.addAll (z := z + dc2 + dc4) Hu5 Hiu5 H5.fr (by decide) (by decide) (by decide) (fun b _ => obj_un _ _ _ _) (show W.I.un ≤ 10 by omega)
  have g1' : fJ2_addAll ex (z + (dc2 + dc4)) (a 2) (a 15) (σ5, 0, 0) = some (r6, (σ6, dc6, ds6)) := by rw [← Nat.add_assoc]; exact g1
  have K6 := g3.kp H5.fr
  have k6 := g3.k50 H5.fr (by decide)
  have H6 := H5.u_un (W' := (Wv.mk ((Co.mk (W.I.R) (W.I.bn) (W.I.bc) (W.I.bs) (W.I.un) (W.I.uk) (W.I.uw) (W.I.ua) (W.C.dr))) (W.I) (W.im) (W.tn) (W.tp) (W.sl) (W.sz) (W.it))) (H5.fr.ext (by omega)) K6 g2 rfl rfl rfl rfl rfl rfl rfl rfl rfl rfl rfl rfl rfl rfl rfl rfl rfl rfl rfl rfl
  rw [A_t hob5 (by decide) rfl, A_t hob5 (by decide) rfl, X_t hl6 (by decide), g1', gb_app]
  generalize ext T4 (z + dc2 + dc4) (z + dc2 + dc4 + dc6) 6 = T6 at H6 K6 k6
  obtain ⟨at6, hob6⟩ := H6.obj
  -- the draw
  rw [I_t hob6 (by decide) rfl, P_t hob6 (by decide) (by show 5 < 19; decide)]
  have o7 : Ow T6 1 σ6 (z + dc2 + dc4 + dc6) (g_u σ6 o (obC a (nI W.I.dr) (nI W.tn) at6 (nI W.im) (nI W.I.dr))) (z + dc2 + dc4 + dc6) := Ow.put H6.ob.1 _
  have H7 : CW (g_u σ6 o (obC a (nI W.I.dr) (nI W.tn) at6 (nI W.im) (nI W.I.dr))) T6 ex (z + dc2 + dc4 + dc6) o a (Wv.mk (W.I) (W.I) (W.im) (W.tn) (W.tp) (W.sl) (W.sz) (W.it)) := H6.u_ob (W' := (Wv.mk (W.I) (W.I) (W.im) (W.tn) (W.tp) (W.sl) (W.sz) (W.it))) H6.fr (o7.kp0 H6.fr) ⟨H6.ob.1, at6, g_u_self _ _ _⟩ H6.tp rfl rfl rfl rfl rfl rfl rfl rfl rfl rfl rfl rfl rfl rfl rfl rfl rfl rfl rfl
  refine ⟨_, _, (Wv.mk (W.I) (W.I) (W.im) (W.tn) (W.tp) (W.sl) (W.sz) (W.it)), _, T6, dc2 + dc4 + dc6, ds2 + ds4 + ds6, m1', rfl, M1, ?_, ⟨O.i, O.i, O.im, O.tn, O.tp, O.s⟩, ?_, by omega, by omega⟩
  · rw [← Nat.add_assoc, ← Nat.add_assoc]; exact H7
  · exact ((((k2.tr (c3.k50' H2.fr (by decide))).tr k4).tr (f3.k50' H4.fr (by decide))).tr k6).tr (o7.k50' H6.fr (by decide))
end O95
