/-! texts: the readers of both sides -/
set_option maxRecDepth 100000
def Wv.pa (W : Wv) (p x : Nat) : Nat := if W.nx p = x then W.sk p + 1 else W.sk p
def dgF (tp : Nat → Nat) : Nat → Nat → Nat → Nat × Nat
  | 0, p, v => (v, p)
  | j + 1, p, v => if 48 ≤ tp p ∧ tp p ≤ 57 then dgF tp j (p + 1) (10 * v + (tp p - 48)) else (v, p)
theorem dgF_le (tp : Nat → Nat) : ∀ j p v, p ≤ (dgF tp j p v).2 ∧ (dgF tp j p v).2 ≤ p + j
  | 0, p, v => ⟨Nat.le_refl _, Nat.le_refl _⟩
  | j + 1, p, v => by
    have ih := dgF_le tp j (p + 1) (10 * v + (tp p - 48))
    show p ≤ (if 48 ≤ tp p ∧ tp p ≤ 57 then dgF tp j (p + 1) (10 * v + (tp p - 48)) else (v, p)).2 ∧ (if 48 ≤ tp p ∧ tp p ≤ 57 then dgF tp j (p + 1) (10 * v + (tp p - 48)) else (v, p)).2 ≤ p + (j + 1)
    split
    · omega
    · show p ≤ p ∧ p ≤ p + (j + 1); omega
def Wv.dg (W : Wv) (s : Nat) : Nat × Nat := dgF W.tp (W.tn - s) s 0
def Wv.nu (W : Wv) (p lo hi : Nat) : (Int32 × Nat) ⊕ Nat := if (48 ≤ W.nx p ∧ W.nx p ≤ 57) ∧ lo ≤ (W.dg (W.sk p)).1 ∧ (W.dg (W.sk p)).1 ≤ hi then .inl (nI (W.dg (W.sk p)).1, (W.dg (W.sk p)).2) else .inr (W.sk p)
def sv (r : (Int32 × Nat) ⊕ Nat) : Int32 := match r with
  | .inl x => x.1
  | .inr _ => -1
def sp (r : (Int32 × Nat) ⊕ Nat) : Nat := match r with
  | .inl x => x.2
  | .inr q => q
def ixL (l : List Nat) (c : Nat) : Nat → Nat → Option Nat
  | 0, _ => none
  | j + 1, k => if l.getD k 0 = c then some k else ixL l c j (k + 1)
def txI (i c : Nat) : Option Nat := ixL (txt i) c (txt i).length 0
def oI (x : Option Nat) : Int32 := match x with
  | none => -1
  | some k => nI k
def Wv.le (W : Wv) (p i : Nat) : (Int32 × Nat) ⊕ Nat := match txI i (W.nx p) with
  | none => .inr (W.sk p)
  | some k => .inl (nI k, W.sk p + 1)
theorem in_dec {lo hi w : Nat} (hl : lo ≤ hi) (hh : hi < 2 ^ 30) (hw : w < 2 ^ 31) : (if nI lo ≤ nI w ∧ nI w ≤ nI hi then 1 else 0 : Int32) = if lo ≤ w ∧ w ≤ hi then 1 else 0 := by
  by_cases h : lo ≤ w ∧ w ≤ hi
  · rw [if_pos h, if_pos ((chkM lo hi hl hh).mpr ⟨w, h.1, h.2, rfl⟩)]
  · rw [if_neg h, if_neg (fun g => by
      obtain ⟨c, h1, h2, h3⟩ := (chkM lo hi hl hh).mp g
      have := nI_inj hw (by omega) h3
      subst this
      exact h ⟨h1, h2⟩)]
theorem dial_all : ∀ c, c < 127 → (if 48 ≤ c ∧ c ≤ 57 then nI c - 48 else if nI c = 97 then 10 else if nI c = 98 then 11 else if nI c = 45 then 12 else -1) = oI (txI 1 c) := by decide +kernel
theorem sky_all : ∀ c, c < 127 → (if nI c = 115 then 0 else if nI c = 114 then 1 else if nI c = 119 then 2 else if nI c = 110 then 3 else -1) = oI (txI 2 c) := by decide +kernel
theorem kind_all : ∀ c, c < 127 → (if nI c = 112 then 0 else if nI c = 99 then 1 else if nI c = 111 then 2 else if nI c = 100 then 3 else if nI c = 116 then 4 else if nI c = 109 then 5 else -1) = oI (txI 3 c) := by decide +kernel
theorem txI_0 : ∀ i, 1 ≤ i → i ≤ 3 → txI i 0 = none := by
  intro i h1 h2
  rcases (show i = 1 ∨ i = 2 ∨ i = 3 by omega) with h | h | h <;> subst h <;> decide +kernel
theorem ixL_lt (l : List Nat) (c : Nat) : ∀ j k x, ixL l c j k = some x → x < k + j
  | 0, k, x, h => by cases h
  | j + 1, k, x, h => by
    have e : ixL l c (j + 1) k = if l.getD k 0 = c then some k else ixL l c j (k + 1) := rfl
    rw [e] at h
    by_cases g : l.getD k 0 = c
    · rw [if_pos g] at h; cases h; omega
    · rw [if_neg g] at h
      have := ixL_lt l c j (k + 1) x h
      omega
section O9c
variable {t : MS} {W : Wv} {σ : Sg} {T : Nat → Nat} {ex : Nat → Option Nat} {z o : Nat} {a : Nat → Nat}
theorem nx_le (O : W.OK) (p : Nat) : W.nx p ≤ 126 := by
  unfold Wv.nx
  split
  · rename_i h; exact (O.tp _ h).2
  · omega
theorem nx_0 (O : W.OK) (p : Nat) : W.nx p = 0 ↔ ¬ W.sk p < W.tn := by
  unfold Wv.nx
  constructor
  · intro h g
    rw [if_pos g] at h
    have := (O.tp _ g).1
    omega
  · intro h; rw [if_neg h]
theorem nx_in (O : W.OK) {p x : Nat} (hx : x ≠ 0) (h : W.nx p = x) : W.sk p < W.tn := Decidable.byContradiction fun g => hx (h.symm.trans ((nx_0 O p).mpr g))
theorem lx_eq (O : W.OK) {p x : Nat} (hx : x ≠ 0) (hx2 : x < 128) : W.lx p = nI x ↔ W.nx p = x := by
  unfold Wv.lx Wv.nx
  by_cases h : W.sk p < W.tn
  · rw [if_pos h, if_pos h]
    have := (O.tp _ h).2
    exact ⟨fun g => nI_inj (by omega) (by omega) g, fun g => by rw [g]⟩
  · rw [if_neg h, if_neg h]
    refine ⟨fun g => ?_, fun g => absurd g.symm hx⟩
    exfalso
    have e := congrArg Int32.toInt g
    rw [nI_toInt (by omega)] at e
    have : (-1 : Int32).toInt = -1 := by decide
    omega
theorem lx_neg (O : W.OK) (p : Nat) : W.lx p < 0 ↔ W.nx p = 0 := by
  rw [nx_0 O]
  unfold Wv.lx
  by_cases h : W.sk p < W.tn
  · rw [if_pos h]
    have := (O.tp _ h).2
    exact ⟨fun g => absurd g (nI_pos (by omega)), fun g => absurd h g⟩
  · rw [if_neg h]; exact ⟨fun _ => h, fun _ => by decide⟩
theorem lx_pos (O : W.OK) {p : Nat} (h : W.nx p ≠ 0) : W.lx p = nI (W.nx p) := (lx_eq O h (Nat.lt_of_le_of_lt (nx_le O p) (by decide))).mpr rfl
theorem pa_le (O : W.OK) {p x : Nat} (hp : p ≤ W.tn) (hx : x ≠ 0) : W.pa p x ≤ W.tn := by
  have := sk_le hp
  unfold Wv.pa
  by_cases h : W.nx p = x
  · rw [if_pos h]; exact nx_in O hx h
  · rw [if_neg h]; exact this.2
theorem r_takes (M : MW t W) (O : W.OK) {p x : Nat} (hp : p ≤ W.tn) (hx : x ≠ 0) (hx2 : x < 128) (n : Int32) (f : Nat → Int32) : fX3_takes (nI x) (tx t p n f) = some (b2 (decide (W.nx p = x)), tx t (W.pa p x) n f) := by
  unfold fX3_takes fX3_takes_13 Wv.pa
  have e16 : (tx t (W.sk p) n f).1 16 = nI (W.sk p) := rfl
  rw [r_next M O hp, gm_some]
  simp only [lt]
  rw [e16]
  by_cases h : W.nx p = x
  · rw [if_pos ((lx_eq O hx hx2).mpr h), if_neg (by decide), if_pos (by decide), if_pos h, nI_1, tx_p, decide_eq_true h]; rfl
  · rw [if_neg (fun g => h ((lx_eq O hx hx2).mp g)), if_pos trivial, if_pos (Or.inl trivial), if_neg h, decide_eq_false h]
    rw [show nI (W.sk p) + 0 = nI (W.sk p) from by rw [show (0 : Int32) = nI 0 from rfl, nI_add, Nat.add_zero], tx_p]; rfl
theorem c_pass {p x : Nat} (H : CA σ T ex z o a W p) (O : W.OK) (hp : p ≤ W.tn) (hx : x ≠ 0) (hx2 : x < 128) {zz : Nat} (c : Nat × Nat) : ∃ σ', fX0_passes ex zz o (nI x) (σ, c) = some (b2 (decide (W.nx p = x)), (σ', c)) ∧ CA σ' T ex z o a W (W.pa p x) ∧ Kp T σ T σ' (fun i => i ≠ 1) := by
  obtain ⟨σ1, r1, H1, K1⟩ := c_here (zz := zz + c.1) H O hp (0, 0)
  have hn := nx_le O p
  have hob := H1.2
  unfold fX0_passes fX0_passes_13 Wv.pa
  rw [X_t H.2 (by decide)]
  show ∃ σ', gb (fX0_here ex (zz + c.1) o (σ, 0, 0)) (σ, c) _ = _ ∧ _
  rw [r1, gb_z, ife x rfl (by omega) (by omega)]
  by_cases h : W.nx p = x
  · rw [if_pos h, if_pos h, I_t hob (by decide) rfl, if_neg (by decide), nI_1, P_t hob (by decide) (by show 8 < 19; decide), if_pos (by decide), decide_eq_true h]
    obtain ⟨H2, K2⟩ := H1.go (W.sk p + 1)
    exact ⟨_, rfl, H2, K1.tr K2⟩
  · rw [if_neg h, if_neg h, I_t hob (by decide) rfl, if_pos rfl, show nI (W.sk p) + 0 = nI (W.sk p) from by rw [show (0 : Int32) = nI 0 from rfl, nI_add, Nat.add_zero], P_t hob (by decide) (by show 8 < 19; decide), if_pos (by decide), decide_eq_false h]
    obtain ⟨H2, K2⟩ := H1.go (W.sk p)
    exact ⟨_, rfl, H2, K1.tr K2⟩
theorem c_ends {p : Nat} (H : CA σ T ex z o a W p) (O : W.OK) (hp : p ≤ W.tn) : PT σ T ex z o a W (if W.nx p = 0 then .inl ((), W.sk p) else .inr (W.sk p)) (fX0_ends ex z o (σ, 0, 0)) := by
  obtain ⟨σ1, r1, H1, K1⟩ := c_here (zz := z) H O hp (0, 0)
  have hn := nx_le O p
  have hs := sk_le hp
  unfold fX0_ends
  rw [X_t H.2 (by decide)]
  show PT _ _ _ _ _ _ _ _ (gb (fX0_here ex z o (σ, 0, 0)) (σ, 0, 0) _)
  rw [r1, gb_z, ifl 0 (by omega) (by decide)]
  by_cases h : W.nx p = 0
  · rw [if_pos h, if_pos h]
    exact Or.inl ⟨_, _, _, rfl, rfl, H1, K1, hs.2⟩
  · rw [if_neg h, if_neg h]
    exact (c_flt H1 hs.2).pre K1
theorem c_must {p x : Nat} (H : CA σ T ex z o a W p) (O : W.OK) (hp : p ≤ W.tn) (hx : x ≠ 0) (hx2 : x < 128) : PT σ T ex z o a W (if W.nx p = x then .inl ((), W.sk p + 1) else .inr (W.sk p)) (fX0_must ex z o (nI x) (σ, 0, 0)) := by
  obtain ⟨σ1, r1, H1, K1⟩ := c_pass (zz := z) H O hp hx hx2 (0, 0)
  have hs := sk_le hp
  unfold fX0_must
  rw [X_t H.2 (by decide)]
  show PT _ _ _ _ _ _ _ _ (gb (fX0_passes ex z o (nI x) (σ, 0, 0)) (σ, 0, 0) _)
  rw [r1, gb_z]
  unfold Wv.pa at H1
  by_cases h : W.nx p = x
  · rw [if_pos h] at H1
    rw [if_pos h, decide_eq_true h, if_neg (show ¬ b2 true = 0 by decide)]
    exact Or.inl ⟨_, _, _, rfl, rfl, H1, K1, nx_in O hx h⟩
  · rw [if_neg h] at H1
    rw [if_neg h, decide_eq_false h, if_pos (show b2 false = 0 from rfl)]
    exact (c_flt H1 hs.2).pre K1
theorem c_digit {p n : Nat} (H : CA σ T ex z o a W p) (O : W.OK) (hp : p ≤ W.tn) (hn9 : n ≤ 9) : PT σ T ex z o a W (if 48 ≤ W.nx p ∧ W.nx p < 48 + n then .inl (nI (W.nx p - 48), W.sk p + 1) else .inr (W.sk p)) (fX0_digit ex z o (nI n - 1) (σ, 0, 0)) := by
  obtain ⟨σ1, r1, H1, K1⟩ := c_here (zz := z) H O hp (0, 0)
  have hn := nx_le O p
  have hs := sk_le hp
  have e : 48 + (nI n - 1) = nI (47 + n) := by
    rw [show (48 : Int32) = nI 48 from rfl, show nI 48 + (nI n - 1) = nI 48 + nI n - 1 from by rw [Int32.sub_eq_add_neg, Int32.sub_eq_add_neg, Int32.add_assoc], nI_add, nI_sub1 (by omega)]
    rw [show 48 + n - 1 = 47 + n by omega]
  unfold fX0_digit
  rw [X_t H.2 (by decide)]
  show PT _ _ _ _ _ _ _ _ (gb (fX0_here ex z o (σ, 0, 0)) (σ, 0, 0) _)
  rw [r1, gb_z, e, l64 (n := 48) (by decide), c_inI]
  have e2 : (if nI 48 ≤ nI (W.nx p) ∧ nI (W.nx p) ≤ nI (47 + n) then 1 else 0 : Int32) = if 48 ≤ W.nx p ∧ W.nx p < 48 + n then 1 else 0 := by
    rcases Nat.eq_zero_or_pos n with h0 | h0
    · subst h0
      rw [if_neg (show ¬ (48 ≤ W.nx p ∧ W.nx p < 48 + 0) by omega), if_neg (fun g => by
        have g1 := Int32.le_iff_toInt_le.mp g.1
        have g2 := Int32.le_iff_toInt_le.mp g.2
        rw [nI_toInt (by omega), nI_toInt (by omega)] at g1 g2
        omega)]
    · rw [in_dec (by omega) (by omega) (by omega)]
      by_cases h : 48 ≤ W.nx p ∧ W.nx p < 48 + n
      · rw [if_pos h, if_pos (by omega)]
      · rw [if_neg h, if_neg (by omega)]
  rw [e2, gb_two]
  by_cases h : 48 ≤ W.nx p ∧ W.nx p < 48 + n
  · rw [if_pos h, if_pos h, if_neg (show ¬ (1 : Int32) = 0 by decide), I_t H1.2 (by decide) rfl, nI_1, P_t H1.2 (by decide) (by show 8 < 19; decide), show (48 : Int32) = nI 48 from rfl, nI_sub h.1]
    obtain ⟨H2, K2⟩ := H1.go (W.sk p + 1)
    exact Or.inl ⟨_, _, _, rfl, rfl, H2, K1.tr K2, nx_in O (by omega) rfl⟩
  · rw [if_neg h, if_neg h, if_pos rfl]
    exact (c_flt H1 hs.2).pre K1
theorem c_n37 (O : W.OK) {lo hi s : Nat} (hl : lo ≤ hi) (hh : hi < 9999) (hs : s ≤ W.tn) : ∀ (j p v fuel : Nat) (σ : Sg), p + j = W.tn → j < fuel → CA σ T ex z o a W p → PT σ T ex z o a W (if lo ≤ (dgF W.tp j p v).1 ∧ (dgF W.tp j p v).1 ≤ hi then .inl (nI (dgF W.tp j p v).1, (dgF W.tp j p v).2) else .inr s) (fX0_number_37 ex z fuel o (nI lo) (nI hi) (nI s) (nI (if v < 9999 then v else 9999)) (σ, 0, 0)) := by
  have fin : ∀ (p v : Nat) (σ : Sg), p ≤ W.tn → CA σ T ex z o a W p → PT σ T ex z o a W (if lo ≤ v ∧ v ≤ hi then .inl (nI v, p) else .inr s) (fX0_number_109 ex z (nI lo) (nI hi) (nI s) (nI (if v < 9999 then v else 9999)) (σ, 0, 0)) := by
    intro p v σ hp H
    unfold fX0_number_109
    rw [c_inI, gb_two, in_dec hl (by omega) (by split <;> omega)]
    by_cases h : lo ≤ v ∧ v ≤ hi
    · have hv : v < 9999 := by omega
      rw [if_pos hv, if_pos h, if_pos h, if_neg (by decide)]
      exact Or.inl ⟨_, _, _, rfl, rfl, H, Kp.rf _ _ _, hp⟩
    · have h2 : ¬ (lo ≤ (if v < 9999 then v else 9999) ∧ (if v < 9999 then v else 9999) ≤ hi) := by split <;> omega
      rw [if_neg h2, if_neg h, if_pos rfl]
      exact c_fltN H hs
  intro j
  induction j with
  | zero =>
    intro p v fuel σ hj hf H
    obtain ⟨m, rfl⟩ : ∃ m, fuel = m + 1 := ⟨fuel - 1, by omega⟩
    have ht := O.tn
    rw [fX0_number_37, I_t H.2 (by decide) rfl, I_t H.2 (by decide) rfl, ifle p rfl rfl (by omega) (by omega), if_pos (show W.tn ≤ p by omega)]
    exact fin p v σ (by omega) H
  | succ j ih =>
    intro p v fuel σ hj hf H
    obtain ⟨m, rfl⟩ : ∃ m, fuel = m + 1 := ⟨fuel - 1, by omega⟩
    have ht := O.tn
    have hc := O.tp p (by omega)
    have hob := H.2
    obtain ⟨-, f, hp, hf2⟩ := H.1.tp
    have e7 := hf2 p (by omega)
    have ed : dgF W.tp (j + 1) p v = if 48 ≤ W.tp p ∧ W.tp p ≤ 57 then dgF W.tp j (p + 1) (10 * v + (W.tp p - 48)) else (v, p) := rfl
    rw [fX0_number_37, I_t hob (by decide) rfl, I_t hob (by decide) rfl, ifle p rfl rfl (by omega) (by omega), if_neg (show ¬ W.tn ≤ p by omega), A_t hob (by decide) rfl, I_t hob (by decide) rfl, ald_t hp (by omega) (by decide), e7, l64 (n := 48) (by decide), l64 (n := 57) (by decide), c_inI, gb_two, in_dec (by decide) (by decide) (by omega), ed]
    by_cases h : 48 ≤ W.tp p ∧ W.tp p ≤ 57
    · rw [if_pos h, if_pos h, if_neg (show ¬ (1 : Int32) = 0 by decide), A_t hob (by decide) rfl, I_t hob (by decide) rfl, ald_t hp (by omega) (by decide), e7, show (10 : Int32) = nI 10 from rfl, nI_mul, nI_add, show (48 : Int32) = nI 48 from rfl, nI_sub (by omega), show (9999 : Int32) = nI 9999 from rfl, c_min (by decide) (by split <;> omega), gb_two, I_t hob (by decide) rfl, nI_1, P_t hob (by decide) (by show 8 < 19; decide)]
      obtain ⟨H1, K1⟩ := H.go (p + 1)
      have r := (ih (p + 1) (10 * v + (W.tp p - 48)) m _ (by omega) (by omega) H1).pre K1
      have ev : (if 10 * (if v < 9999 then v else 9999) + W.tp p - 48 < 9999 then 10 * (if v < 9999 then v else 9999) + W.tp p - 48 else 9999) = if 10 * v + (W.tp p - 48) < 9999 then 10 * v + (W.tp p - 48) else 9999 := by
        by_cases g1 : v < 9999
        · rw [if_pos g1, show 10 * v + W.tp p - 48 = 10 * v + (W.tp p - 48) by omega]
        · rw [if_neg g1, if_neg (by omega), if_neg (by omega)]
      rw [ev]
      exact r
    · rw [if_neg h, if_neg h, if_pos rfl]
      exact fin p v σ (by omega) H
theorem c_number {p lo hi : Nat} (H : CA σ T ex z o a W p) (O : W.OK) (hp : p ≤ W.tn) (hl : lo ≤ hi) (hh : hi < 9999) : PT σ T ex z o a W (W.nu p lo hi) (fX0_number ex z o (nI lo) (nI hi) (σ, 0, 0)) := by
  obtain ⟨σ1, r1, H1, K1⟩ := c_here (zz := z) H O hp (0, 0)
  have hn := nx_le O p
  have hs := sk_le hp
  have ht := O.tn
  unfold fX0_number Wv.nu
  rw [X_t H.2 (by decide)]
  show PT _ _ _ _ _ _ _ _ (gb (fX0_here ex z o (σ, 0, 0)) (σ, 0, 0) _)
  rw [r1, gb_z, l64 (n := 48) (by decide), l64 (n := 57) (by decide), c_inI, gb_two, in_dec (by decide) (by decide) (by omega)]
  by_cases h : 48 ≤ W.nx p ∧ W.nx p ≤ 57
  · rw [if_pos h, if_neg (show ¬ (1 : Int32) = 0 by decide), I_t H1.2 (by decide) rfl]
    have r := (c_n37 O hl hh hs.2 (W.tn - W.sk p) (W.sk p) 0 1000 σ1 (by omega) (by omega) H1).pre K1
    by_cases g : lo ≤ (W.dg (W.sk p)).1 ∧ (W.dg (W.sk p)).1 ≤ hi
    · rw [if_pos ⟨h, g⟩]
      unfold Wv.dg at g ⊢
      rw [if_pos g] at r; exact r
    · rw [if_neg (fun k => g k.2)]
      unfold Wv.dg at g
      rw [if_neg g] at r; exact r
  · rw [if_neg h, if_pos rfl, if_neg (fun k => h k.1)]
    exact (c_flt H1 hs.2).pre K1
end O9c
