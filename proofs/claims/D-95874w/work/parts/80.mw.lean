/-! THE WORLD in the reference; both sides (printed by gen/mw.py) -/
set_option maxRecDepth 100000
/-- what a repair that is known may say -/
def UnOK (R : Rc) (k w : Nat) (v : Int) : Prop := (k = 0 ∧ w < R.n ∧ 0 ≤ v ∧ v ≤ 99) ∨ (k = 1 ∧ w < R.n ∧ 0 ≤ v ∧ v < 720) ∨ (k = 2 ∧ w < R.n ∧ -30 ≤ v ∧ v ≤ 30) ∨ (k = 3 ∧ w < R.W ∧ 0 ≤ v ∧ v ≤ 12)
def Co.OK (C : Co) : Prop := (C.R.OK) ∧ (C.R.now ≤ 9999) ∧ (C.bn ≤ 6) ∧ (∀ b, b < C.bn → C.bc b < C.R.n ∧ 1 ≤ C.bs b ∧ C.bs b ≤ 999) ∧ (C.un ≤ 10) ∧ (∀ u, u < C.un → UnOK C.R (C.uk u) (C.uw u) (C.ua u)) ∧ (C.dr < 2 ^ 31)
theorem Co.OK.r {C : Co} (H : Co.OK C) : C.R.OK := H.1
theorem Co.OK.now {C : Co} (H : Co.OK C) : C.R.now ≤ 9999 := H.2.1
theorem Co.OK.bn {C : Co} (H : Co.OK C) : C.bn ≤ 6 := H.2.2.1
theorem Co.OK.b {C : Co} (H : Co.OK C) : ∀ b, b < C.bn → C.bc b < C.R.n ∧ 1 ≤ C.bs b ∧ C.bs b ≤ 999 := H.2.2.2.1
theorem Co.OK.un {C : Co} (H : Co.OK C) : C.un ≤ 10 := H.2.2.2.2.1
theorem Co.OK.u {C : Co} (H : Co.OK C) : ∀ u, u < C.un → UnOK C.R (C.uk u) (C.uw u) (C.ua u) := H.2.2.2.2.2.1
theorem Co.OK.dr {C : Co} (H : Co.OK C) : C.dr < 2 ^ 31 := H.2.2.2.2.2.2
def inLane (l : Nat) (x : Int64) : Prop := (l = 1 → -128 ≤ x.toInt ∧ x.toInt ≤ 127) ∧ (l = 2 → -32768 ≤ x.toInt ∧ x.toInt ≤ 32767) ∧ (l = 3 → -2147483648 ≤ x.toInt ∧ x.toInt ≤ 2147483647)
def Wv.OK (W : Wv) : Prop := (W.C.OK) ∧ (W.I.OK) ∧ (W.im ≤ 1) ∧ (W.tn ≤ 160) ∧ (∀ i, i < W.tn → 32 ≤ W.tp i ∧ W.tp i ≤ 126) ∧ (∀ i, i < 4 → W.sl i ≤ 4 ∧ (W.sl i ≠ 0 → W.sz i ≤ 24 ∧ ∀ j, j < W.sz i → inLane (W.sl i) (W.it i j)))
theorem Wv.OK.c {W : Wv} (H : Wv.OK W) : W.C.OK := H.1
theorem Wv.OK.i {W : Wv} (H : Wv.OK W) : W.I.OK := H.2.1
theorem Wv.OK.im {W : Wv} (H : Wv.OK W) : W.im ≤ 1 := H.2.2.1
theorem Wv.OK.tn {W : Wv} (H : Wv.OK W) : W.tn ≤ 160 := H.2.2.2.1
theorem Wv.OK.tp {W : Wv} (H : Wv.OK W) : ∀ i, i < W.tn → 32 ≤ W.tp i ∧ W.tp i ≤ 126 := H.2.2.2.2.1
theorem Wv.OK.s {W : Wv} (H : Wv.OK W) : ∀ i, i < 4 → W.sl i ≤ 4 ∧ (W.sl i ≠ 0 → W.sz i ≤ 24 ∧ ∀ j, j < W.sz i → inLane (W.sl i) (W.it i j)) := H.2.2.2.2.2
def MCo (t : MS) (C : Co) : Prop := (MR t C.R) ∧ (t.1 10 = nI C.bn) ∧ (∀ b, b < C.bn → t.2.1 4 b = nI (C.bc b) ∧ t.2.1 5 b = nI (C.bs b)) ∧ (t.1 12 = nI C.un) ∧ (∀ u, u < C.un → t.2.1 6 (3 * u) = nI (C.uk u) ∧ t.2.1 6 (3 * u + 1) = nI (C.uw u) ∧ t.2.1 6 (3 * u + 2) = Int32.ofInt (C.ua u)) ∧ (t.1 13 = nI C.dr)
theorem MCo.r {t : MS} {C : Co} (H : MCo t C) : MR t C.R := H.1
theorem MCo.bn {t : MS} {C : Co} (H : MCo t C) : t.1 10 = nI C.bn := H.2.1
theorem MCo.b {t : MS} {C : Co} (H : MCo t C) : ∀ b, b < C.bn → t.2.1 4 b = nI (C.bc b) ∧ t.2.1 5 b = nI (C.bs b) := H.2.2.1
theorem MCo.un {t : MS} {C : Co} (H : MCo t C) : t.1 12 = nI C.un := H.2.2.2.1
theorem MCo.u {t : MS} {C : Co} (H : MCo t C) : ∀ u, u < C.un → t.2.1 6 (3 * u) = nI (C.uk u) ∧ t.2.1 6 (3 * u + 1) = nI (C.uw u) ∧ t.2.1 6 (3 * u + 2) = Int32.ofInt (C.ua u) := H.2.2.2.2.1
theorem MCo.dr {t : MS} {C : Co} (H : MCo t C) : t.1 13 = nI C.dr := H.2.2.2.2.2
/-- a sheet's lane as the reference keeps it -/
def lnI (l : Nat) : Int32 := if l = 0 then -1 else nI (l - 1)
/-- what an image carries, one behind the other -/
def carr (t : MS) (k : Nat) : Int32 := if k < 63 then t.2.1 0 k else if k < 72 then t.2.1 1 (k - 63) else if k < 81 then t.2.1 2 (k - 72) else if k < 93 then t.2.1 3 (k - 81) else if k < 99 then t.2.1 4 (k - 93) else if k < 105 then t.2.1 5 (k - 99) else if k < 135 then t.2.1 6 (k - 105) else if k = 135 then t.1 3 else if k = 136 then t.1 4 else if k = 137 then t.1 6 else if k = 138 then t.1 10 else if k = 139 then t.1 12 else t.1 13
def MW (t : MS) (W : Wv) : Prop := (MCo t W.C) ∧ (t.1 7 = -1) ∧ (t.1 21 = nI W.im) ∧ (W.im = 1 → ∃ t0, MCo t0 W.I ∧ ∀ k, k < 141 → t.2.1 11 k = carr t0 k) ∧ (t.1 15 = nI W.tn) ∧ (∀ i, i < W.tn → t.2.1 7 i = nI (W.tp i)) ∧ (∀ i, i < 4 → t.2.1 12 i = lnI (W.sl i) ∧ (W.sl i ≠ 0 → t.2.1 13 i = nI (W.sz i) ∧ ∀ j, j < W.sz i → t.2.2 0 (24 * i + j) = W.it i j))
theorem MW.c {t : MS} {W : Wv} (H : MW t W) : MCo t W.C := H.1
theorem MW.sky {t : MS} {W : Wv} (H : MW t W) : t.1 7 = -1 := H.2.1
theorem MW.im {t : MS} {W : Wv} (H : MW t W) : t.1 21 = nI W.im := H.2.2.1
theorem MW.kp {t : MS} {W : Wv} (H : MW t W) : W.im = 1 → ∃ t0, MCo t0 W.I ∧ ∀ k, k < 141 → t.2.1 11 k = carr t0 k := H.2.2.2.1
theorem MW.tn {t : MS} {W : Wv} (H : MW t W) : t.1 15 = nI W.tn := H.2.2.2.2.1
theorem MW.tp {t : MS} {W : Wv} (H : MW t W) : ∀ i, i < W.tn → t.2.1 7 i = nI (W.tp i) := H.2.2.2.2.2.1
theorem MW.s {t : MS} {W : Wv} (H : MW t W) : ∀ i, i < 4 → t.2.1 12 i = lnI (W.sl i) ∧ (W.sl i ≠ 0 → t.2.1 13 i = nI (W.sz i) ∧ ∀ j, j < W.sz i → t.2.2 0 (24 * i + j) = W.it i j) := H.2.2.2.2.2.2
/-- both answer alike, and the world is again one -/
def Both (σ : Sg) (T : Nat → Nat) (ex : Nat → Option Nat) (z o : Nat) (a : Nat → Nat) (fm : Option (Int32 × MS)) (fc : Option (Int32 × St)) : Prop := ∃ v t' W' σ' T' dc ds, fm = some (v, t') ∧ fc = some (v, (σ', dc, ds)) ∧ MW t' W' ∧ CW σ' T' ex (z + dc) o a W' ∧ W'.OK ∧ Kp T σ T' σ' (fun i => i = 50) ∧ dc ≤ 9000 ∧ ds ≤ 60000
section ARG
theorem chk {x : Int32} {n : Nat} (hn : n ≤ 2 ^ 30) : (0 ≤ x ∧ x ≤ nI n - 1) ↔ ∃ c, c < n ∧ x = nI c := by
  have e : nI n - 1 = Int32.ofInt ((n : Int) - 1) := by
    rw [nI_ofInt, show (1 : Int32) = Int32.ofInt 1 from rfl, ← Int32.ofInt_sub]
  have e2 : (nI n - 1).toInt = (n : Int) - 1 := by
    rw [e, Int32.toInt_ofInt]
    show Int.bmod _ 4294967296 = _
    exact Int.bmod_eq_of_le (by omega) (by omega)
  rw [Int32.le_iff_toInt_le, Int32.le_iff_toInt_le, e2]
  have h0 : (0 : Int32).toInt = 0 := by decide
  rw [h0]
  constructor
  · rintro ⟨h1, h2⟩
    refine ⟨x.toInt.toNat, by omega, ?_⟩
    refine Int32.toInt_inj.mp ?_
    rw [nI_toInt (by omega)]; omega
  · rintro ⟨c, hc, rfl⟩
    rw [nI_toInt (by omega)]; omega
theorem chkL {x : Int32} (b : Nat) (hn : b < 2 ^ 30) : (0 ≤ x ∧ x ≤ nI b) ↔ ∃ c, c ≤ b ∧ x = nI c := by
  have := chk (x := x) (n := b + 1) (by omega)
  rw [show nI (b + 1) - 1 = nI b from by rw [nI_sub1 (by omega)]; rfl] at this
  rw [this]
  constructor
  · rintro ⟨c, h, e⟩; exact ⟨c, by omega, e⟩
  · rintro ⟨c, h, e⟩; exact ⟨c, by omega, e⟩
theorem chkM {x : Int32} (a b : Nat) (hab : a ≤ b) (hn : b < 2 ^ 30) : (nI a ≤ x ∧ x ≤ nI b) ↔ ∃ c, a ≤ c ∧ c ≤ b ∧ x = nI c := by
  constructor
  · rintro ⟨h1, h2⟩
    have h0 : 0 ≤ x := by
      rw [Int32.le_iff_toInt_le] at h1 ⊢
      rw [nI_toInt (by omega)] at h1
      have h0 : (0 : Int32).toInt = 0 := by decide
      omega
    obtain ⟨c, hc, rfl⟩ := (chkL b hn).mp ⟨h0, h2⟩
    exact ⟨c, (nI_leI (by omega) (by omega)).mp h1, hc, rfl⟩
  · rintro ⟨c, h1, h2, rfl⟩
    exact ⟨(nI_leI (by omega) (by omega)).mpr h1, (nI_leI (by omega) (by omega)).mpr h2⟩
theorem in_gen {τ : Type} (v a b : Int64) (t : τ) : (if (if a < v then 1 else if v = a then 0 else -1 : Int32) < 0 then some ((0 : Int32), t) else if 0 < (if b < v then 1 else if v = b then 0 else -1 : Int32) then some (0, t) else some (1, t)) = some (if a ≤ v ∧ v ≤ b then 1 else 0, t) := by
  have h1 : (a < v ∨ a = v) ↔ a ≤ v := by
    simp only [Int64.lt_iff_toInt_lt, Int64.le_iff_toInt_le, ← Int64.toInt_inj]; omega
  by_cases h : a ≤ v
  · have e1 : ¬ ((if a < v then 1 else if v = a then 0 else -1 : Int32) < 0) := by
      rcases h1.mpr h with h2 | h2
      · rw [if_pos h2]; decide
      · subst h2
        have : ¬ a < a := by simp only [Int64.lt_iff_toInt_lt]; omega
        rw [if_neg this, if_pos rfl]; decide
    rw [if_neg e1]
    by_cases g : b < v
    · have g2 : ¬ v ≤ b := by simp only [Int64.lt_iff_toInt_lt, Int64.le_iff_toInt_le] at g ⊢; omega
      rw [if_pos g, if_pos (by decide), if_neg (fun q => g2 q.2)]
    · have g2 : v ≤ b := by simp only [Int64.lt_iff_toInt_lt, Int64.le_iff_toInt_le] at g ⊢; omega
      rw [if_neg g, if_pos (show a ≤ v ∧ v ≤ b from ⟨h, g2⟩)]
      by_cases g3 : v = b
      · rw [if_pos g3, if_neg (by decide)]
      · rw [if_neg g3, if_neg (by decide)]
  · have n1 : ¬ a < v := fun q => h (h1.mp (Or.inl q))
    have n2 : ¬ v = a := fun q => h (h1.mp (Or.inr q.symm))
    rw [if_neg n1, if_neg n2, if_pos (by decide), if_neg (fun q => h q.1)]
theorem c_in {ex : Nat → Option Nat} {z : Nat} (v a b : Int64) (t : St) : fX0_in ex z v a b t = some (if a ≤ v ∧ v ≤ b then 1 else 0, t) := in_gen v a b t
theorem c_inI {ex : Nat → Option Nat} {z : Nat} (x a b : Int32) (t : St) : fX0_in ex z x.toInt64 a.toInt64 b.toInt64 t = some (if a ≤ x ∧ x ≤ b then 1 else 0, t) := by
  rw [c_in]
  simp only [Int64.le_iff_toInt_le, Int32.le_iff_toInt_le, i32_64]
theorem l64 {n : Nat} (h : n < 2 ^ 31) : (OfNat.ofNat n : Int64) = (nI n).toInt64 := by
  refine Int64.toInt_inj.mp ?_
  rw [i32_64, nI_toInt h]
  show (Int64.ofNat n).toInt = _
  rw [Int64.toInt_ofNat']
  show Int.bmod _ 18446744073709551616 = _
  exact Int.bmod_eq_of_le (by omega) (by omega)
/-- an argument in its bounds, or not: both sides -/
theorem m_in1 {x b : Int32} (t : MS) (h : 0 ≤ x ∧ x ≤ b) : fX3_in x.toInt64 0 b.toInt64 t = some (1, t) := by
  have := m_inI x 0 b t
  rw [if_pos h] at this; exact this
theorem m_in0 {x b : Int32} (t : MS) (h : ¬ (0 ≤ x ∧ x ≤ b)) : fX3_in x.toInt64 0 b.toInt64 t = some (0, t) := by
  have := m_inI x 0 b t
  rw [if_neg h] at this; exact this
theorem c_in1 {ex : Nat → Option Nat} {z : Nat} {x b : Int32} (t : St) (h : 0 ≤ x ∧ x ≤ b) : fX0_in ex z x.toInt64 0 b.toInt64 t = some (1, t) := by
  have := c_inI (ex := ex) (z := z) x 0 b t
  rw [if_pos h] at this; exact this
theorem c_in0 {ex : Nat → Option Nat} {z : Nat} {x b : Int32} (t : St) (h : ¬ (0 ≤ x ∧ x ≤ b)) : fX0_in ex z x.toInt64 0 b.toInt64 t = some (0, t) := by
  have := c_inI (ex := ex) (z := z) x 0 b t
  rw [if_neg h] at this; exact this
theorem m_iL1 (a b : Nat) {c : Nat} (t : MS) (h1 : a ≤ c) (h2 : c ≤ b) (hb : b < 2 ^ 30) : fX3_in (nI c).toInt64 (OfNat.ofNat a) (OfNat.ofNat b) t = some (1, t) := by
  rw [l64 (n := a) (by omega), l64 (n := b) (by omega), m_inI, if_pos ((chkM a b (by omega) hb).mpr ⟨c, h1, h2, rfl⟩)]
theorem m_iL0 (a b : Nat) {x : Int32} (t : MS) (hab : a ≤ b) (hb : b < 2 ^ 30) (h : ¬ ∃ c, a ≤ c ∧ c ≤ b ∧ x = nI c) : fX3_in x.toInt64 (OfNat.ofNat a) (OfNat.ofNat b) t = some (0, t) := by
  rw [l64 (n := a) (by omega), l64 (n := b) (by omega), m_inI, if_neg (fun g => h ((chkM a b hab hb).mp g))]
theorem c_iL1 (a b : Nat) {ex : Nat → Option Nat} {z c : Nat} (t : St) (h1 : a ≤ c) (h2 : c ≤ b) (hb : b < 2 ^ 30) : fX0_in ex z (nI c).toInt64 (OfNat.ofNat a) (OfNat.ofNat b) t = some (1, t) := by
  rw [l64 (n := a) (by omega), l64 (n := b) (by omega), c_inI, if_pos ((chkM a b (by omega) hb).mpr ⟨c, h1, h2, rfl⟩)]
theorem c_iL0 (a b : Nat) {ex : Nat → Option Nat} {z : Nat} {x : Int32} (t : St) (hab : a ≤ b) (hb : b < 2 ^ 30) (h : ¬ ∃ c, a ≤ c ∧ c ≤ b ∧ x = nI c) : fX0_in ex z x.toInt64 (OfNat.ofNat a) (OfNat.ofNat b) t = some (0, t) := by
  rw [l64 (n := a) (by omega), l64 (n := b) (by omega), c_inI, if_neg (fun g => h ((chkM a b hab hb).mp g))]
end ARG
section AR2
variable {t : MS} {W : Wv} {σ : Sg} {T : Nat → Nat} {ex : Nat → Option Nat} {z o : Nat} {a : Nat → Nat} {c : Nat × Nat}
theorem Wv.OK.n (O : W.OK) : W.C.R.n ≤ 9 := O.c.r.b.n
theorem Wv.OK.ba (O : W.OK) : W.C.R.Ba := O.c.r.b
theorem m_clk1 (M : MW t W) (O : W.OK) {i : Nat} (hi : i < W.C.R.n) : fX3_isClock (nI i) t = some (1, t) := by
  have := O.n
  rw [m_isClock, M.c.r.1.n, if_pos ((chk (by omega)).mpr ⟨i, hi, rfl⟩)]
theorem m_clk0 (M : MW t W) (O : W.OK) {x : Int32} (h : ¬ ∃ i, i < W.C.R.n ∧ x = nI i) : fX3_isClock x t = some (0, t) := by
  have := O.n
  rw [m_isClock, M.c.r.1.n, if_neg (fun g => h ((chk (by omega)).mp g))]
theorem m_win1 (M : MW t W) (O : W.OK) {i : Nat} (hi : i < W.C.R.W) : fX3_isWindow (nI i) t = some (1, t) := by
  have := O.ba.W1
  unfold fX3_isWindow
  rw [m_in1 t (by rw [M.c.r.1.W]; exact (chk (by omega)).mpr ⟨i, hi, rfl⟩), gm_some]; rfl
theorem m_win0 (M : MW t W) (O : W.OK) {x : Int32} (h : ¬ ∃ i, i < W.C.R.W ∧ x = nI i) : fX3_isWindow x t = some (0, t) := by
  have := O.ba.W1
  unfold fX3_isWindow
  rw [m_in0 t (by rw [M.c.r.1.W]; exact fun g => h ((chk (by omega)).mp g)), gm_some]; rfl
/-- the race of the world -/
theorem CW.race (H : CW σ T ex z o a W) : ∃ A, Ad.r A = a 0 ∧ RT σ T 2 ex A W.C.R (-4) := H.rc.2
theorem CW.obj (H : CW σ T ex z o a W) : ∃ at_, σ o = some (obC a (nI W.C.dr) (nI W.tn) at_ (nI W.im) (nI W.I.dr)) := H.ob.2
theorem c_clk1 (H : CW σ T ex z o a W) (O : W.OK) {i zz : Nat} (hi : i < W.C.R.n) : fX0_isClock ex zz o (nI i) (σ, c) = some (1, (σ, c)) := by
  have := O.n
  obtain ⟨A, hA, R⟩ := H.race
  obtain ⟨at_, hob⟩ := H.obj
  unfold fX0_isClock
  rw [A_t hob (by decide) rfl, ← hA, X_t R.1.ra (by decide), c_size (t := (σ, 0, 0)) R.1, gb_two, c_in1 _ ((chk (by omega)).mpr ⟨i, hi, rfl⟩), gb_two]; rfl
theorem c_clk0 (H : CW σ T ex z o a W) (O : W.OK) {zz : Nat} {x : Int32} (h : ¬ ∃ i, i < W.C.R.n ∧ x = nI i) : fX0_isClock ex zz o x (σ, c) = some (0, (σ, c)) := by
  have := O.n
  obtain ⟨A, hA, R⟩ := H.race
  obtain ⟨at_, hob⟩ := H.obj
  unfold fX0_isClock
  rw [A_t hob (by decide) rfl, ← hA, X_t R.1.ra (by decide), c_size (t := (σ, 0, 0)) R.1, gb_two, c_in0 _ (fun g => h ((chk (by omega)).mp g)), gb_two]; rfl
theorem c_win1 (H : CW σ T ex z o a W) (O : W.OK) {i zz : Nat} (hi : i < W.C.R.W) : fX0_isWindow ex zz o (nI i) (σ, c) = some (1, (σ, c)) := by
  have := O.ba.W1
  obtain ⟨A, hA, R⟩ := H.race
  obtain ⟨at_, hob⟩ := H.obj
  unfold fX0_isWindow
  rw [A_t hob (by decide) rfl, ← hA, X_t R.1.ra (by decide), c_home (t := (σ, 0, 0)) R.1 O.ba, gb_two, c_in1 _ ((chkL _ (by omega)).mpr ⟨i, by omega, rfl⟩), gb_two]; rfl
theorem c_win0 (H : CW σ T ex z o a W) (O : W.OK) {zz : Nat} {x : Int32} (h : ¬ ∃ i, i < W.C.R.W ∧ x = nI i) : fX0_isWindow ex zz o x (σ, c) = some (0, (σ, c)) := by
  have := O.ba.W1
  have := O.ba.W0
  obtain ⟨A, hA, R⟩ := H.race
  obtain ⟨at_, hob⟩ := H.obj
  unfold fX0_isWindow
  rw [A_t hob (by decide) rfl, ← hA, X_t R.1.ra (by decide), c_home (t := (σ, 0, 0)) R.1 O.ba, gb_two, c_in0 _ (fun g => by
    obtain ⟨i, hi, e⟩ := (chkL _ (by omega)).mp g
    exact h ⟨i, by omega, e⟩), gb_two]; rfl
/-- nothing is written -/
theorem Both.same {fm : Option (Int32 × MS)} {fc : Option (Int32 × St)} (M : MW t W) (H : CW σ T ex z o a W) (O : W.OK) (v : Int32) (h1 : fm = some (v, t)) (h2 : fc = some (v, (σ, 0, 0))) : Both σ T ex z o a fm fc := ⟨v, t, W, σ, T, 0, 0, h1, h2, M, H, O, Kp.rf _ _ _, by omega, by omega⟩
end AR2
