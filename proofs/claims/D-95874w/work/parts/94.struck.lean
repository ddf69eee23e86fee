/-! struck -/
set_option maxRecDepth 100000
theorem shr_cnt : ∀ c, c < 10 → ((nI c &&& 31).toBitVec.smod 32).toNat = c := by decide +kernel
theorem nI_shr {x c : Nat} (hx : x < 2 ^ 31) (hc : c < 10) : nI x >>> (nI c &&& 31) = nI (x / 2 ^ c) := by
  refine Int32.toInt_inj.mp ?_
  have hd : x / 2 ^ c < 2 ^ 31 := Nat.lt_of_le_of_lt (Nat.div_le_self _ _) hx
  have e2 : (nI x >>> (nI c &&& 31)).toInt = (nI x).toInt >>> c := by
    show ((nI x).toBitVec.sshiftRight' _).toInt = _
    rw [BitVec.sshiftRight', BitVec.toInt_sshiftRight, shr_cnt c hc]
    rfl
  rw [e2, nI_toInt hx, nI_toInt hd, Int.shiftRight_eq_div_pow]
  exact_mod_cast rfl
theorem nI_bit {x c : Nat} (hx : x < 2 ^ 31) (hc : c < 10) : (nI x >>> (nI c &&& 31)) &&& 1 = nI (x / 2 ^ c % 2) := by
  have hd : x / 2 ^ c < 2 ^ 31 := Nat.lt_of_le_of_lt (Nat.div_le_self _ _) hx
  rw [nI_shr hx hc, pk_andN (by omega) 1 (by decide)]
theorem nI_and (x y : Nat) : nI x &&& nI y = nI (x &&& y) := by
  apply Int32.toBitVec_inj.1
  show BitVec.ofNat 32 x &&& BitVec.ofNat 32 y = BitVec.ofNat 32 (x &&& y)
  apply BitVec.eq_of_getLsbD_eq
  intro i hi
  simp [hi]
theorem sub_and {x y : Int32} (h : x &&& (y ^^^ (-1)) = 0) : x &&& y = x := by
  apply Int32.toBitVec_inj.1
  have h' : x.toBitVec &&& (y.toBitVec ^^^ BitVec.allOnes 32) = 0#32 := congrArg Int32.toBitVec h
  show x.toBitVec &&& y.toBitVec = x.toBitVec
  apply BitVec.eq_of_getLsbD_eq
  intro i hi
  have := congrArg (fun v => v.getLsbD i) h'
  simp [hi] at this ⊢
  intro hx
  rw [this hx]
  exact BitVec.getElem_allOnes (v := 32) i hi
theorem low_ex : ∀ x, x < 512 → x ≠ 0 → ∃ c, c < 9 ∧ x / 2 ^ c % 2 = 1 ∧ (∀ d, d < c → x / 2 ^ d % 2 = 0) ∧ x &&& (x - 1) = x - 2 ^ c ∧ 2 ^ c ≤ x ∧ ∀ d, d < 9 → (x - 2 ^ c) / 2 ^ d % 2 = if d = c then 0 else x / 2 ^ d % 2 := by decide +kernel
/-- strokes of a set together -/
def Rc.ssum (R : Rc) (x : Nat) : Nat → Nat
  | 0 => 0
  | c + 1 => Rc.ssum R x c + if x / 2 ^ c % 2 = 1 then stro (R.stk c) else 0
theorem Rc.ssum_clr (R : Rc) {x c : Nat} (h1 : x / 2 ^ c % 2 = 1) (h2 : ∀ d, d < 9 → (x - 2 ^ c) / 2 ^ d % 2 = if d = c then 0 else x / 2 ^ d % 2) : ∀ m, m ≤ 9 → R.ssum x m = R.ssum (x - 2 ^ c) m + if c < m then stro (R.stk c) else 0
  | 0, _ => by rw [if_neg (Nat.not_lt_zero _)]; rfl
  | m + 1, hm => by
    have ih := Rc.ssum_clr R h1 h2 m (by omega)
    have h3 := h2 m (by omega)
    show R.ssum x m + (if x / 2 ^ m % 2 = 1 then stro (R.stk m) else 0) = R.ssum (x - 2 ^ c) m + (if (x - 2 ^ c) / 2 ^ m % 2 = 1 then stro (R.stk m) else 0) + if c < m + 1 then stro (R.stk c) else 0
    rw [ih, h3]
    by_cases hq : m = c
    · subst hq
      rw [if_neg (Nat.lt_irrefl m), if_pos h1, if_pos rfl, if_neg (show ¬ (0 : Nat) = 1 by decide), if_pos (Nat.lt_succ_self m)]
    · rw [if_neg hq]
      by_cases hlt : c < m
      · rw [if_pos hlt, if_pos (show c < m + 1 by omega)]; omega
      · rw [if_neg hlt, if_neg (show ¬ c < m + 1 by omega)]; omega
theorem Rc.ssum_0 (R : Rc) : ∀ m, R.ssum 0 m = 0
  | 0 => rfl
  | m + 1 => by
    show R.ssum 0 m + (if 0 / 2 ^ m % 2 = 1 then stro (R.stk m) else 0) = 0
    rw [Rc.ssum_0 R m, Nat.zero_div, if_neg (by decide)]
theorem Rc.ssum_le {R : Rc} (B : R.Ba) (x : Nat) : ∀ m, m ≤ R.n → R.ssum x m ≤ 12 * m
  | 0, _ => Nat.le_refl _
  | m + 1, hm => by
    have ih := Rc.ssum_le B x m (by omega)
    have hs := Rc.stk_lt B (c := m) (by omega)
    show R.ssum x m + (if x / 2 ^ m % 2 = 1 then stro (R.stk m) else 0) ≤ _
    have : stro (R.stk m) ≤ 12 := by unfold stro; split <;> omega
    split <;> omega
/-- how many, the least, what all have: those below k -/
def sk3 (G : Nat → Bool) (s : Int32) : Nat → Nat × Int32 × Int32
  | 0 => (0, -4, s)
  | k + 1 => if G k = true then ((sk3 G s k).1 + 1, (if (sk3 G s k).1 = 0 then nI k else (sk3 G s k).2.1), (sk3 G s k).2.2 &&& nI k) else sk3 G s k
theorem sk3_le (G : Nat → Bool) (s : Int32) : ∀ k, (sk3 G s k).1 ≤ k
  | 0 => Nat.le_refl _
  | k + 1 => by
    have := sk3_le G s k
    unfold sk3; split
    · show (sk3 G s k).1 + 1 ≤ k + 1; omega
    · omega
theorem sk3_4 (G : Nat → Bool) (s : Int32) : ∀ k, k < 2 ^ 30 → ((sk3 G s k).2.1 = -4 ↔ (sk3 G s k).1 = 0)
  | 0, _ => ⟨fun _ => rfl, fun _ => rfl⟩
  | k + 1, hk => by
    have ih := sk3_4 G s k (by omega)
    unfold sk3; split
    · show (if (sk3 G s k).1 = 0 then nI k else (sk3 G s k).2.1) = -4 ↔ (sk3 G s k).1 + 1 = 0
      constructor
      · intro h
        by_cases h0 : (sk3 G s k).1 = 0
        · rw [if_pos h0] at h
          have := congrArg Int32.toInt h
          rw [nI_toInt (by omega)] at this
          have h4 : (-4 : Int32).toInt = -4 := by decide
          rw [h4] at this; omega
        · rw [if_neg h0] at h
          exact absurd (ih.mp h) h0
      · intro h; omega
    · exact ih
theorem sk3_stay (G : Nat → Bool) (s : Int32) {k : Nat} : ∀ d, (∀ i, k ≤ i → i < k + d → G i = false) → sk3 G s (k + d) = sk3 G s k
  | 0, _ => rfl
  | d + 1, h => by
    have ih := sk3_stay G s (k := k) d (fun i h1 h2 => h i h1 (by omega))
    show (if G (k + d) = true then _ else sk3 G s (k + d)) = _
    rw [h (k + d) (by omega) (by omega), if_neg (by decide), ih]
def sk3v (w : Nat) (q : Nat × Int32 × Int32) : Int32 := if w = 0 then nI q.1 else if q.1 = 0 then -4 else if w = 1 then q.2.1 else q.2.2
section O94
variable {t : MS} {W : Wv} {σ : Sg} {T : Nat → Nat} {ex : Nat → Option Nat} {z o : Nat} {a : Nat → Nat}
theorem m_sk64 (M : MW t W) (O : W.OK) {x : Nat} (hx : x < 512) (km : Int32 → Int32 → Int32 → Int32 → Int32 → Int32 → Int32 → MS → Option (Int32 × MS)) (s k w many : Nat) (hk : k ≤ 108) (hmany : many ≤ 600) (least sure : Int32) : ∀ (j c fuel : Nat), c + j = W.C.R.n → j < fuel → fX3_struck_64 km fuel (nI s) (nI k) (nI w) (nI many) least sure (nI x) (nI (W.C.R.ssum x c)) (nI c) t = (if nI x &&& (nI s ^^^ (-1)) = 0 ∧ W.C.R.ssum x W.C.R.n = k then km (nI s) (nI k) (nI w) (nI (many + 1)) (if many = 0 then nI x else least) (sure &&& nI x) (nI (x + 1)) t else km (nI s) (nI k) (nI w) (nI many) least sure (nI (x + 1)) t)
  | 0, c, fuel, hj, hf => by
    obtain ⟨m, rfl⟩ : ∃ m, fuel = m + 1 := ⟨fuel - 1, by omega⟩
    obtain rfl : c = W.C.R.n := by omega
    have h9 := O.n
    have hle := Rc.ssum_le O.ba x W.C.R.n (Nat.le_refl _)
    rw [fX3_struck_64, M.c.r.1.n, if_pos (nI_le (Nat.le_refl _) (by omega)), ife k rfl (by omega) (by omega), ifl 0 (by omega) (by decide)]
    unfold fX3_struck_134 fX3_struck_146
    simp only [lt]
    rw [nI_1, nI_1]
    by_cases h1 : nI x &&& (nI s ^^^ (-1)) = 0
    · rw [if_pos h1]
      by_cases h2 : W.C.R.ssum x W.C.R.n = k
      · rw [if_pos h2, if_pos (⟨h1, h2⟩ : _ ∧ _)]
        by_cases h3 : many = 0
        · rw [if_pos h3, if_pos h3]
        · rw [if_neg h3, if_neg h3]
      · rw [if_neg h2, if_neg (fun g : _ ∧ _ => h2 g.2)]
    · rw [if_neg h1, if_neg (fun g : _ ∧ _ => h1 g.1)]
  | j + 1, c, fuel, hj, hf => by
    obtain ⟨m, rfl⟩ : ∃ m, fuel = m + 1 := ⟨fuel - 1, by omega⟩
    have h9 := O.n
    have hc : c < W.C.R.n := by omega
    have hst := Rc.stk_lt O.ba hc
    have ih := m_sk64 M O hx km s k w many hk hmany least sure j (c + 1) m (by omega) (by omega)
    have hbit : hsB (nI x) c = decide (x / 2 ^ c % 2 = 1) := by
      unfold hsB
      rw [nI_bit (by omega) (by omega)]
      have : x / 2 ^ c % 2 < 2 := Nat.mod_lt _ (by decide)
      rw [show (1 : Int32) = nI 1 from rfl, decide_eq_decide, nI_eq (by omega) (by decide)]
    rw [fX3_struck_64, M.c.r.1.n, if_neg (nI_ge (by omega) (by omega)), m_hs, gm_some, hbit]
    unfold fX3_struck_98
    simp only [lt]
    by_cases h : x / 2 ^ c % 2 = 1
    · have e : W.C.R.ssum x (c + 1) = W.C.R.ssum x c + stro (W.C.R.stk c) := by show _ + (if _ then _ else _) = _; rw [if_pos h]
      rw [if_neg (by simp [h, b2]), m_strikes M.c.r.1 O.ba hc, gm_some, m_strokesOf (by omega), gm_some, nI_add, nI_1, ← e]
      exact ih
    · have e : W.C.R.ssum x (c + 1) = W.C.R.ssum x c := by show _ + (if _ then _ else _) = _; rw [if_neg h]; rfl
      rw [if_pos (by simp [h, b2]), ilit 0, nI_add, Nat.add_zero, nI_1, ← e]
      exact ih
theorem m_sk47 (M : MW t W) (O : W.OK) {s k w : Nat} (hs : s < 2 ^ W.C.R.n) (hk : k ≤ 108) (hw : w ≤ 2) (G : Nat → Bool) (hG : ∀ x, x < 512 → (G x = true ↔ (nI x &&& (nI s ^^^ (-1)) = 0 ∧ W.C.R.ssum x W.C.R.n = k))) : ∀ (j x fuel : Nat), x + j = 2 ^ W.C.R.n → j < fuel → fX3_struck_47 fuel (nI s) (nI k) (nI w) (nI (sk3 G (nI s) x).1) (sk3 G (nI s) x).2.1 (sk3 G (nI s) x).2.2 (nI x) t = some (sk3v w (sk3 G (nI s) (2 ^ W.C.R.n)), t)
  | 0, x, fuel, hj, hf => by
    obtain ⟨m, rfl⟩ : ∃ m, fuel = m + 1 := ⟨fuel - 1, by omega⟩
    obtain rfl : x = 2 ^ W.C.R.n := by omega
    have h9 := O.n
    have hp : 2 ^ W.C.R.n ≤ 2 ^ 9 := Nat.pow_le_pow_right (by decide) h9
    have hle := sk3_le G (nI s) (2 ^ W.C.R.n)
    rw [fX3_struck_47, M.c.r.1.n, one_shl9 _ (by omega), if_pos (nI_le (Nat.le_refl _) (by omega)), ifl 0 (by omega) (by decide), ifl 0 (by omega) (by decide), ifl 1 (by omega) (by decide)]
    unfold sk3v
    by_cases h0 : w = 0
    · rw [if_pos h0, if_pos h0]
    · rw [if_neg h0, if_neg h0]
      by_cases h1 : (sk3 G (nI s) (2 ^ W.C.R.n)).1 = 0
      · rw [if_pos h1, if_pos h1]
      · rw [if_neg h1, if_neg h1]
        by_cases h2 : w = 1
        · rw [if_pos h2, if_pos h2]
        · rw [if_neg h2, if_neg h2]
  | j + 1, x, fuel, hj, hf => by
    obtain ⟨m, rfl⟩ : ∃ m, fuel = m + 1 := ⟨fuel - 1, by omega⟩
    have h9 := O.n
    have hp : 2 ^ W.C.R.n ≤ 2 ^ 9 := Nat.pow_le_pow_right (by decide) h9
    have e9 : (2 : Nat) ^ 9 = 512 := by decide
    have hle := sk3_le G (nI s) x
    have ih := m_sk47 M O hs hk hw G hG j (x + 1) m (by omega) (by omega)
    rw [fX3_struck_47, M.c.r.1.n, one_shl9 _ (by omega), if_neg (nI_ge (by omega) (by omega))]
    have r := m_sk64 M O (x := x) (by omega) (fun a0 a1 a2 a3 a4 a5 a6 a7 => fX3_struck_47 m a0 a1 a2 a3 a4 a5 a6 a7) s k w (sk3 G (nI s) x).1 hk (by omega) (sk3 G (nI s) x).2.1 (sk3 G (nI s) x).2.2 W.C.R.n 0 1000 (by omega) (by omega)
    refine r.trans ?_
    by_cases hg : G x = true
    · have e : sk3 G (nI s) (x + 1) = ((sk3 G (nI s) x).1 + 1, (if (sk3 G (nI s) x).1 = 0 then nI x else (sk3 G (nI s) x).2.1), (sk3 G (nI s) x).2.2 &&& nI x) := by show (if G x = true then _ else _) = _; rw [if_pos hg]
      rw [if_pos ((hG x (by omega)).mp hg)]
      rw [e] at ih
      exact ih
    · have e : sk3 G (nI s) (x + 1) = sk3 G (nI s) x := by show (if G x = true then _ else _) = _; rw [if_neg hg]
      rw [if_neg (fun g => hg ((hG x (by omega)).mpr g))]
      rw [e] at ih
      exact ih
theorem c_lo2 {x c zz : Nat} (hx : x < 512) (hc : c < 9) (h1 : x / 2 ^ c % 2 = 1) (h2 : ∀ d, d < c → x / 2 ^ d % 2 = 0) (tt : St) : ∀ (j d fuel : Nat), d + j = c → j < fuel → fX0_lowest_2 ex zz fuel (nI x) (nI d) tt = some (nI c, tt)
  | 0, d, fuel, hj, hf => by
    obtain ⟨m, rfl⟩ : ∃ m, fuel = m + 1 := ⟨fuel - 1, by omega⟩
    obtain rfl : d = c := by omega
    rw [fX0_lowest_2, nI_bit (by omega) (by omega), h1, if_neg (by decide)]
  | j + 1, d, fuel, hj, hf => by
    obtain ⟨m, rfl⟩ : ∃ m, fuel = m + 1 := ⟨fuel - 1, by omega⟩
    rw [fX0_lowest_2, nI_bit (by omega) (by omega), h2 d (by omega), if_pos (by decide), nI_1]
    exact c_lo2 hx hc h1 h2 tt j (d + 1) m (by omega) (by omega)
theorem c_sof4 (H : CW σ T ex z o a W) (O : W.OK) {zz : Nat} (cc : Nat × Nat) : ∀ (N x s fuel : Nat), x ≤ N → x < 2 ^ W.C.R.n → N < fuel → fX0_strokesOf_4 ex zz fuel o (nI s) (nI x) (σ, cc) = some (nI (s + W.C.R.ssum x W.C.R.n), (σ, cc)) := by
  intro N
  have h9 := O.n
  have hp : 2 ^ W.C.R.n ≤ 2 ^ 9 := Nat.pow_le_pow_right (by decide) h9
  have e9 : (2 : Nat) ^ 9 = 512 := by decide
  obtain ⟨at_, hob⟩ := H.obj
  obtain ⟨A, hA, R⟩ := H.race
  induction N with
  | zero =>
    intro x s fuel hx hx2 hf
    obtain ⟨m, rfl⟩ : ∃ m, fuel = m + 1 := ⟨fuel - 1, by omega⟩
    obtain rfl : x = 0 := by omega
    rw [fX0_strokesOf_4, if_pos (by decide), Rc.ssum_0, Nat.add_zero]
  | succ N ih =>
    intro x s fuel hx hx2 hf
    obtain ⟨m, rfl⟩ : ∃ m, fuel = m + 1 := ⟨fuel - 1, by omega⟩
    by_cases h0 : x = 0
    · subst h0
      rw [fX0_strokesOf_4, if_pos (by decide), Rc.ssum_0, Nat.add_zero]
    · obtain ⟨c, l1, l2, l3, l4, l5, l6⟩ := low_ex x (by omega) h0
      have hcn : c < W.C.R.n := by
        rcases Nat.lt_or_ge c W.C.R.n with g | g
        · exact g
        · have := Nat.pow_le_pow_right (n := 2) (by decide) g; omega
      have hlow : ∀ zz cc, fX0_lowest ex zz (nI x) (σ, cc) = some (nI c, (σ, cc)) := fun zz cc => c_lo2 (by omega) l1 l2 l3 (σ, cc) c 0 1000 (by omega) (by omega)
      have hpos : 0 < 2 ^ c := Nat.two_pow_pos c
      have hk := kin (O.ba.k c hcn)
      have es := Rc.ssum_clr W.C.R l2 l6 W.C.R.n h9
      rw [if_pos hcn] at es
      rw [fX0_strokesOf_4, if_neg (fun g => h0 ((nI_zero (by omega)).mp g)), A_t hob (by decide) rfl, hlow, gb_two, ← hA, X_t R.1.ra (by decide), c_clock (t := (σ, 0, 0)) R.1 O.ba hcn, gb_two, A_t hob (by decide) rfl, ← hA, X_t (R.1.ck c hcn) hk, c_strokes (t := (σ, 0, 0)) R.1 O.ba hcn, gb_two]
      simp only [lt]
      rw [nI_add, nI_sub1 (by omega), nI_and, l4, ih (x - 2 ^ c) _ m (by omega) (by omega) (by omega), es]
      congr 3
      omega
theorem c_sk47 (H : CW σ T ex z o a W) (O : W.OK) {zf s k w : Nat} (cc : Nat × Nat) (hs : s < 2 ^ W.C.R.n) (hk : k ≤ 108) (hw : w ≤ 2) (G : Nat → Bool) (hG : ∀ x, x < 512 → (G x = true ↔ (nI x &&& (nI s ^^^ (-1)) = 0 ∧ W.C.R.ssum x W.C.R.n = k))) : ∀ (j x fuel : Nat), x + j = s + 1 → j < fuel → fX0_struck_47 ex zf fuel o (nI s) (nI k) (nI w) (nI (sk3 G (nI s) x).1) (sk3 G (nI s) x).2.1 (sk3 G (nI s) x).2.2 (nI x) (σ, cc) = some (sk3v w (sk3 G (nI s) (s + 1)), (σ, cc))
  | 0, x, fuel, hj, hf => by
    obtain ⟨m, rfl⟩ : ∃ m, fuel = m + 1 := ⟨fuel - 1, by omega⟩
    obtain rfl : x = s + 1 := by omega
    have h9 := O.n
    have hp : 2 ^ W.C.R.n ≤ 2 ^ 9 := Nat.pow_le_pow_right (by decide) h9
    have e9 : (2 : Nat) ^ 9 = 512 := by decide
    have hle := sk3_le G (nI s) (s + 1)
    rw [fX0_struck_47, if_pos (nI_lt (by omega) (by omega)), ifl 0 (by omega) (by decide), ifl 0 (by omega) (by decide), ifl 1 (by omega) (by decide)]
    unfold sk3v
    by_cases h0 : w = 0
    · rw [if_pos h0, if_pos h0]
    · rw [if_neg h0, if_neg h0]
      by_cases h1 : (sk3 G (nI s) (s + 1)).1 = 0
      · rw [if_pos h1, if_pos h1]
      · rw [if_neg h1, if_neg h1]
        by_cases h2 : w = 1
        · rw [if_pos h2, if_pos h2]
        · rw [if_neg h2, if_neg h2]
  | j + 1, x, fuel, hj, hf => by
    obtain ⟨m, rfl⟩ : ∃ m, fuel = m + 1 := ⟨fuel - 1, by omega⟩
    have h9 := O.n
    have hp : 2 ^ W.C.R.n ≤ 2 ^ 9 := Nat.pow_le_pow_right (by decide) h9
    have e9 : (2 : Nat) ^ 9 = 512 := by decide
    have hle := Rc.ssum_le O.ba x W.C.R.n (Nat.le_refl _)
    obtain ⟨at_, hob⟩ := H.obj
    have ih := c_sk47 (zf := zf) H O cc hs hk hw G hG j (x + 1) m (by omega) (by omega)
    have hsum : ∀ zz cc, fX0_strokesOf ex zz o (nI x) (σ, cc) = some (nI (W.C.R.ssum x W.C.R.n), (σ, cc)) := fun zz cc => by
      have := c_sof4 (zz := zz) H O cc 999 x 0 1000 (by omega) (by omega) (by omega)
      rw [Nat.zero_add] at this; exact this
    have hg4 := sk3_4 G (nI s) x (by omega)
    rw [fX0_struck_47, if_neg (nI_nlt (by omega) (by omega))]
    unfold fX0_struck_92 fX0_struck_101
    simp only [lt]
    rw [nI_1, nI_1]
    by_cases h1 : nI x &&& (nI s ^^^ (-1)) = 0
    · rw [if_pos h1, X_t hob (by decide), hsum, gb_two, ife k rfl (by omega) (by omega)]
      by_cases h2 : W.C.R.ssum x W.C.R.n = k
      · have hg : G x = true := (hG x (by omega)).mpr ⟨h1, h2⟩
        have e : sk3 G (nI s) (x + 1) = ((sk3 G (nI s) x).1 + 1, (if (sk3 G (nI s) x).1 = 0 then nI x else (sk3 G (nI s) x).2.1), (sk3 G (nI s) x).2.2 &&& nI x) := by show (if G x = true then _ else _) = _; rw [if_pos hg]
        rw [e] at ih
        rw [if_pos h2]
        by_cases h4 : (sk3 G (nI s) x).1 = 0
        · rw [if_pos (hg4.mpr h4)]
          rw [if_pos h4] at ih
          exact ih
        · rw [if_neg (fun g => h4 (hg4.mp g))]
          rw [if_neg h4] at ih
          exact ih
      · have hg : ¬ G x = true := fun g => h2 ((hG x (by omega)).mp g).2
        have e : sk3 G (nI s) (x + 1) = sk3 G (nI s) x := by show (if G x = true then _ else _) = _; rw [if_neg hg]
        rw [e] at ih
        rw [if_neg h2]
        exact ih
    · have hg : ¬ G x = true := fun g => h1 ((hG x (by omega)).mp g).1
      have e : sk3 G (nI s) (x + 1) = sk3 G (nI s) x := by show (if G x = true then _ else _) = _; rw [if_neg hg]
      rw [e] at ih
      rw [if_neg h1]
      exact ih
theorem b_struck (M : MW t W) (H : CW σ T ex z o a W) (O : W.OK) (x1 x2 x3 : Int32) : Both σ T ex z o a (fX3_struck x1 x2 x3 t) (fX0_struck ex z o x1 x2 x3 (σ, 0, 0)) := by
  obtain ⟨at_, hob⟩ := H.obj
  have h9 := O.n
  have hp : 2 ^ W.C.R.n ≤ 2 ^ 9 := Nat.pow_le_pow_right (by decide) h9
  have e9 : (2 : Nat) ^ 9 = 512 := by decide
  unfold fX3_struck fX0_struck
  rw [X_t hob (by decide)]
  by_cases h : ∃ s, s < 2 ^ W.C.R.n ∧ x1 = nI s
  · obtain ⟨s, hs, rfl⟩ := h
    rw [m_are1 M O hs, gm_some, if_neg n10, c_are1 H O hs, gb_two, if_neg n10]
    by_cases h : ∃ c, 1 ≤ c ∧ c ≤ 108 ∧ x2 = nI c
    · obtain ⟨k, hk0, hk, rfl⟩ := h
      rw [m_iL1 1 108 t hk0 hk (by decide), gm_some, if_neg n10, c_iL1 1 108 _ hk0 hk (by decide), gb_two, if_neg n10]
      by_cases h : ∃ c, 0 ≤ c ∧ c ≤ 2 ∧ x3 = nI c
      · obtain ⟨w, -, hw, rfl⟩ := h
        rw [m_iL1 0 2 t (by omega) hw (by decide), gm_some, if_neg n10, c_iL1 0 2 _ (by omega) hw (by decide), gb_two, if_neg n10]
        have hG : ∀ x, x < 512 → ((fun x => decide (nI x &&& (nI s ^^^ (-1)) = 0 ∧ W.C.R.ssum x W.C.R.n = k)) x = true ↔ (nI x &&& (nI s ^^^ (-1)) = 0 ∧ W.C.R.ssum x W.C.R.n = k)) := fun x _ => by simp
        generalize (fun x => decide (nI x &&& (nI s ^^^ (-1)) = 0 ∧ W.C.R.ssum x W.C.R.n = k)) = G at hG
        have g0 : G 0 = false := by
          rcases hb : G 0 with _ | _
          · rfl
          · have := ((hG 0 (by decide)).mp hb).2
            rw [Rc.ssum_0] at this; omega
        have e1 : sk3 G (nI s) 1 = (0, -4, nI s) := by show (if G 0 = true then _ else _) = _; rw [g0, if_neg (by decide)]; rfl
        have hpos : 0 < 2 ^ W.C.R.n := Nat.two_pow_pos _
        have m1 := m_sk47 M O hs hk hw G hG (2 ^ W.C.R.n - 1) 1 1000 (by omega) (by omega)
        rw [e1] at m1
        have c1 := c_sk47 (zf := z) H O (0, 0) hs hk hw G hG (s + 1) 0 1000 (by omega) (by omega)
        have es : sk3 G (nI s) (2 ^ W.C.R.n) = sk3 G (nI s) (s + 1) := by
          have := sk3_stay G (nI s) (k := s + 1) (2 ^ W.C.R.n - (s + 1)) (fun i h1 h2 => by
            rcases hb : G i with _ | _
            · rfl
            · have h3 := sub_and ((hG i (by omega)).mp hb).1
              rw [nI_and, nI_eq (Nat.lt_of_le_of_lt Nat.and_le_left (by omega)) (by omega)] at h3
              have h4 : i &&& s ≤ s := Nat.and_le_right
              omega)
          rw [show s + 1 + (2 ^ W.C.R.n - (s + 1)) = 2 ^ W.C.R.n by omega] at this
          exact this
        rw [es] at m1
        exact Both.same M H O _ m1 c1
      · rw [m_iL0 0 2 t (by omega) (by decide) h, gm_some, if_pos rfl, c_iL0 0 2 _ (by omega) (by decide) h, gb_two, if_pos rfl]
        exact Both.same M H O _ rfl rfl
    · rw [m_iL0 1 108 t (by omega) (by decide) h, gm_some, if_pos rfl, c_iL0 1 108 _ (by omega) (by decide) h, gb_two, if_pos rfl]
      exact Both.same M H O _ rfl rfl
  · rw [m_are0 M O h, gm_some, if_pos rfl, c_are0 H O h, gb_two, if_pos rfl]
    exact Both.same M H O _ rfl rfl
end O94
