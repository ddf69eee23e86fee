/-! THE REFERENCE's STATE AS A RACE (printed by gen/mr.py) -/
set_option maxRecDepth 100000
theorem ilit (n : Nat) : (OfNat.ofNat n : Int32) = nI n := rfl
def fin (v : Nat) : Int32 := if v = 0 then -4 else nI v
theorem mald_nI {β : Type} {t : MS} {j n k : Nat} {K : Int32 → Option β} (hk : k < n) (hn : n ≤ 1000) : mald t j n (nI k) K = K (t.2.1 j k) := by
  have h : k < 2 ^ 31 := by omega
  unfold mald
  rw [if_neg (nI_in hk (by omega)), nI_clamp h]
theorem mast_nI {β : Type} {t : MS} {j n k : Nat} {v : Int32} {K : MS → Option β} (hk : k < n) (hn : n ≤ 1000) : mast t j n (nI k) v K = K (setA t j k v) := by
  have h : k < 2 ^ 31 := by omega
  unfold mast
  rw [if_neg (nI_in hk (by omega)), nI_clamp h]
theorem setA_same (t : MS) (j i : Nat) (v : Int32) : (setA t j i v).2.1 j = upd (t.2.1 j) i v := by simp [setA]
theorem setA_other (t : MS) {j a : Nat} (i : Nat) (v : Int32) (h : a ≠ j) : (setA t j i v).2.1 a = t.2.1 a := by simp [setA, h]
theorem setA_1 (t : MS) (j i : Nat) (v : Int32) : (setA t j i v).1 = t.1 := rfl
theorem setA_3 (t : MS) (j i : Nat) (v : Int32) : (setA t j i v).2.2 = t.2.2 := rfl
theorem upd_at (f : Nat → Int32) (i : Nat) (v : Int32) : upd f i v i = v := by simp [upd]
theorem upd_no (f : Nat → Int32) {i j : Nat} (v : Int32) (h : j ≠ i) : upd f i v j = f j := by simp [upd, h]
/-- only the array 0 differs -/
def Sm (t t' : MS) : Prop := t'.1 = t.1 ∧ (∀ j, j ≠ 0 → t'.2.1 j = t.2.1 j) ∧ t'.2.2 = t.2.2
theorem Sm.rf (t : MS) : Sm t t := ⟨rfl, fun _ _ => rfl, rfl⟩
theorem Sm.tr {t u v : MS} (h : Sm t u) (g : Sm u v) : Sm t v := ⟨g.1.trans h.1, fun j hj => (g.2.1 j hj).trans (h.2.1 j hj), g.2.2.trans h.2.2⟩
theorem Sm.set (t : MS) (i : Nat) (v : Int32) : Sm t (setA t 0 i v) := ⟨rfl, fun j hj => setA_other t i v hj, rfl⟩
theorem Sm.sets {t u : MS} (h : Sm t u) (i : Nat) (v : Int32) : Sm t (setA u 0 i v) := h.tr (Sm.set u i v)
def MRb (t : MS) (R : Rc) : Prop := (t.1 3 = nI R.n) ∧ (t.1 4 = nI R.W) ∧ (t.1 6 = nI R.mn) ∧ (∀ w, w < 24 → t.2.1 0 w = nI (R.d w)) ∧ (∀ c, c < R.n → t.2.1 0 (24 + c) = nI (R.h c)) ∧ (∀ c, c < R.n → t.2.1 0 (33 + c) = nI (R.s c)) ∧ (∀ c, c < R.n → t.2.1 0 (42 + c) = nI (R.p c)) ∧ (t.2.1 0 60 = nI R.now) ∧ (t.2.1 0 61 = nI R.he) ∧ (t.2.1 0 62 = nI R.so) ∧ (∀ c, c < R.n → t.2.1 1 c = nI (R.k c)) ∧ (∀ c, c < R.n → t.2.1 2 c = Int32.ofInt (R.r c)) ∧ (∀ j, j < 12 → t.2.1 3 j = nI (R.sk j))
theorem MRb.n {t : MS} {R : Rc} (H : MRb t R) : t.1 3 = nI R.n := H.1
theorem MRb.W {t : MS} {R : Rc} (H : MRb t R) : t.1 4 = nI R.W := H.2.1
theorem MRb.mn {t : MS} {R : Rc} (H : MRb t R) : t.1 6 = nI R.mn := H.2.2.1
theorem MRb.d {t : MS} {R : Rc} (H : MRb t R) : ∀ w, w < 24 → t.2.1 0 w = nI (R.d w) := H.2.2.2.1
theorem MRb.h {t : MS} {R : Rc} (H : MRb t R) : ∀ c, c < R.n → t.2.1 0 (24 + c) = nI (R.h c) := H.2.2.2.2.1
theorem MRb.s {t : MS} {R : Rc} (H : MRb t R) : ∀ c, c < R.n → t.2.1 0 (33 + c) = nI (R.s c) := H.2.2.2.2.2.1
theorem MRb.p {t : MS} {R : Rc} (H : MRb t R) : ∀ c, c < R.n → t.2.1 0 (42 + c) = nI (R.p c) := H.2.2.2.2.2.2.1
theorem MRb.now {t : MS} {R : Rc} (H : MRb t R) : t.2.1 0 60 = nI R.now := H.2.2.2.2.2.2.2.1
theorem MRb.he {t : MS} {R : Rc} (H : MRb t R) : t.2.1 0 61 = nI R.he := H.2.2.2.2.2.2.2.2.1
theorem MRb.so {t : MS} {R : Rc} (H : MRb t R) : t.2.1 0 62 = nI R.so := H.2.2.2.2.2.2.2.2.2.1
theorem MRb.k {t : MS} {R : Rc} (H : MRb t R) : ∀ c, c < R.n → t.2.1 1 c = nI (R.k c) := H.2.2.2.2.2.2.2.2.2.2.1
theorem MRb.r {t : MS} {R : Rc} (H : MRb t R) : ∀ c, c < R.n → t.2.1 2 c = Int32.ofInt (R.r c) := H.2.2.2.2.2.2.2.2.2.2.2.1
theorem MRb.sk {t : MS} {R : Rc} (H : MRb t R) : ∀ j, j < 12 → t.2.1 3 j = nI (R.sk j) := H.2.2.2.2.2.2.2.2.2.2.2.2
/-- finishes -/
def MRf (t : MS) (R : Rc) : Prop := ∀ c, c < R.n → t.2.1 0 (51 + c) = fin (R.f c)
def MR (t : MS) (R : Rc) : Prop := MRb t R ∧ MRf t R
/-- a place of the array 0 is written -/
theorem MRb.put {t : MS} {R R' : Rc} {i : Nat} {v : Int32} (H : MRb t R) (e1 : R'.n = R.n) (e2 : R'.W = R.W) (e3 : R'.mn = R.mn) (e4 : R'.k = R.k) (e5 : R'.r = R.r) (e6 : R'.sk = R.sk)
    (hd : ∀ w, w < 24 → upd (t.2.1 0) i v w = nI (R'.d w)) (hh : ∀ c, c < R.n → upd (t.2.1 0) i v (24 + c) = nI (R'.h c)) (hs : ∀ c, c < R.n → upd (t.2.1 0) i v (33 + c) = nI (R'.s c)) (hp : ∀ c, c < R.n → upd (t.2.1 0) i v (42 + c) = nI (R'.p c)) (h1 : upd (t.2.1 0) i v 60 = nI R'.now) (h2 : upd (t.2.1 0) i v 61 = nI R'.he) (h3 : upd (t.2.1 0) i v 62 = nI R'.so) : MRb (setA t 0 i v) R' := by
  refine ⟨?_, ?_, ?_, ?_, ?_, ?_, ?_, ?_, ?_, ?_, ?_, ?_, ?_⟩
  · rw [e1]; exact H.n
  · rw [e2]; exact H.W
  · rw [e3]; exact H.mn
  · rw [setA_same]; exact hd
  · rw [setA_same, e1]; exact hh
  · rw [setA_same, e1]; exact hs
  · rw [setA_same, e1]; exact hp
  · rw [setA_same]; exact h1
  · rw [setA_same]; exact h2
  · rw [setA_same]; exact h3
  · rw [setA_other _ _ _ (by decide), e1, e4]; exact H.k
  · rw [setA_other _ _ _ (by decide), e1, e5]; exact H.r
  · rw [setA_other _ _ _ (by decide), e6]; exact H.sk
theorem nI_mul (a b : Nat) : nI a * nI b = nI (a * b) := (Int32.ofNat_mul a b).symm
theorem nI_quo {a d : Nat} (ha : a < 2 ^ 31) (hd : d < 2 ^ 31) : nI a / nI d = nI (a / d) := by
  have h1 := nI_toInt ha
  have h2 := nI_toInt hd
  have h3 : a / d < 2 ^ 31 := Nat.lt_of_le_of_lt (Nat.div_le_self a d) ha
  refine Int32.toInt_inj.mp ?_
  rw [nI_toInt h3, Int32.toInt_div_of_ne_left _ _ (by
    intro h
    have := congrArg Int32.toInt h
    rw [h1] at this
    have hm : (Int32.minValue).toInt = -2147483648 := by decide
    rw [hm] at this
    omega), h1, h2]
  exact (Int.ofNat_tdiv a d).symm ▸ rfl
theorem ife {β : Type} {a : Nat} (b : Nat) {x : Int32} (hx : x = nI b) (ha : a < 2 ^ 31) (hb : b < 2 ^ 31) {F G : β} : (if nI a = x then F else G) = if a = b then F else G := by
  subst hx
  by_cases h : a = b
  · rw [if_pos h, if_pos (by rw [h])]
  · rw [if_neg h, if_neg (fun g => h ((nI_eq ha hb).mp g))]
theorem ifl {β : Type} {a : Nat} (b : Nat) (ha : a < 2 ^ 31) (hb : b < 2 ^ 31) {F G : β} : (if nI a = (OfNat.ofNat b : Int32) then F else G) = if a = b then F else G := ife b rfl ha hb
theorem ifle {β : Type} {a : Nat} (b : Nat) {x y : Int32} (hy : y = nI a) (hx : x = nI b) (ha : a < 2 ^ 31) (hb : b < 2 ^ 31) {F G : β} : (if y ≤ x then F else G) = if a ≤ b then F else G := by
  subst hx hy
  by_cases h : a ≤ b
  · rw [if_pos h, if_pos ((nI_leI ha hb).mpr h)]
  · rw [if_neg h, if_neg (fun g => h ((nI_leI ha hb).mp g))]
theorem iflt {β : Type} {a : Nat} (b : Nat) {x y : Int32} (hy : y = nI a) (hx : x = nI b) (ha : a < 2 ^ 31) (hb : b < 2 ^ 31) {F G : β} : (if y < x then F else G) = if a < b then F else G := by
  subst hx hy
  by_cases h : a < b
  · rw [if_pos h, if_pos ((nI_ltI ha hb).mpr h)]
  · rw [if_neg h, if_neg (fun g => h ((nI_ltI ha hb).mp g))]
theorem iflel {β : Type} {a : Nat} (b : Nat) (ha : a < 2 ^ 31) (hb : b < 2 ^ 31) {F G : β} : (if nI a ≤ (OfNat.ofNat b : Int32) then F else G) = if a ≤ b then F else G := ifle b rfl rfl ha hb
theorem ifler {β : Type} (a : Nat) {b : Nat} (ha : a < 2 ^ 31) (hb : b < 2 ^ 31) {F G : β} : (if (OfNat.ofNat a : Int32) ≤ nI b then F else G) = if a ≤ b then F else G := ifle b rfl rfl ha hb
theorem ifltl {β : Type} {a : Nat} (b : Nat) (ha : a < 2 ^ 31) (hb : b < 2 ^ 31) {F G : β} : (if nI a < (OfNat.ofNat b : Int32) then F else G) = if a < b then F else G := iflt b rfl rfl ha hb
theorem ifltr {β : Type} (a : Nat) {b : Nat} (ha : a < 2 ^ 31) (hb : b < 2 ^ 31) {F G : β} : (if (OfNat.ofNat a : Int32) < nI b then F else G) = if a < b then F else G := iflt b rfl rfl ha hb
theorem nI_m1 (a : Nat) : nI (a + 1) + (-1) = nI a := by
  rw [← nI_pred a]
  rw [Int32.sub_eq_add_neg]
theorem nI_sub1 {a : Nat} (h : 0 < a) : nI a - 1 = nI (a - 1) := by
  obtain ⟨m, rfl⟩ : ∃ m, a = m + 1 := ⟨a - 1, by omega⟩
  rw [nI_pred]; rfl
