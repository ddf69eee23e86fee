/-! LISTS: java.util.ArrayList in the store, with owners (T: whose an address is; 0 nobody's, 99 a constant's) -/
set_option maxRecDepth 100000
theorem nI_sub {a b : Nat} (h : b ≤ a) : nI a - nI b = nI (a - b) := by
  have e : nI a = nI (a - b) + nI b := by rw [nI_add]; congr 1; omega
  rw [e]; simp
theorem nI_half {a : Nat} (h : a < 2 ^ 31) : nI a >>> ((1 : Int32) &&& 31) = nI (a / 2) := by
  refine Int32.toInt_inj.mp ?_
  have e1 : ((1 : Int32) &&& 31) = 1 := by decide
  have e2 : (nI a >>> (1 : Int32)).toInt = (nI a).toInt >>> (1 : Nat) := by
    show ((nI a).toBitVec.sshiftRight' _).toInt = _
    simp [BitVec.sshiftRight']
  rw [e1, nI_toInt (by omega), e2, nI_toInt h, Int.shiftRight_eq_div_pow]
  omega
/-- addresses made by one are its own -/
def ext (T : Nat → Nat) (z0 z1 k : Nat) : Nat → Nat := fun q => if z0 ≤ q ∧ q < z1 then k else T q
theorem ext_in {T : Nat → Nat} {z0 z1 k q : Nat} (h0 : z0 ≤ q) (h1 : q < z1) : ext T z0 z1 k q = k := by simp [ext, h0, h1]
theorem ext_old {T : Nat → Nat} {z0 z1 k q : Nat} (h0 : q < z0) : ext T z0 z1 k q = T q := by
  unfold ext; rw [if_neg (by omega)]
theorem ext_hi {T : Nat → Nat} {z0 z1 k q : Nat} (h0 : z1 ≤ q) : ext T z0 z1 k q = T q := by
  unfold ext; rw [if_neg (by omega)]
theorem ext_none {T : Nat → Nat} {z k : Nat} : ext T z z k = T := by funext q; unfold ext; rw [if_neg (by omega)]
theorem ext_ext {T : Nat → Nat} {z0 z1 z2 k : Nat} (h0 : z0 ≤ z1) (h1 : z1 ≤ z2) : ext (ext T z0 z1 k) z1 z2 k = ext T z0 z2 k := by
  funext q; unfold ext
  by_cases a : z1 ≤ q ∧ q < z2
  · rw [if_pos a, if_pos (by omega)]
  · rw [if_neg a]
    by_cases b : z0 ≤ q ∧ q < z1
    · rw [if_pos b, if_pos (by omega)]
    · rw [if_neg b, if_neg (by omega)]
/-- from z on nothing is anybody's -/
def Fre (T : Nat → Nat) (z : Nat) : Prop := ∀ q, z ≤ q → T q = 0
theorem Fre.lt {T : Nat → Nat} {z q k : Nat} (F : Fre T z) (h : T q = k) (hk : k ≠ 0) : q < z := by
  rcases Nat.lt_or_ge q z with g | g
  · exact g
  · exact absurd (h.symm.trans (F q g)) hk
theorem Fre.ext {T : Nat → Nat} {z z' k : Nat} (F : Fre T z) (h : z ≤ z') : Fre (ext T z z' k) z' := by
  intro q hq; rw [ext_hi hq]; exact F q (by omega)
/-- only what is k's is written, besides what is new -/
def Ow (T : Nat → Nat) (k : Nat) (σ : Sg) (z : Nat) (σ' : Sg) (z' : Nat) : Prop := z ≤ z' ∧ ∀ q, T q ≠ k → (q < z ∨ z' ≤ q) → σ' q = σ q
theorem Ow.rf (T : Nat → Nat) (k : Nat) (σ : Sg) (z : Nat) : Ow T k σ z σ z := ⟨Nat.le_refl z, fun _ _ _ => rfl⟩
theorem Ow.tr {T : Nat → Nat} {k : Nat} {σ σ1 σ2 : Sg} {z z1 z2 : Nat} (h : Ow T k σ z σ1 z1) (g : Ow (ext T z z1 k) k σ1 z1 σ2 z2) : Ow T k σ z σ2 z2 := by
  refine ⟨Nat.le_trans h.1 g.1, fun q hq hz => ?_⟩
  have h1 := h.1
  have g1 := g.1
  rw [g.2 q (by
    rcases hz with hz | hz
    · rw [ext_old hz]; exact hq
    · rw [ext_hi (by omega)]; exact hq) (by omega)]
  exact h.2 q hq (by omega)
theorem Ow.put {T : Nat → Nat} {k : Nat} {σ : Sg} {z a : Nat} (h : T a = k) (x : Bool × va_E) : Ow T k σ z (g_u σ a x) z := ⟨Nat.le_refl z, fun q hq _ => g_u_ne _ _ (fun g => hq (g ▸ h))⟩
theorem Ow.make {T : Nat → Nat} {k : Nat} {σ : Sg} {z : Nat} (x : Bool × va_E) : Ow T k σ z (g_u σ z x) (z + 1) := ⟨Nat.le_succ z, fun q hq h => g_u_ne _ _ (by omega)⟩
theorem Ow.at {T : Nat → Nat} {k : Nat} {σ σ' : Sg} {z z' q j : Nat} (h : Ow T k σ z σ' z') (F : Fre T z) (hq : T q = j) (hj : j ≠ 0) (hk : j ≠ k) : σ' q = σ q := h.2 q (fun g => hk (hq.symm.trans g)) (Or.inl (F.lt hq hj))
theorem Ow.own {T : Nat → Nat} {k j z z' q : Nat} (F : Fre T z) (hq : T q = j) (hj : j ≠ 0) : ext T z z' k q = j := by rw [ext_old (F.lt hq hj)]; exact hq
abbrev csL : List Nat := [4, 5, 6, 7, 8, 9, 11, 12, 13, 14, 16, 17, 18, 19, 20]
def liC (mc : Int32) (e n : Nat) : Bool × va_E := (true, .inr (15, [.int mc, .ref e, .int (nI n)]))
def oaC (b : Bool) (cap : Nat) (f : Nat → Option Nat) : Bool × va_E := (b, .inl (4, cap, .inr (.inr (.inr (.inr f)))))
def AL (σ : Sg) (T : Nat → Nat) (k : Nat) (ex : Nat → Option Nat) (l e n : Nat) (g : Nat → Nat) : Prop :=
  T l = k ∧ (∃ mc, σ l = some (liC mc e n)) ∧ ((some e = ex 0 ∧ n = 0 ∧ T e = 99 ∧ ∃ b f, σ e = some (oaC b 0 f)) ∨ (T e = k ∧ ∃ cap f, σ e = some (oaC true cap f) ∧ 10 ≤ cap ∧ cap ≤ 300 ∧ n ≤ cap ∧ ∀ i, i < n → f i = some (g i)))
/-- what a list holds are objects -/
def El (σ : Sg) (g : Nat → Nat) (n : Nat) : Prop := ∀ j, j < n → ∃ fl ci fs, σ (g j) = some (fl, .inr (ci, fs)) ∧ ci ∈ csL
section L0
variable {β : Type} {σ : Sg} {c : Nat × Nat} {a : Nat} {fl : Bool} {ci : Nat} {fs : List Value} {cs : List Nat} {k : Nat}
theorem gb_app {α β : Type} {σ σ' : Sg} {dc ds c1 c2 : Nat} {r : α} {k : α → St → Option (β × St)} : gb (some (r, (σ', dc, ds))) (σ, c1, c2) k = k r (σ', c1 + dc, c2 + ds) := rfl
theorem I_t {K : Int32 → Option β} {v : Int32} (h : σ a = some (fl, .inr (ci, fs))) (hc : ci ∈ cs) (hv : fs[k]? = some (.int v)) : cgI cs k (σ, c) a K = K v := cgI_at (t := (σ, c)) h hc hv
theorem A_t {K : Nat → Option β} {v : Nat} (h : σ a = some (fl, .inr (ci, fs))) (hc : ci ∈ cs) (hv : fs[k]? = some (.ref v)) : cgA cs k (σ, c) a K = K v := cgA_at (t := (σ, c)) h hc hv
theorem P_t {K : St → Option β} {v : Value} (h : σ a = some (true, .inr (ci, fs))) (hc : ci ∈ cs) (hk : k < fs.length) : cput cs k (σ, c) a v K = K (g_u σ a (true, .inr (ci, fs.set k v)), c) := cput_at (t := (σ, c)) h hc hk
theorem X_t {F : Option β} (h : σ a = some (fl, .inr (ci, fs))) (hc : ci ∈ cs) : ccast cs (σ, c) a F = F := ccast_at (t := (σ, c)) h hc
theorem C_t {K : Nat → Option β} (h : σ a = some (fl, .inr (ci, fs))) : ccls (σ, c) a K = K ci := ccls_at (t := (σ, c)) h
theorem ald_t {K : Int32 → Option β} {j n i : Nat} {f : Nat → Int32} (h : σ a = some (fl, .inl (j, n, .inl f))) (hi : i < n) (hn : n ≤ 1000) : cald j (σ, c) a (nI i) K = K (f i) := cald_at (t := (σ, c)) h hi hn
theorem ast_t {K : St → Option β} {j n i : Nat} {f : Nat → Int32} {nr : Int32 → Int32} {x : Int32} (h : σ a = some (true, .inl (j, n, .inl f))) (hi : i < n) (hn : n ≤ 1000) : cast_ j nr (σ, c) a (nI i) x K = K (g_u σ a (true, .inl (j, n, .inl (upd f i (nr x)))), c) := cast_at (t := (σ, c)) h hi hn
theorem aldA_t {K : Nat → Option β} {j n i v : Nat} {f : Nat → Option Nat} (h : σ a = some (fl, .inl (j, n, .inr (.inr (.inr (.inr f)))))) (hi : i < n) (hn : n ≤ 1000) (hv : f i = some v) : caldA j (σ, c) a (nI i) K = K v := caldA_at (t := (σ, c)) h hi hn hv
theorem len_t {K : Int32 → Option β} {j n : Nat} {x : (Nat → Int32) ⊕ (Nat → Int64) ⊕ (Nat → UInt32) ⊕ (Nat → UInt64) ⊕ (Nat → Option Nat)} (h : σ a = some (fl, .inl (j, n, x))) (hj : j < 7) : calen (σ, c) a K = K (nI n) := by
  unfold calen; simp only [h, hj, if_true]; rfl
theorem astA_t {K : St → Option β} {j n i v : Nat} {b : Bool} {f : Nat → Option Nat} (hv : σ v = some (b, .inr (ci, fs))) (hc : ci ∈ cs) (h : σ a = some (true, .inl (j, n, .inr (.inr (.inr (.inr f)))))) (hi : i < n) (hn : n ≤ 1000) : castA j cs (σ, c) a (nI i) v K = K (g_u σ a (true, .inl (j, n, .inr (.inr (.inr (.inr (va_up f i (some v))))))), c) := by
  unfold castA; simp only [hv, h, hc, if_true]
  rw [if_neg (nI_in hi (by omega)), nI_clamp (by omega)]
theorem astN_t {K : St → Option β} {j n i : Nat} {f : Nat → Option Nat} (h : σ a = some (true, .inl (j, n, .inr (.inr (.inr (.inr f)))))) (hi : i < n) (hn : n ≤ 1000) : castN j (σ, c) a (nI i) K = K (g_u σ a (true, .inl (j, n, .inr (.inr (.inr (.inr (va_up f i none)))))), c) := by
  unfold castN; simp only [h, if_true]
  rw [if_neg (nI_in hi (by omega)), nI_clamp (by omega)]
theorem nI_nn {n : Nat} (h : n < 2 ^ 31) : ¬ nI n < 0 := nI_pos h
theorem cpQ_t {K : St → Option β} {j n0 n1 sp dp n a1 : Nat} {f g : Nat → Option Nat} (h0 : σ a = some (fl, .inl (j, n0, .inr (.inr (.inr (.inr f)))))) (h1 : σ a1 = some (true, .inl (j, n1, .inr (.inr (.inr (.inr g)))))) (b0 : sp + n ≤ n0) (b1 : dp + n ≤ n1) (l0 : n0 ≤ 1000) (l1 : n1 ≤ 1000) (hc : ∀ i, i < n → cisA cs (σ, c) (f (sp + i)) = true) : ccopyQ j cs (σ, c) a (nI sp) a1 (nI dp) (nI n) K = K (g_u σ a1 (true, .inl (j, n1, .inr (.inr (.inr (.inr (va_cpy f g sp dp n)))))), c) := by
  unfold ccopyQ; simp only [h0, h1]
  have e1 : (nI sp).toNatClampNeg = sp := nI_clamp (by omega)
  have e2 : (nI dp).toNatClampNeg = dp := nI_clamp (by omega)
  have e3 : (nI n).toNatClampNeg = n := nI_clamp (by omega)
  rw [e1, e2, e3, if_pos ⟨trivial, trivial, nI_nn (by omega), nI_nn (by omega), nI_nn (by omega), b0, b1, by
    rw [List.all_eq_true]
    intro i hi
    exact hc i (List.mem_range.mp hi)⟩]
theorem newa_t {K : Nat → St → Option β} {z j n c1 c2 : Nat} (h : n ≤ 1000) : cnewa z j (nI n) (σ, c1, c2) K = K (z + c1) (g_u σ (z + c1) (true, .inl (j, cz0 j n)), c1 + 1, c2 + n) := by
  unfold cnewa
  have e : (nI n).toNatClampNeg = n := nI_clamp (by omega)
  rw [e, if_neg (by
    intro g
    rcases g with g | g
    · exact nI_nn (by omega) g
    · omega)]
theorem new_t {K : Nat → St → Option β} {z n c1 c2 : Nat} : cnew z ci fs n (σ, c1, c2) K = K (z + c1) (g_u σ (z + c1) (true, .inr (ci, fs)), c1 + 1, c2 + n) := rfl
theorem kind_t {F : Option β} {j : Nat} {x : vp_A} (h : σ a = some (fl, .inl (j, x))) : ckind j (σ, c) a F = F := by
  unfold ckind; simp only [h, if_true]
end L0
theorem c_max {ex : Nat → Option Nat} {z : Nat} {t : St} {a b : Nat} (ha : a < 2 ^ 31) (hb : b < 2 ^ 31) : fJ4_max ex z (nI a) (nI b) t = some (nI (if a < b then b else a), t) := by
  unfold fJ4_max
  rw [iflt b rfl rfl ha hb]
  split <;> rfl
section L1
variable {ex : Nat → Option Nat} {z : Nat} {T : Nat → Nat} {k l e n : Nat} {g : Nat → Nat} {σ : Sg}
theorem al_size (H : AL σ T k ex l e n g) {c : Nat × Nat} : fJ2_size ex z l (σ, c) = some (nI n, (σ, c)) := by
  obtain ⟨-, ⟨mc, hl⟩, -⟩ := H
  unfold fJ2_size
  rw [I_t hl (by decide) rfl]
theorem al_isEmpty (H : AL σ T k ex l e n g) (hn : n ≤ 300) {c : Nat × Nat} : fJ2_isEmpty ex z l (σ, c) = some (if n = 0 then 1 else 0, (σ, c)) := by
  obtain ⟨-, ⟨mc, hl⟩, -⟩ := H
  unfold fJ2_isEmpty
  rw [I_t hl (by decide) rfl]
  by_cases h : n = 0
  · rw [if_pos h, h]; rfl
  · rw [if_neg h, if_neg (nI_ne0 (by omega) (by omega))]
theorem ck_idx {i n : Nat} (h : i < n) (hn : n ≤ 1000) {t : St} : fJ6_checkIndex ex z (nI i) (nI n) t = some (nI i, t) := by
  unfold fJ6_checkIndex fJ7_checkIndex
  rw [if_neg (nI_pos (by omega)), if_pos (nI_lt h (by omega)), gb_pure]
theorem al_case (H : AL σ T k ex l e n g) (hn : 0 < n) : T l = k ∧ T e = k ∧ ∃ mc cap f, σ l = some (liC mc e n) ∧ σ e = some (oaC true cap f) ∧ 10 ≤ cap ∧ cap ≤ 300 ∧ n ≤ cap ∧ ∀ i, i < n → f i = some (g i) := by
  obtain ⟨h1, ⟨mc, hl⟩, h | ⟨h2, cap, f, h3⟩⟩ := H
  · have := h.2.1; omega
  · exact ⟨h1, h2, mc, cap, f, hl, h3⟩
theorem al_le (H : AL σ T k ex l e n g) : l ≠ e := by
  obtain ⟨-, ⟨mc, hl⟩, h | ⟨-, cap, f, h3, -⟩⟩ := H
  · obtain ⟨-, -, -, b, f, h4⟩ := h
    intro g; rw [g, h4] at hl; simp [liC, oaC] at hl
  · intro g; rw [g, h3] at hl; simp [liC, oaC] at hl
theorem al_get (H : AL σ T k ex l e n g) {i : Nat} (hi : i < n) {c : Nat × Nat} : fJ2_get ex z l (nI i) (σ, c) = some (g i, (σ, c)) := by
  obtain ⟨-, -, mc, cap, f, hl, he, -, hc, hn, hf⟩ := al_case H (by omega)
  unfold fJ2_get fJ2_elementData
  rw [I_t hl (by decide) rfl, ck_idx hi (by omega), gb_two, X_t hl (by decide), A_t hl (by decide) rfl, aldA_t he (by omega) (by omega) (hf i hi), gb_two]
theorem al_set (H : AL σ T k ex l e n g) {i v : Nat} (hi : i < n) {fl : Bool} {ci : Nat} {fs : List Value} (hv : σ v = some (fl, .inr (ci, fs))) (hc : ci ∈ csL) {c : Nat × Nat} : ∃ σ', fJ2_set ex z l (nI i) v (σ, c) = some (g i, (σ', c)) ∧ AL σ' T k ex l e n (up g i v) ∧ Ow T k σ z σ' z ∧ ∀ q, q ≠ e → σ' q = σ q := by
  have hle := al_le H
  obtain ⟨h1, h2, mc, cap, f, hl, he, hm, hc', hn, hf⟩ := al_case H (by omega)
  unfold fJ2_set fJ2_elementData
  rw [I_t hl (by decide) rfl, ck_idx hi (by omega), gb_two, X_t hl (by decide), A_t hl (by decide) rfl, aldA_t he (by omega) (by omega) (hf i hi), gb_two, A_t hl (by decide) rfl, astA_t hv hc he (by omega) (by omega)]
  refine ⟨_, rfl, ⟨h1, ⟨mc, ?_⟩, Or.inr ⟨h2, cap, va_up f i (some v), g_u_self _ _ _, hm, hc', hn, fun j hj => ?_⟩⟩, Ow.put h2 _, fun q hq => g_u_ne _ _ hq⟩
  · exact (g_u_ne _ _ hle).trans hl
  · unfold va_up up; split
    · rfl
    · exact hf j hj
theorem cisA_of {cs : List Nat} {c : Nat × Nat} {r : Option Nat} {a : Nat} (hr : r = some a) {fl : Bool} {ci : Nat} {fs : List Value} (h : σ a = some (fl, .inr (ci, fs))) (hc : ci ∈ cs) : cisA cs (σ, c) r = true := by
  subst hr; unfold cisA; simp only [h, hc, decide_true]
/-- Arrays.copyOf of the first m -/
theorem c_copyOf {b : Bool} {cap m n : Nat} {f : Nat → Option Nat} (he : σ e = some (oaC b cap f)) (hz : e < z) (h1 : cap ≤ 300) (h2 : m ≤ 700) (hm : (if m < cap then m else cap) ≤ n) (hf : ∀ i, i < n → f i = some (g i)) (E : El σ g n) (hgz : ∀ i, i < n → g i < z) : fJ5_copyOf ex z e (nI m) (σ, 0, 0) = some (z, (g_u σ z (oaC true m (va_cpy f (fun _ => none) 0 0 (if m < cap then m else cap))), 1, m)) := by
  unfold fJ5_copyOf fJ5_copyOf_2 fJ5_copyOf_2_24
  simp only [Nat.add_zero, if_true]
  rw [kind_t he, newa_t (by omega)]
  simp only [Nat.add_zero]
  have he' : (g_u σ z (true, Sum.inl (4, cz0 4 m))) e = some (oaC b cap f) := (g_u_ne _ _ (by omega)).trans he
  rw [len_t he' (by decide), c_min (by omega) (by omega)]
  simp only [gb_app, Nat.add_zero]
  have hs : (g_u σ z (true, Sum.inl (4, cz0 4 m))) z = some (oaC true m (fun _ => none)) := g_u_self _ _ _
  rw [ilit 0, cpQ_t he' hs (by rw [Nat.zero_add]; split <;> omega) (by rw [Nat.zero_add]; split <;> omega) (by omega) (by omega) (fun i hi => by
    have hi' : i < n := by omega
    obtain ⟨fl, ci, fs, q1, q2⟩ := E i hi'
    have := hgz i hi'
    exact cisA_of (hf _ (by omega)) (by rw [Nat.zero_add]; exact (g_u_ne _ _ (by omega)).trans q1) q2), g_u_twice]
  simp only [gb_app, Nat.zero_add]
  rfl
theorem va_cpy_in {α : Type} (f g : Nat → α) {n i : Nat} (h : i < n) : va_cpy f g 0 0 n i = f i := by
  unfold va_cpy; rw [if_pos (by omega)]; congr 1; omega
/-- the room grows -/
theorem al_grow (H : AL σ T k ex l e n g) (F : Fre T z) (hk : k ≠ 0) (hn : n ≤ 160) (E : El σ g n) (hgz : ∀ i, i < n → g i < z) (hcap : ∀ b cap f, σ e = some (oaC b cap f) → cap = n) : ∃ σ' ds, fJ2_grow ex z l (σ, 0, 0) = some (z, (σ', 1, ds)) ∧ ds ≤ 300 ∧ (n = 0 → ds = 10) ∧ (∃ cap f, σ' z = some (oaC true cap f) ∧ 10 ≤ cap ∧ cap ≤ 300 ∧ n + 1 ≤ cap ∧ ∀ i, i < n → f i = some (g i)) ∧ (∃ mc, σ' l = some (liC mc z n)) ∧ ∀ q, q ≠ l → q ≠ z → σ' q = σ q := by
  have hlz : l < z := F.lt H.1 hk
  have hle := al_le H
  obtain ⟨h1, ⟨mc, hl⟩, ⟨he0, rfl, hT, b, f, he⟩ | ⟨h2, cap, f, he, hm, hc, hnc, hf⟩⟩ := H
  · unfold fJ2_grow fJ2_grow_2
    simp only [Nat.add_zero]
    rw [I_t hl (by decide) rfl, X_t hl (by decide), A_t hl (by decide) rfl, len_t he (by decide), if_neg (by decide), A_t hl (by decide) rfl, if_pos he0, nI_1, ilit 10, c_max (by decide) (by decide), if_neg (by decide)]
    simp only [gb_app, Nat.add_zero]
    rw [newa_t (by decide)]
    simp only [Nat.add_zero]
    have hl' : (g_u σ z (true, Sum.inl (4, cz0 4 10))) l = some (liC mc e 0) := (g_u_ne _ _ (by omega)).trans hl
    rw [P_t hl' (by decide) (by show 1 < 3; decide)]
    simp only [gb_app, Nat.zero_add]
    refine ⟨_, _, rfl, by omega, fun _ => rfl, ⟨10, fun _ => none, ?_, by omega, by omega, by omega, fun i hi => by omega⟩, ⟨mc, g_u_self _ _ _⟩, fun q h1 h2 => ?_⟩
    · rw [g_u_ne _ _ (by omega)]; exact g_u_self _ _ _
    · rw [g_u_ne _ _ h1, g_u_ne _ _ h2]
  · obtain rfl : cap = n := hcap _ _ _ he
    have hez : e < z := F.lt h2 hk
    unfold fJ2_grow fJ2_grow_2
    simp only [Nat.add_zero]
    rw [I_t hl (by decide) rfl, X_t hl (by decide), A_t hl (by decide) rfl, len_t he (by decide), if_pos (by rw [ilit 0]; exact (nI_ltI (by omega) (by omega)).mpr (by omega))]
    unfold fJ2_grow_2_20 fJ3_newLength
    simp only [Nat.add_zero]
    rw [nI_1, nI_sub (by omega), show cap + 1 - cap = 1 by omega, nI_half (by omega), c_max (by omega) (by omega)]
    simp only [gb_app, Nat.add_zero, lt]
    rw [if_pos (show 1 < cap / 2 by omega), nI_add, if_neg (by rw [ilit 0]; exact fun x => by have := (nI_leI (by omega) (by omega)).mp x; omega), ifltr 2147483639 (by omega) (by omega), if_neg (show ¬ 2147483639 < cap + cap / 2 by omega)]
    simp only [gb_app, Nat.add_zero]
    rw [A_t hl (by decide) rfl, c_copyOf he hez (by omega) (by omega) (n := cap) (by split <;> omega) hf E hgz]
    simp only [gb_app, Nat.add_zero, Nat.zero_add]
    have hl' : (g_u σ z (oaC true (cap + cap / 2) (va_cpy f (fun x => none) 0 0 (if cap + cap / 2 < cap then cap + cap / 2 else cap)))) l = some (liC mc e cap) := (g_u_ne _ _ (by omega)).trans hl
    rw [P_t hl' (by decide) (by show 1 < 3; decide)]
    simp only [gb_app, Nat.add_zero, Nat.zero_add]
    refine ⟨_, _, rfl, by omega, fun h => by omega, ⟨_, _, (g_u_ne _ _ (by omega)).trans (g_u_self _ _ _), by omega, by omega, by omega, fun i hi => ?_⟩, ⟨mc, g_u_self _ _ _⟩, fun q h1 h2 => ?_⟩
    · rw [if_neg (by omega), va_cpy_in _ _ hi]; exact hf i hi
    · rw [g_u_ne _ _ h1, g_u_ne _ _ h2]
theorem up_lt (g : Nat → Nat) {n i : Nat} (v : Nat) (h : i < n) : up g n v i = g i := up_ne _ _ (by omega)
theorem fJ2_11 {σ : Sg} {mc : Int32} {l e n v cap : Nat} {f : Nat → Option Nat} (hl : σ l = some (liC mc e n)) (he : σ e = some (oaC true cap f)) (hn : n < cap) (hc : cap ≤ 300) {fl : Bool} {ci : Nat} {fs : List Value} (hv : σ v = some (fl, .inr (ci, fs))) (hci : ci ∈ csL) {c : Nat × Nat} : fJ2_add_2_11 ex z l v e (nI n) (σ, c) = some ((), (g_u (g_u σ e (oaC true cap (va_up f n (some v)))) l (liC mc e (n + 1)), c)) := by
  have hle : l ≠ e := by intro x; rw [x, he] at hl; simp [oaC, liC] at hl
  unfold fJ2_add_2_11
  rw [astA_t hv hci he hn (by omega)]
  have hl' : (g_u σ e (true, Sum.inl (4, cap, Sum.inr (Sum.inr (Sum.inr (Sum.inr (va_up f n (some v)))))))) l = some (liC mc e n) := (g_u_ne _ _ hle).trans hl
  rw [P_t hl' (by decide) (by show 2 < 3; decide), nI_1]
  rfl
/-- one is added at the end -/
theorem al_add (H : AL σ T k ex l e n g) (F : Fre T z) (hk : k ≠ 0) (hk9 : k ≠ 99) (hn : n ≤ 160) (E : El σ g n) (hgz : ∀ i, i < n → g i < z) {v : Nat} {fl : Bool} {ci : Nat} {fs : List Value} (hv : σ v = some (fl, .inr (ci, fs))) (hci : ci ∈ csL) (hvz : v < z) (hvl : v ≠ l) : ∃ σ' e' dc ds, fJ2_add ex z l v (σ, 0, 0) = some (1, (σ', dc, ds)) ∧ AL σ' (ext T z (z + dc) k) k ex l e' (n + 1) (up g n v) ∧ Ow T k σ z σ' (z + dc) ∧ dc ≤ 1 ∧ ds ≤ 300 ∧ (n = 0 → ds ≤ 10) ∧ (1 ≤ n → n < 10 → dc = 0 ∧ ds = 0) ∧ (e' = e ∨ e' = z) ∧ ∀ q, q ≠ l → q ≠ e' → σ' q = σ q := by
  have hlz : l < z := F.lt H.1 hk
  have hle := al_le H
  have hTl := H.1
  obtain ⟨mc, hl⟩ := H.2.1
  unfold fJ2_add
  rw [I_t hl (by decide) rfl, P_t hl (by decide) (by show 0 < 3; decide)]
  -- the list with its count moved
  have Hl1 : (g_u σ l (liC (mc + 1) e n)) l = some (liC (mc + 1) e n) := g_u_self _ _ _
  have H1 : AL (g_u σ l (liC (mc + 1) e n)) T k ex l e n g := by
    refine ⟨hTl, ⟨mc + 1, Hl1⟩, ?_⟩
    rw [g_u_ne _ _ hle.symm]
    exact H.2.2
  have hE1 : El (g_u σ l (liC (mc + 1) e n)) g n := by
    intro j hj
    obtain ⟨a, b, c, q1, q2⟩ := E j hj
    by_cases hq : g j = l
    · rw [hq] at q1
      rw [hl] at q1
      simp only [liC, Option.some.injEq, Prod.mk.injEq, Sum.inr.injEq] at q1
      rw [← q1.2.1] at q2
      exact absurd q2 (by decide)
    · exact ⟨a, b, c, (g_u_ne _ _ hq).trans q1, q2⟩
  have hv1 : (g_u σ l (liC (mc + 1) e n)) v = some (fl, .inr (ci, fs)) := (g_u_ne _ _ hvl).trans hv
  have e1 : (true, Sum.inr (15, [Value.int mc, Value.ref e, Value.int (nI n)].set 0 (.int (mc + 1)))) = liC (mc + 1) e n := rfl
  rw [e1, A_t Hl1 (by decide) rfl, I_t Hl1 (by decide) rfl, X_t Hl1 (by decide)]
  unfold fJ2_add_2
  simp only [Nat.add_zero]
  have eo : ∀ q, q ≠ l → (g_u σ l (liC (mc + 1) e n)) q = σ q := fun q hq => g_u_ne _ _ hq
  generalize g_u σ l (liC (mc + 1) e n) = σ1 at Hl1 H1 hE1 hv1 eo ⊢
  have hcase : ∃ b cap f, σ1 e = some (oaC b cap f) ∧ cap ≤ 300 := by
    rcases H1.2.2 with ⟨-, -, -, b, f, h⟩ | ⟨-, cap, f, h, -, h2, -⟩
    · exact ⟨b, 0, f, h, by omega⟩
    · exact ⟨true, cap, f, h, h2⟩
  obtain ⟨b, cap, f, he, hc300⟩ := hcase
  rw [len_t he (by decide), ife cap rfl (by omega) (by omega)]
  by_cases hfull : n = cap
  · rw [if_pos hfull, X_t Hl1 (by decide)]
    obtain ⟨σ2, ds, q1, q2, q3, ⟨cap2, f2, q4, q5, q6, q7, q8⟩, ⟨mc2, q9⟩, q10⟩ := al_grow H1 F hk hn hE1 hgz (fun b' cap' f' h => by rw [he] at h; simp [oaC] at h; omega)
    have hv2 : σ2 v = some (fl, .inr (ci, fs)) := (q10 v hvl (by omega)).trans hv1
    rw [q1]
    simp only [gb_app, Nat.zero_add]
    rw [fJ2_11 q9 q4 (by omega) (by omega) hv2 hci]
    simp only [gb_app, Nat.zero_add]
    refine ⟨_, z, 1, ds, rfl, ⟨by rw [ext_old hlz]; exact hTl, ⟨mc2, g_u_self _ _ _⟩, Or.inr ⟨ext_in (Nat.le_refl _) (by omega), cap2, va_up f2 n (some v), (g_u_ne _ _ (by omega)).trans (g_u_self _ _ _), q5, q6, q7, fun i hi => ?_⟩⟩, ⟨by omega, fun q hq hz => ?_⟩, Nat.le_refl _, q2, fun h => by rw [q3 h]; exact Nat.le_refl _, fun h1 h2 => ?_, Or.inr rfl, fun q x1 x2 => ?_⟩
    · unfold va_up up
      split
      · rfl
      · exact q8 i (by omega)
    · have hql : q ≠ l := fun x => hq (x ▸ hTl)
      rw [g_u_ne _ _ hql, g_u_ne _ _ (by omega), q10 q hql (by omega), eo q hql]
    · rcases H1.2.2 with ⟨-, h, -⟩ | ⟨-, cap', f', h, h3, h4, h5, -⟩
      · omega
      · rw [he] at h; simp [oaC] at h; omega
    · rw [g_u_ne _ _ x1, g_u_ne _ _ x2, q10 q x1 x2, eo q x1]
  · rw [if_neg hfull]
    rcases H1.2.2 with ⟨-, h0, -, b', f', h⟩ | ⟨hT, cap', f', h, h3, h4, h5, h6⟩
    · rw [he] at h; simp [oaC] at h; omega
    · have hcc : cap = cap' ∧ f = f' ∧ b = true := by rw [he] at h; simp [oaC] at h; exact ⟨h.2.1, h.2.2, h.1⟩
      obtain ⟨rfl, rfl, rfl⟩ := hcc
      rw [fJ2_11 Hl1 he (by omega) (by omega) hv1 hci]
      simp only [gb_app, Nat.zero_add]
      refine ⟨_, e, 0, 0, rfl, ⟨by rw [Nat.add_zero, ext_none]; exact hTl, ⟨mc + 1, g_u_self _ _ _⟩, Or.inr ⟨by rw [Nat.add_zero, ext_none]; exact hT, cap, va_up f n (some v), (g_u_ne _ _ hle.symm).trans (g_u_self _ _ _), h3, h4, by omega, fun i hi => ?_⟩⟩, ⟨by omega, fun q hq hz => ?_⟩, by omega, by omega, fun h => by omega, fun h1 h2 => ⟨rfl, rfl⟩, Or.inl rfl, fun q x1 x2 => ?_⟩
      · unfold va_up up
        split
        · rfl
        · exact h6 i (by omega)
      · have hql : q ≠ l := fun x => hq (x ▸ hTl)
        rw [g_u_ne _ _ hql, g_u_ne _ _ (fun x : q = e => hq (x ▸ hT)), eo q hql]
      · rw [g_u_ne _ _ x1, g_u_ne _ _ x2, eo q x1]
end L1
