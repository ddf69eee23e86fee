/-! a race takes another's state: whole -/
set_option maxRecDepth 100000
theorem Ow.tr0 {T : Nat → Nat} {k : Nat} {σ σ1 σ2 : Sg} {z z2 : Nat} (h : Ow T k σ z σ1 z) (g : Ow T k σ1 z σ2 z2) : Ow T k σ z σ2 z2 := h.tr (by rw [ext_none]; exact g)
theorem RT.ow0 {σ σ' : Sg} {T : Nat → Nat} {k j : Nat} {ex : Nat → Option Nat} {A : Ad} {R : Rc} {al : Int32} {z : Nat} (H : RT σ T k ex A R al) (F : Fre T z) (h : Ow T j σ z σ' z) (hk : k ≠ 0) (hj9 : j ≠ 99) (hkj : k ≠ j) : RT σ' T k ex A R al := by
  have := H.ow F h hk hj9 hkj
  rw [ext_none] at this
  exact this
section TK3
variable {ex : Nat → Option Nat} {z : Nat} {A B : Ad} {R Q : Rc} {al be : Int32} {k j : Nat} {σ : Sg} {T : Nat → Nat}
theorem rt_takes (H : RT σ T k ex A R al) (BR : R.Ba) (HS : RT σ T j ex B Q be) (BQ : Q.Ba) (F : Fre T z) (hk : k ≠ 0) (hk9 : k ≠ 99) (hj : j ≠ 0) (hkj : j ≠ k) : ∃ σ' A' dc ds, fX1_takes ex z A.r B.r (σ, 0, 0) = some ((), (σ', dc, ds)) ∧ RT σ' (ext T z (z + dc) k) k ex A' Q be ∧ A'.r = A.r ∧ Ow T k σ z σ' (z + dc) ∧ dc ≤ 10 ∧ ds ≤ 64 := by
  have hnR := BR.n
  have hnQ := BQ.n
  have h1 := H.1
  obtain ⟨tr, td, ts, tl, tc⟩ := H.2
  obtain ⟨fd, hd, hd'⟩ := h1.dl
  obtain ⟨fs, hs, hs'⟩ := h1.sk
  obtain ⟨mc, hl⟩ := tl.2.1
  obtain ⟨b0, cap0, f0, he, -⟩ := al_arr tl
  obtain ⟨gd, kd, kd'⟩ := HS.1.dl
  obtain ⟨gs, ks, ks'⟩ := HS.1.sk
  have nB : ∀ {q p : Nat}, T q = j → T p = k → q ≠ p := fun hq hp x => hkj (hq.symm.trans (x ▸ hp))
  unfold fX1_takes
  rw [I_t HS.1.ra (by decide) rfl, P_t h1.ra (by decide) (by show 0 < 9; decide)]
  -- the windows
  have O1 : ∀ x, Ow T k σ z (g_u σ A.r x) z := fun x => Ow.put tr x
  have S1 : ∀ x, RT (g_u σ A.r x) T j ex B Q be := fun x => HS.ow0 F (O1 x) hj hk9 hkj
  rw [A_t (S1 _).1.ra (by decide) rfl, A_t (g_u_self _ _ _) (by decide) rfl]
  have e1 : ∀ x, (g_u σ A.r x) A.d = some (true, .inl (0, 24, .inl fd)) := fun x => (g_u_ne _ _ h1.r_d.symm).trans hd
  have e2 : ∀ x, (g_u σ A.r x) B.d = some (true, .inl (0, 24, .inl gd)) := fun x => (g_u_ne _ _ (nB HS.2.2.1 tr)).trans kd
  rw [ilit 0, ilit 24, cpI_t (e2 _) (e1 _) (by decide) (by decide) (by decide) (by decide) (fun i hi => by rw [Nat.zero_add, kd' i (by omega)]; exact fits_b (by have := BQ.d i (by omega); omega))]
  generalize hx1 : ((true, Sum.inr (1, [Value.int (nI R.W), Value.ref A.d, Value.ref A.l, Value.int (nI R.now), Value.ref A.s, Value.int (nI R.mn), Value.int al, Value.int (nI R.he), Value.int (nI R.so)].set 0 (Value.int (nI Q.W)))) : Bool × va_E) = x1
  have O2 : Ow T k σ z (g_u (g_u σ A.r x1) A.d (true, .inl (0, 24, .inl (va_cpy gd fd 0 0 24)))) z := (O1 x1).tr0 (Ow.put td _)
  have S2 := HS.ow0 F O2 hj hk9 hkj
  have r2 : (g_u (g_u σ A.r x1) A.d (true, .inl (0, 24, .inl (va_cpy gd fd 0 0 24)))) A.r = some x1 := (g_u_ne _ _ h1.r_d).trans (g_u_self _ _ _)
  have d2 : (g_u (g_u σ A.r x1) A.d (true, .inl (0, 24, .inl (va_cpy gd fd 0 0 24)))) A.d = some (true, .inl (0, 24, .inl (va_cpy gd fd 0 0 24))) := g_u_self _ _ _
  have o2 : ∀ q, q ≠ A.r → q ≠ A.d → (g_u (g_u σ A.r x1) A.d (true, .inl (0, 24, .inl (va_cpy gd fd 0 0 24)))) q = σ q := fun q a b => (g_u_ne _ _ b).trans (g_u_ne _ _ a)
  generalize (g_u (g_u σ A.r x1) A.d (true, Sum.inl (0, 24, Sum.inl (va_cpy gd fd 0 0 24)))) = σ2 at O2 S2 r2 d2 o2 ⊢
  have s2 : σ2 A.s = some (true, .inl (0, 12, .inl fs)) := (o2 _ h1.r_s.symm h1.d_s.symm).trans hs
  have k2 : σ2 B.s = some (true, .inl (0, 12, .inl gs)) := (o2 _ (nB HS.2.2.2.1 tr) (nB HS.2.2.2.1 td)).trans ks
  subst hx1
  rw [A_t S2.1.ra (by decide) rfl, A_t r2 (by decide) rfl, ilit 12, cpI_t k2 s2 (by decide) (by decide) (by decide) (by decide) (fun i hi => by rw [Nat.zero_add, ks' i (by omega)]; exact fits_b (by have := BQ.sk i (by omega); omega))]
  have O3 : Ow T k σ z (g_u σ2 A.s (true, .inl (0, 12, .inl (va_cpy gs fs 0 0 12)))) z := O2.tr0 (Ow.put ts _)
  have S3 := HS.ow0 F O3 hj hk9 hkj
  have r3 := (g_u_ne σ2 (true, .inl (0, 12, .inl (va_cpy gs fs 0 0 12))) h1.r_s).trans r2
  have d3 := (g_u_ne σ2 (true, .inl (0, 12, .inl (va_cpy gs fs 0 0 12))) h1.d_s).trans d2
  have s3 : (g_u σ2 A.s (true, .inl (0, 12, .inl (va_cpy gs fs 0 0 12)))) A.s = some (true, .inl (0, 12, .inl (va_cpy gs fs 0 0 12))) := g_u_self _ _ _
  have o3 : ∀ q, q ≠ A.r → q ≠ A.d → q ≠ A.s → (g_u σ2 A.s (true, .inl (0, 12, .inl (va_cpy gs fs 0 0 12)))) q = σ q := fun q a b c => (g_u_ne _ _ c).trans (o2 q a b)
  generalize (g_u σ2 A.s (true, Sum.inl (0, 12, Sum.inl (va_cpy gs fs 0 0 12)))) = σ3 at O3 S3 r3 d3 s3 o3 ⊢
  -- the race's own numbers
  have S4 : ∀ x, RT (g_u σ3 A.r x) T j ex B Q be := fun x => HS.ow0 F (O3.tr0 (Ow.put tr x)) hj hk9 hkj
  rw [I_t S3.1.ra (by decide) rfl, P_t r3 (by decide) (by show 5 < 9; decide),
    I_t (S4 _).1.ra (by decide) rfl, P_t (g_u_self _ _ _) (by decide) (by show 3 < 9; decide), g_u_twice,
    I_t (S4 _).1.ra (by decide) rfl, P_t (g_u_self _ _ _) (by decide) (by show 6 < 9; decide), g_u_twice,
    I_t (S4 _).1.ra (by decide) rfl, P_t (g_u_self _ _ _) (by decide) (by show 7 < 9; decide), g_u_twice,
    I_t (S4 _).1.ra (by decide) rfl, P_t (g_u_self _ _ _) (by decide) (by show 8 < 9; decide), g_u_twice]
  have O4 : Ow T k σ z (g_u σ3 A.r (raC Q A be)) z := O3.tr0 (Ow.put tr _)
  have S5 := S4 (raC Q A be)
  have r4 : (g_u σ3 A.r (raC Q A be)) A.r = some (raC Q A be) := g_u_self _ _ _
  have d4 := (g_u_ne σ3 (raC Q A be) h1.r_d.symm).trans d3
  have s4 := (g_u_ne σ3 (raC Q A be) h1.r_s.symm).trans s3
  have o4 : ∀ q, q ≠ A.r → q ≠ A.d → q ≠ A.s → (g_u σ3 A.r (raC Q A be)) q = σ q := fun q a b c => (g_u_ne _ _ a).trans (o3 q a b c)
  have ex4 : (true, Sum.inr (1, ((((((([Value.int (nI R.W), Value.ref A.d, Value.ref A.l, Value.int (nI R.now), Value.ref A.s, Value.int (nI R.mn), Value.int al, Value.int (nI R.he), Value.int (nI R.so)].set 0 (Value.int (nI Q.W))).set 5 (Value.int (nI Q.mn))).set 3 (Value.int (nI Q.now))).set 6 (Value.int be)).set 7 (Value.int (nI Q.he))).set 8 (Value.int (nI Q.so)))))) = raC Q A be := rfl
  rw [ex4]
  generalize g_u σ3 A.r (raC Q A be) = σ4 at O4 S5 r4 d4 s4 o4 ⊢
  have F3 : Fr3 σ4 A Q be := ⟨r4, ⟨_, d4, fun w hw => by rw [va_cpy_in _ _ hw]; exact kd' w hw⟩, ⟨_, s4, fun w hw => by rw [va_cpy_in _ _ hw]; exact ks' w hw⟩⟩
  have C4 : CL σ4 T k ex A.l A.e R.n A.ca := by
    have C := H.cl BR
    refine ⟨C.1.keep (o4 _ h1.r_l.symm h1.d_l.symm h1.s_l.symm) (o4 _ h1.r_e.symm h1.d_e.symm h1.s_e.symm), C.2.1, fun i hi => (C.2.2 i hi).keep (o4 _ (h1.ca_r hi) (h1.ca_d hi) (h1.ca_s hi))⟩
  -- the clocks
  obtain ⟨σ5, m5, q1, q2, q3, q4, q5, q6⟩ := tk_78 (z := z) BQ hk hk9 hj hkj F (0, 0) R.n 1000 σ4 hnR (by omega) C4 F3 S5
  obtain ⟨σ6, e6, g6, dc, ds, p1, p2, p3, p4, p5⟩ := tk_117 (z := z) BQ hk hk9 hj hkj Q.n 0 1000 σ5 T 0 0 A.e m5 A.ca (by omega) (by omega) ⟨F, q2, fun i hi => by omega, by omega, q3, q4, ⟨tr, td, ts⟩, q5⟩
  simp only [Nat.add_zero, Nat.zero_add] at p1 p2 p3
  obtain ⟨G1, G2, G3, -, -, G4, ⟨G5, G6, G7⟩, -⟩ := p2
  refine ⟨σ6, Ad.mk A.r A.d A.s A.l e6 g6, dc, ds, ?_, ⟨⟨?_, ?_, ?_, ?_, ?_, ?_⟩, G5, G6, G7, G2.1, G2.2.1⟩, rfl, O4.tr0 (q6.tr0 p3), ?_, ?_⟩
  · rw [q1]; exact p1
  · exact G4.1
  · exact G4.2.1
  · exact G4.2.2
  · obtain ⟨mc, h⟩ := G2.1.2.1; exact ⟨mc, h⟩
  · rcases G2.1.2.2 with ⟨-, h2, -, b, f, h3⟩ | ⟨-, cap, f, h3, h4, h5, h6, h7⟩
    · exact ⟨b, 0, f, h3, by omega, by omega, Or.inr rfl, fun c hc => by omega⟩
    · exact ⟨true, cap, f, h3, h6, h5, Or.inl rfl, h7⟩
  · exact G3
  · split at p4 <;> omega
  · split at p5 <;> omega
end TK3
