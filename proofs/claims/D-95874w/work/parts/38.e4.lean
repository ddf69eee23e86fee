/-! the component, its methods: X0_leads, X0_turns, X0_breath, X0_spans, X0_behind (printed by gen/cmain.py) -/
set_option maxRecDepth 100000
theorem q818 : (Jvm.Cond.code ({ cls := "LameClocks", name := "behind", desc := "(III)I" } : Jvm.MethodName) prog_1_method_27_code (4 : Nat) (Option.some Jvm.ClassFile.FieldType.int)) ∈ lw_all := lw_g (lw_at lw_m4 29 rfl) rfl
theorem q823 : (Jvm.Cond.methodLink "LameClocks" (226 : Nat) ({ cls := "LameClocks", name := "runs", desc := "(I)V" } : Jvm.MethodName)) ∈ lw_all := lw_g (lw_at lw_m4 34 rfl) rfl
theorem q825 : (Jvm.Cond.instanceMethod ({ cls := "LameClocks", name := "runs", desc := "(I)V" } : Jvm.MethodName)) ∈ lw_all := lw_g (lw_at lw_m4 36 rfl) rfl
theorem q868 : (Jvm.Cond.code ({ cls := "LameClocks", name := "leads", desc := "(I)I" } : Jvm.MethodName) prog_1_method_28_code (4 : Nat) (Option.some Jvm.ClassFile.FieldType.int)) ∈ lw_all := lw_g (lw_at lw_m4 79 rfl) rfl
theorem q881 : (Jvm.Cond.code ({ cls := "LameClocks", name := "turns", desc := "(III)I" } : Jvm.MethodName) prog_1_method_33_code (5 : Nat) (Option.some Jvm.ClassFile.FieldType.int)) ∈ lw_all := lw_g (lw_at lw_m4 92 rfl) rfl
theorem q910 : (Jvm.Cond.code ({ cls := "LameClocks", name := "breath", desc := "(II)I" } : Jvm.MethodName) prog_1_method_38_code (6 : Nat) (Option.some Jvm.ClassFile.FieldType.int)) ∈ lw_all := lw_g (lw_at lw_m4 121 rfl) rfl
theorem q922 : (Jvm.Cond.code ({ cls := "LameClocks", name := "spans", desc := "(II)I" } : Jvm.MethodName) prog_1_method_42_code (6 : Nat) (Option.some Jvm.ClassFile.FieldType.int)) ∈ lw_all := lw_g (lw_at lw_m4 133 rfl) rfl
theorem q923 : (Jvm.Cond.methodLink "LameClocks" (256 : Nat) ({ cls := "LameClocks", name := "spanBy", desc := "(II)I" } : Jvm.MethodName)) ∈ lw_all := lw_g (lw_at lw_m4 134 rfl) rfl
theorem q925 : (Jvm.Cond.instanceMethod ({ cls := "LameClocks", name := "spanBy", desc := "(II)I" } : Jvm.MethodName)) ∈ lw_all := lw_g (lw_at lw_m4 136 rfl) rfl
theorem q927 : (Jvm.Cond.methodLink "LameClocks" (260 : Nat) ({ cls := "java/lang/Math", name := "min", desc := "(II)I" } : Jvm.MethodName)) ∈ lw_all := lw_g (lw_at lw_m4 138 rfl) rfl
theorem q928 : (Jvm.Cond.methodLink "LameClocks" (265 : Nat) ({ cls := "java/lang/Math", name := "max", desc := "(II)I" } : Jvm.MethodName)) ∈ lw_all := lw_g (lw_at lw_m4 139 rfl) rfl
abbrev cX0_leads : ByteArray := prog_1_method_28_code
def yX0_leads : MethodName := ⟨RX0, "leads", "(I)I"⟩
def dkwX0_leads_2 : List UInt8 := [160, 0, 9, 4, 29, 120, 167, 0, 4, 3, 128, 61, 132, 3, 1, 167, 255, 213, 28, 172]
abbrev dktX0_leads_2 : List UInt8 := dkwX0_leads_2 ++ []
def dkwX0_leads_1 : List UInt8 := [182, 0, 42, 162, 0, 38, 28, 42, 180, 0, 213, 42, 180, 0, 213, 29, 182, 0, 111, 182, 0, 165, 4]
abbrev dktX0_leads_1 : List UInt8 := dkwX0_leads_1 ++ dktX0_leads_2
def dkwX0_leads_0 : List UInt8 := [27, 184, 0, 223, 154, 0, 5, 2, 172, 42, 27, 182, 0, 226, 3, 61, 3, 62, 29, 42, 180, 0, 213]
abbrev dktX0_leads_0 : List UInt8 := dkwX0_leads_0 ++ dktX0_leads_1
theorem dksX0_leads_0 : cX0_leads.data.toList.drop 0 = dktX0_leads_0 := by decide +kernel
theorem dksX0_leads_1 : cX0_leads.data.toList.drop 23 = dktX0_leads_1 := dk_seg dksX0_leads_0 23 rfl rfl
theorem dksX0_leads_2 : cX0_leads.data.toList.drop 46 = dktX0_leads_2 := dk_seg dksX0_leads_1 23 rfl rfl
theorem dX0_leads_0 : decode cX0_leads 0 = .ok (.iload_n 1, 1) := dk_27 (dk_at dksX0_leads_0 0 rfl rfl)
theorem dX0_leads_1 : decode cX0_leads 1 = .ok (.invokestatic 223, 3) := dk_184 0 223 (dk_at dksX0_leads_0 1 rfl rfl)
theorem dX0_leads_4 : decode cX0_leads 4 = .ok (.ifCond .ne 5, 3) := dk_154 0 5 (dk_at dksX0_leads_0 4 rfl rfl)
theorem dX0_leads_7 : decode cX0_leads 7 = .ok (.iconst (-1), 1) := dk_2 (dk_at dksX0_leads_0 7 rfl rfl)
theorem dX0_leads_8 : decode cX0_leads 8 = .ok (.ireturn, 1) := dk_172 (dk_at dksX0_leads_0 8 rfl rfl)
theorem dX0_leads_9 : decode cX0_leads 9 = .ok (.aload_n 0, 1) := dk_42 (dk_at dksX0_leads_0 9 rfl rfl)
theorem dX0_leads_10 : decode cX0_leads 10 = .ok (.iload_n 1, 1) := dk_27 (dk_at dksX0_leads_0 10 rfl rfl)
theorem dX0_leads_11 : decode cX0_leads 11 = .ok (.invokevirtual 226, 3) := dk_182 0 226 (dk_at dksX0_leads_0 11 rfl rfl)
theorem dX0_leads_14 : decode cX0_leads 14 = .ok (.iconst 0, 1) := dk_3 (dk_at dksX0_leads_0 14 rfl rfl)
theorem dX0_leads_15 : decode cX0_leads 15 = .ok (.istore_n 2, 1) := dk_61 (dk_at dksX0_leads_0 15 rfl rfl)
theorem dX0_leads_16 : decode cX0_leads 16 = .ok (.iconst 0, 1) := dk_3 (dk_at dksX0_leads_0 16 rfl rfl)
theorem dX0_leads_17 : decode cX0_leads 17 = .ok (.istore_n 3, 1) := dk_62 (dk_at dksX0_leads_0 17 rfl rfl)
theorem dX0_leads_18 : decode cX0_leads 18 = .ok (.iload_n 3, 1) := dk_29 (dk_at dksX0_leads_0 18 rfl rfl)
theorem dX0_leads_19 : decode cX0_leads 19 = .ok (.aload_n 0, 1) := dk_42 (dk_at dksX0_leads_0 19 rfl rfl)
theorem dX0_leads_20 : decode cX0_leads 20 = .ok (.getfield 213, 3) := dk_180 0 213 (dk_at dksX0_leads_0 20 rfl rfl)
theorem dX0_leads_23 : decode cX0_leads 23 = .ok (.invokevirtual 42, 3) := dk_182 0 42 (dk_at dksX0_leads_1 0 rfl rfl)
theorem dX0_leads_26 : decode cX0_leads 26 = .ok (.if_icmp .ge 38, 3) := dk_162 0 38 (dk_at dksX0_leads_1 3 rfl rfl)
theorem dX0_leads_29 : decode cX0_leads 29 = .ok (.iload_n 2, 1) := dk_28 (dk_at dksX0_leads_1 6 rfl rfl)
theorem dX0_leads_30 : decode cX0_leads 30 = .ok (.aload_n 0, 1) := dk_42 (dk_at dksX0_leads_1 7 rfl rfl)
theorem dX0_leads_31 : decode cX0_leads 31 = .ok (.getfield 213, 3) := dk_180 0 213 (dk_at dksX0_leads_1 8 rfl rfl)
theorem dX0_leads_34 : decode cX0_leads 34 = .ok (.aload_n 0, 1) := dk_42 (dk_at dksX0_leads_1 11 rfl rfl)
theorem dX0_leads_35 : decode cX0_leads 35 = .ok (.getfield 213, 3) := dk_180 0 213 (dk_at dksX0_leads_1 12 rfl rfl)
theorem dX0_leads_38 : decode cX0_leads 38 = .ok (.iload_n 3, 1) := dk_29 (dk_at dksX0_leads_1 15 rfl rfl)
theorem dX0_leads_39 : decode cX0_leads 39 = .ok (.invokevirtual 111, 3) := dk_182 0 111 (dk_at dksX0_leads_1 16 rfl rfl)
theorem dX0_leads_42 : decode cX0_leads 42 = .ok (.invokevirtual 165, 3) := dk_182 0 165 (dk_at dksX0_leads_1 19 rfl rfl)
theorem dX0_leads_45 : decode cX0_leads 45 = .ok (.iconst 1, 1) := dk_4 (dk_at dksX0_leads_1 22 rfl rfl)
theorem dX0_leads_46 : decode cX0_leads 46 = .ok (.if_icmp .ne 9, 3) := dk_160 0 9 (dk_at dksX0_leads_2 0 rfl rfl)
theorem dX0_leads_49 : decode cX0_leads 49 = .ok (.iconst 1, 1) := dk_4 (dk_at dksX0_leads_2 3 rfl rfl)
theorem dX0_leads_50 : decode cX0_leads 50 = .ok (.iload_n 3, 1) := dk_29 (dk_at dksX0_leads_2 4 rfl rfl)
theorem dX0_leads_51 : decode cX0_leads 51 = .ok (.ishl, 1) := dk_120 (dk_at dksX0_leads_2 5 rfl rfl)
theorem dX0_leads_52 : decode cX0_leads 52 = .ok (.goto 4, 3) := dk_167 0 4 (dk_at dksX0_leads_2 6 rfl rfl)
theorem dX0_leads_55 : decode cX0_leads 55 = .ok (.iconst 0, 1) := dk_3 (dk_at dksX0_leads_2 9 rfl rfl)
theorem dX0_leads_56 : decode cX0_leads 56 = .ok (.ior, 1) := dk_128 (dk_at dksX0_leads_2 10 rfl rfl)
theorem dX0_leads_57 : decode cX0_leads 57 = .ok (.istore_n 2, 1) := dk_61 (dk_at dksX0_leads_2 11 rfl rfl)
theorem dX0_leads_58 : decode cX0_leads 58 = .ok (.iinc 3 1, 3) := dk_132 3 1 (dk_at dksX0_leads_2 12 rfl rfl)
theorem dX0_leads_61 : decode cX0_leads 61 = .ok (.goto (-43), 3) := dk_167 255 213 (dk_at dksX0_leads_2 15 rfl rfl)
theorem dX0_leads_64 : decode cX0_leads 64 = .ok (.iload_n 2, 1) := dk_28 (dk_at dksX0_leads_2 18 rfl rfl)
theorem dX0_leads_65 : decode cX0_leads 65 = .ok (.ireturn, 1) := dk_172 (dk_at dksX0_leads_2 19 rfl rfl)
theorem dmV_X0_runs : yX0_runs.cls = RX0 ∧ yX0_runs.cls ≠ "java/lang/invoke/MethodHandle" ∧ yX0_runs.cls ≠ "java/lang/invoke/VarHandle" ∧ (parseMethodDescriptor yX0_runs.desc).map (fun d => d.parameters.length) = some 1 := by decide +kernel
section CP
variable {Γ : Gc} {p : Program} {l : Launch} {e : Env} {s : State} {m : MethodId} {args : Array Value} {below : List Frame} {meth : Method} {c : Code} {ex : Nat → Option Nat} {z : Nat} {tF : St}
noncomputable def fX0_leads_56 (ex : Nat → Option Nat) (z : Nat) (kc18 : Nat → Int32 → Int32 → St → Option (Int32 × St)) (h0 : Nat) (x3 : Int32) (s0 : Int32) (s1 : Int32) (t : St) : Option (Int32 × St) := lt (s1 ||| s0) fun y1 => kc18 h0 y1 (x3 + 1) t
set_option maxHeartbeats 4000000 in
theorem wX0_leads_56 {rF : Int32} (hex : ex = Γ.2.2.2.2) (X : g_X Γ p s m args meth c cX0_leads 4 RX0) (hr : meth.sig.returnType = (some .int)) {kc18 : Nat → Int32 → Int32 → St → Option (Int32 × St)} (hk18 : ∀ (h0 : Nat) (x2 : Int32) (x3 : Int32) (t : St), Wf Γ p l e 21 446 s m args below meth c 4 (g_ι z) v_i rF tF 18 [(0, .ref h0), (2, .int x2), (3, .int x3)] [] t (kc18 h0 x2 x3 t)) (h0 : Nat) (x3 : Int32) (s0 : Int32) (s1 : Int32) (t : St) : Wf Γ p l e 21 446 s m args below meth c 4 (g_ι z) v_i rF tF 56 [(0, .ref h0), (3, .int x3)] [.int s0, .int s1] t (fX0_leads_56 ex z kc18 h0 x3 s0 s1 t) := by
  unfold fX0_leads_56
  refine g_ior (pc := 56) X dX0_leads_56 ?_
  refine g_lti (pc := 57) (fun y1 => ?_)
  refine g_istore_n (pc := 57) X (lv' := [(2, .int y1), (0, .ref h0), (3, .int x3)]) dX0_leads_57 rfl (by decide) rfl ?_
  refine g_iinc (pc := 58) X 1 2 (lv' := [(3, .int (x3 + 1)), (2, .int y1), (0, .ref h0)]) dX0_leads_58 rfl rfl (by decide) rfl ?_
  refine g_goto (pc := 61) X 18 dX0_leads_61 (by decide) ?_
  exact g_lv (pc := 18) (lv' := [(0, .ref h0), (2, .int y1), (3, .int (x3 + 1))]) [2, 1, 0] rfl (hk18 h0 y1 (x3 + 1) t)
noncomputable def fX0_leads_18 (ex : Nat → Option Nat) (z : Nat) : Nat → Nat → Int32 → Int32 → St → Option (Int32 × St)
  | 0, _, _, _, _ => none
  | n + 1, h0, x2, x3, t => cgA [0] 1 t h0 fun v1 => ccast [1] t v1 (gb (fX1_size ex (z + t.2.1) v1 (t.1, 0, 0)) t fun r2 t3 => if r2 ≤ x3 then some (x2, t3) else cgA [0] 1 t3 h0 fun v9 => cgA [0] 1 t3 h0 fun v10 => ccast [1] t3 v10 (gb (fX1_clock ex (z + t3.2.1) v10 x3 (t3.1, 0, 0)) t3 fun r11 t12 => ccast [1] t12 v9 (gb (fX1_place ex (z + t12.2.1) v9 r11 (t12.1, 0, 0)) t12 fun r18 t19 => if r18 = 1 then fX0_leads_56 ex z (fun a0 a1 a2 a3 => fX0_leads_18 ex z n a0 a1 a2 a3) h0 x3 (1 <<< (x3 &&& 31)) x2 t19 else fX0_leads_56 ex z (fun a0 a1 a2 a3 => fX0_leads_18 ex z n a0 a1 a2 a3) h0 x3 0 x2 t19)))
set_option maxHeartbeats 4000000 in
theorem wX0_leads_18 {rF : Int32} (hex : ex = Γ.2.2.2.2) (X : g_X Γ p s m args meth c cX0_leads 4 RX0) (hr : meth.sig.returnType = (some .int)) (n : Nat) : ∀ (h0 : Nat) (x2 : Int32) (x3 : Int32) (t : St), Wf Γ p l e 21 446 s m args below meth c 4 (g_ι z) v_i rF tF 18 [(0, .ref h0), (2, .int x2), (3, .int x3)] [] t (fX0_leads_18 ex z n h0 x2 x3 t) := by
  induction n with
  | zero => intro h0 x2 x3 t; exact g_none
  | succ n ih =>
    intro h0 x2 x3 t
    rw [fX0_leads_18]
    refine g_iload_n (pc := 18) X 2 dX0_leads_18 rfl rfl ?_
    refine g_aload_n (pc := 19) X 0 dX0_leads_19 rfl rfl ?_
    refine cg_getA (pc := 20) X fo_X0_213 dX0_leads_20 (fun v1 => ?_)
    refine g_bD_i (pc := 23) X (cs := [1]) (As := []) (rest := [.int x3]) (b := v1) (n := 0) dX0_leads_23 rfl rfl (Nat.le_of_ble_eq_true rfl) (fun fl4 ci5 fs6 hs7 hci8 r u h => ?_) (fun r2 t3 => ?_)
    · obtain rfl := List.mem_singleton.mp hci8
      exact ⟨_, _, _, yX1_size, _, _, _, 1, 20, rfl, kX1_size hex h, Or.inl (cwV 0 X.2.2.2.2.1 (lw_V q129 q130 q131 q71 q132) rfl rfl rfl dmV_X1_size ⟨Nat.le_of_ble_eq_true rfl, Nat.le_of_ble_eq_true rfl⟩)⟩
    refine g_icmp_ge (pc := 26) X 64 dX0_leads_26 (by decide) ?_ ?_
    · refine g_iload_n (pc := 64) X 1 dX0_leads_64 rfl rfl ?_
      exact g_iret (pc := 65) X hr dX0_leads_65
    · refine g_iload_n (pc := 29) X 1 dX0_leads_29 rfl rfl ?_
      refine g_aload_n (pc := 30) X 0 dX0_leads_30 rfl rfl ?_
      refine cg_getA (pc := 31) X fo_X0_213 dX0_leads_31 (fun v9 => ?_)
      refine g_aload_n (pc := 34) X 0 dX0_leads_34 rfl rfl ?_
      refine cg_getA (pc := 35) X fo_X0_213 dX0_leads_35 (fun v10 => ?_)
      refine g_iload_n (pc := 38) X 2 dX0_leads_38 rfl rfl ?_
      refine g_bD_a (pc := 39) X (cs := [1]) (As := [.int x3]) (rest := [.ref v9, .int x2]) (b := v10) (n := 1) dX0_leads_39 rfl rfl (Nat.le_of_ble_eq_true rfl) (fun fl13 ci14 fs15 hs16 hci17 r u h => ?_) (fun r11 t12 => ?_)
      · obtain rfl := List.mem_singleton.mp hci17
        exact ⟨_, _, _, yX1_clock, _, _, _, 3, 64, rfl, kX1_clock hex h, Or.inl (cwV 1 X.2.2.2.2.1 (lw_V q373 q374 q375 q71 q376) rfl rfl rfl dmV_X1_clock ⟨Nat.le_of_ble_eq_true rfl, Nat.le_of_ble_eq_true rfl⟩)⟩
      refine g_bD_i (pc := 42) X (cs := [1]) (As := [.ref r11]) (rest := [.int x2]) (b := v9) (n := 1) dX0_leads_42 rfl rfl (Nat.le_of_ble_eq_true rfl) (fun fl20 ci21 fs22 hs23 hci24 r u h => ?_) (fun r18 t19 => ?_)
      · obtain rfl := List.mem_singleton.mp hci24
        exact ⟨_, _, _, yX1_place, _, _, _, 3, 64, rfl, kX1_place hex h, Or.inl (cwV 1 X.2.2.2.2.1 (lw_V q526 q527 q528 q71 q529) rfl rfl rfl dmV_X1_place ⟨Nat.le_of_ble_eq_true rfl, Nat.le_of_ble_eq_true rfl⟩)⟩
      refine g_iconst (pc := 45) X 1 dX0_leads_45 rfl ?_
      refine g_icmp_ne (pc := 46) X 55 dX0_leads_46 (by decide) ?_ ?_
      · refine g_iconst (pc := 55) X 0 dX0_leads_55 rfl ?_
        exact g_lv (pc := 56) (lv' := [(0, .ref h0), (3, .int x3)]) [0, 2] rfl (wX0_leads_56 hex X hr (fun a0 a1 a2 a3 => ih a0 a1 a2 a3) h0 x3 0 x2 t19)
      · refine g_iconst (pc := 49) X 1 dX0_leads_49 rfl ?_
        refine g_iload_n (pc := 50) X 2 dX0_leads_50 rfl rfl ?_
        refine g_ishl (pc := 51) X dX0_leads_51 ?_
        refine g_goto (pc := 52) X 56 dX0_leads_52 (by decide) ?_
        exact g_lv (pc := 56) (lv' := [(0, .ref h0), (3, .int x3)]) [0, 2] rfl (wX0_leads_56 hex X hr (fun a0 a1 a2 a3 => ih a0 a1 a2 a3) h0 x3 (1 <<< (x3 &&& 31)) x2 t19)
noncomputable def fX0_leads (ex : Nat → Option Nat) (z : Nat) (h0 : Nat) (x1 : Int32) (t : St) : Option (Int32 × St) := gb (fX0_isFew ex (z + t.2.1) x1 (t.1, 0, 0)) t fun r1 t2 => if r1 = 0 then some ((-1), t2) else ccast [0] t2 h0 (gb (fX0_runs ex (z + t2.2.1) h0 x1 (t2.1, 0, 0)) t2 fun _ t4 => fX0_leads_18 ex z 1000 h0 0 0 t4)
set_option maxHeartbeats 4000000 in
theorem wX0_leads {rF : Int32} (hex : ex = Γ.2.2.2.2) (X : g_X Γ p s m args meth c cX0_leads 4 RX0) (hr : meth.sig.returnType = (some .int)) (h0 : Nat) (x1 : Int32) (t : St) : Wf Γ p l e 21 446 s m args below meth c 4 (g_ι z) v_i rF tF 0 [(0, .ref h0), (1, .int x1)] [] t (fX0_leads ex z h0 x1 t) := by
  unfold fX0_leads
  refine g_iload_n (pc := 0) X 1 dX0_leads_0 rfl rfl ?_
  refine g_bS_i (pc := 1) X (y := yX0_isFew) (As := [.int x1]) (rest := []) (fr' := 1) (lo' := 25) (fun _ => va_cwS 1 X.2.2.2.2.1 (lw_S q819 q820 q70 q821) rfl rfl rfl dmS_X0_isFew ⟨Nat.le_of_ble_eq_true rfl, Nat.le_of_ble_eq_true rfl⟩) dX0_leads_1 rfl rfl (Nat.le_of_ble_eq_true rfl) (fun r u h => kX0_isFew hex h) (fun r1 t2 => ?_)
  refine g_if_ne (pc := 4) X 9 dX0_leads_4 (by decide) ?_ ?_
  · refine g_aload_n (pc := 9) X 0 dX0_leads_9 rfl rfl ?_
    refine g_iload_n (pc := 10) X 1 dX0_leads_10 rfl rfl ?_
    refine g_bD_v (pc := 11) X (cs := [0]) (As := [.int x1]) (rest := []) (b := h0) (n := 1) dX0_leads_11 rfl rfl (Nat.le_of_ble_eq_true rfl) (fun fl5 ci6 fs7 hs8 hci9 r u h => ?_) (fun r3 t4 => ?_)
    · obtain rfl := List.mem_singleton.mp hci9
      exact ⟨_, _, _, yX0_runs, _, _, _, 20, 425, rfl, kX0_runs hex h, Or.inl (cwV 1 X.2.2.2.2.1 (lw_V q823 q825 qs7 q70 q826) rfl rfl rfl dmV_X0_runs ⟨Nat.le_of_ble_eq_true rfl, Nat.le_of_ble_eq_true rfl⟩)⟩
    refine g_iconst (pc := 14) X 0 dX0_leads_14 rfl ?_
    refine g_istore_n (pc := 15) X (lv' := [(2, .int 0), (0, .ref h0), (1, .int x1)]) dX0_leads_15 rfl (by decide) rfl ?_
    refine g_iconst (pc := 16) X 0 dX0_leads_16 rfl ?_
    refine g_istore_n (pc := 17) X (lv' := [(3, .int 0), (2, .int 0), (0, .ref h0), (1, .int x1)]) dX0_leads_17 rfl (by decide) rfl ?_
    exact g_lv (pc := 18) (lv' := [(0, .ref h0), (2, .int 0), (3, .int 0)]) [2, 1, 0] rfl (wX0_leads_18 hex X hr 1000 h0 0 0 t4)
  · refine g_iconst (pc := 7) X (-1) dX0_leads_7 rfl ?_
    exact g_iret (pc := 8) X hr dX0_leads_8
theorem kX0_leads {ex : Nat → Option Nat} {z : Nat} {h0 : Nat} {x1 : Int32} {σ : Sg} {r : Int32} {u : St} (hex : ex = Γ.2.2.2.2) (h : fX0_leads ex z h0 x1 (σ, 0, 0) = some (r, u)) : g_C Γ l yX0_leads cX0_leads 4 (some .int) 21 446 [.ref h0, .int x1] σ z v_i r (g_ι z u) :=
  g_met (ι := g_ι z) (t := (σ, 0, 0)) [.ref h0, .int x1] (by decide) (Nat.le_of_ble_eq_true rfl) h rfl (fun p e s m args below meth c X hr hn => wX0_leads hex X hr h0 x1 (σ, 0, 0))
end CP
abbrev cX0_turns : ByteArray := prog_1_method_33_code
def yX0_turns : MethodName := ⟨RX0, "turns", "(III)I"⟩
def dkwX0_turns_2 : List UInt8 := [16, 252, 167, 0, 5, 21, 4, 172]
abbrev dktX0_turns_2 : List UInt8 := dkwX0_turns_2 ++ []
def dkwX0_turns_1 : List UInt8 := [28, 29, 21, 4, 3, 182, 0, 238, 154, 0, 9, 132, 4, 1, 167, 255, 233, 21, 4, 16, 40, 164, 0, 8]
abbrev dktX0_turns_1 : List UInt8 := dkwX0_turns_1 ++ dktX0_turns_2
def dkwX0_turns_0 : List UInt8 := [42, 27, 28, 29, 182, 0, 234, 154, 0, 5, 2, 172, 3, 54, 4, 21, 4, 16, 40, 163, 0, 22, 42, 27]
abbrev dktX0_turns_0 : List UInt8 := dkwX0_turns_0 ++ dktX0_turns_1
theorem dksX0_turns_0 : cX0_turns.data.toList.drop 0 = dktX0_turns_0 := by decide +kernel
theorem dksX0_turns_1 : cX0_turns.data.toList.drop 24 = dktX0_turns_1 := dk_seg dksX0_turns_0 24 rfl rfl
theorem dksX0_turns_2 : cX0_turns.data.toList.drop 48 = dktX0_turns_2 := dk_seg dksX0_turns_1 24 rfl rfl
theorem dX0_turns_0 : decode cX0_turns 0 = .ok (.aload_n 0, 1) := dk_42 (dk_at dksX0_turns_0 0 rfl rfl)
theorem dX0_turns_1 : decode cX0_turns 1 = .ok (.iload_n 1, 1) := dk_27 (dk_at dksX0_turns_0 1 rfl rfl)
theorem dX0_turns_2 : decode cX0_turns 2 = .ok (.iload_n 2, 1) := dk_28 (dk_at dksX0_turns_0 2 rfl rfl)
theorem dX0_turns_3 : decode cX0_turns 3 = .ok (.iload_n 3, 1) := dk_29 (dk_at dksX0_turns_0 3 rfl rfl)
theorem dX0_turns_4 : decode cX0_turns 4 = .ok (.invokevirtual 234, 3) := dk_182 0 234 (dk_at dksX0_turns_0 4 rfl rfl)
theorem dX0_turns_7 : decode cX0_turns 7 = .ok (.ifCond .ne 5, 3) := dk_154 0 5 (dk_at dksX0_turns_0 7 rfl rfl)
theorem dX0_turns_10 : decode cX0_turns 10 = .ok (.iconst (-1), 1) := dk_2 (dk_at dksX0_turns_0 10 rfl rfl)
theorem dX0_turns_11 : decode cX0_turns 11 = .ok (.ireturn, 1) := dk_172 (dk_at dksX0_turns_0 11 rfl rfl)
theorem dX0_turns_12 : decode cX0_turns 12 = .ok (.iconst 0, 1) := dk_3 (dk_at dksX0_turns_0 12 rfl rfl)
theorem dX0_turns_13 : decode cX0_turns 13 = .ok (.istore 4, 2) := dk_54 4 (dk_at dksX0_turns_0 13 rfl rfl)
theorem dX0_turns_15 : decode cX0_turns 15 = .ok (.iload 4, 2) := dk_21 4 (dk_at dksX0_turns_0 15 rfl rfl)
theorem dX0_turns_17 : decode cX0_turns 17 = .ok (.bipush 40, 2) := dk_16 40 (dk_at dksX0_turns_0 17 rfl rfl)
theorem dX0_turns_19 : decode cX0_turns 19 = .ok (.if_icmp .gt 22, 3) := dk_163 0 22 (dk_at dksX0_turns_0 19 rfl rfl)
theorem dX0_turns_22 : decode cX0_turns 22 = .ok (.aload_n 0, 1) := dk_42 (dk_at dksX0_turns_0 22 rfl rfl)
theorem dX0_turns_23 : decode cX0_turns 23 = .ok (.iload_n 1, 1) := dk_27 (dk_at dksX0_turns_0 23 rfl rfl)
theorem dX0_turns_24 : decode cX0_turns 24 = .ok (.iload_n 2, 1) := dk_28 (dk_at dksX0_turns_1 0 rfl rfl)
theorem dX0_turns_25 : decode cX0_turns 25 = .ok (.iload_n 3, 1) := dk_29 (dk_at dksX0_turns_1 1 rfl rfl)
theorem dX0_turns_26 : decode cX0_turns 26 = .ok (.iload 4, 2) := dk_21 4 (dk_at dksX0_turns_1 2 rfl rfl)
theorem dX0_turns_28 : decode cX0_turns 28 = .ok (.iconst 0, 1) := dk_3 (dk_at dksX0_turns_1 4 rfl rfl)
theorem dX0_turns_29 : decode cX0_turns 29 = .ok (.invokevirtual 238, 3) := dk_182 0 238 (dk_at dksX0_turns_1 5 rfl rfl)
theorem dX0_turns_32 : decode cX0_turns 32 = .ok (.ifCond .ne 9, 3) := dk_154 0 9 (dk_at dksX0_turns_1 8 rfl rfl)
theorem dX0_turns_35 : decode cX0_turns 35 = .ok (.iinc 4 1, 3) := dk_132 4 1 (dk_at dksX0_turns_1 11 rfl rfl)
theorem dX0_turns_38 : decode cX0_turns 38 = .ok (.goto (-23), 3) := dk_167 255 233 (dk_at dksX0_turns_1 14 rfl rfl)
theorem dX0_turns_41 : decode cX0_turns 41 = .ok (.iload 4, 2) := dk_21 4 (dk_at dksX0_turns_1 17 rfl rfl)
theorem dX0_turns_43 : decode cX0_turns 43 = .ok (.bipush 40, 2) := dk_16 40 (dk_at dksX0_turns_1 19 rfl rfl)
theorem dX0_turns_45 : decode cX0_turns 45 = .ok (.if_icmp .le 8, 3) := dk_164 0 8 (dk_at dksX0_turns_1 21 rfl rfl)
theorem dX0_turns_48 : decode cX0_turns 48 = .ok (.bipush (-4), 2) := dk_16 252 (dk_at dksX0_turns_2 0 rfl rfl)
theorem dX0_turns_50 : decode cX0_turns 50 = .ok (.goto 5, 3) := dk_167 0 5 (dk_at dksX0_turns_2 2 rfl rfl)
theorem dX0_turns_53 : decode cX0_turns 53 = .ok (.iload 4, 2) := dk_21 4 (dk_at dksX0_turns_2 5 rfl rfl)
theorem dX0_turns_55 : decode cX0_turns 55 = .ok (.ireturn, 1) := dk_172 (dk_at dksX0_turns_2 7 rfl rfl)
section CP
variable {Γ : Gc} {p : Program} {l : Launch} {e : Env} {s : State} {m : MethodId} {args : Array Value} {below : List Frame} {meth : Method} {c : Code} {ex : Nat → Option Nat} {z : Nat} {tF : St}
noncomputable def fX0_turns_41 (ex : Nat → Option Nat) (z : Nat) (x4 : Int32) (t : St) : Option (Int32 × St) := if x4 ≤ 40 then some (x4, t) else some ((-4), t)
set_option maxHeartbeats 4000000 in
theorem wX0_turns_41 {rF : Int32} (hex : ex = Γ.2.2.2.2) (X : g_X Γ p s m args meth c cX0_turns 5 RX0) (hr : meth.sig.returnType = (some .int)) (x4 : Int32) (t : St) : Wf Γ p l e 21 450 s m args below meth c 5 (g_ι z) v_i rF tF 41 [(4, .int x4)] [] t (fX0_turns_41 ex z x4 t) := by
  unfold fX0_turns_41
  refine g_iload (pc := 41) X 0 dX0_turns_41 rfl ?_
  refine g_bipush (pc := 43) X 40 dX0_turns_43 rfl ?_
  refine g_icmp_le (pc := 45) X 53 dX0_turns_45 (by decide) ?_ ?_
  · refine g_iload (pc := 53) X 0 dX0_turns_53 rfl ?_
    exact g_iret (pc := 55) X hr dX0_turns_55
  · refine g_bipush (pc := 48) X (-4) dX0_turns_48 rfl ?_
    refine g_goto (pc := 50) X 55 dX0_turns_50 (by decide) ?_
    exact g_iret (pc := 55) X hr dX0_turns_55
noncomputable def fX0_turns_15 (ex : Nat → Option Nat) (z : Nat) : Nat → Nat → Int32 → Int32 → Int32 → Int32 → St → Option (Int32 × St)
  | 0, _, _, _, _, _, _ => none
  | n + 1, h0, x1, x2, x3, x4, t => if 40 < x4 then fX0_turns_41 ex z x4 t else ccast [0] t h0 (gb (fX0_comesTo ex (z + t.2.1) h0 x1 x2 x3 x4 0 (t.1, 0, 0)) t fun r1 t2 => if r1 = 0 then fX0_turns_15 ex z n h0 x1 x2 x3 (x4 + 1) t2 else fX0_turns_41 ex z x4 t2)
set_option maxHeartbeats 4000000 in
theorem wX0_turns_15 {rF : Int32} (hex : ex = Γ.2.2.2.2) (X : g_X Γ p s m args meth c cX0_turns 5 RX0) (hr : meth.sig.returnType = (some .int)) (n : Nat) : ∀ (h0 : Nat) (x1 : Int32) (x2 : Int32) (x3 : Int32) (x4 : Int32) (t : St), Wf Γ p l e 21 450 s m args below meth c 5 (g_ι z) v_i rF tF 15 [(0, .ref h0), (1, .int x1), (2, .int x2), (3, .int x3), (4, .int x4)] [] t (fX0_turns_15 ex z n h0 x1 x2 x3 x4 t) := by
  induction n with
  | zero => intro h0 x1 x2 x3 x4 t; exact g_none
  | succ n ih =>
    intro h0 x1 x2 x3 x4 t
    rw [fX0_turns_15]
    refine g_iload (pc := 15) X 4 dX0_turns_15 rfl ?_
    refine g_bipush (pc := 17) X 40 dX0_turns_17 rfl ?_
    refine g_icmp_gt (pc := 19) X 41 dX0_turns_19 (by decide) ?_ ?_
    · exact g_lv (pc := 41) (lv' := [(4, .int x4)]) [4] rfl (wX0_turns_41 hex X hr x4 t)
    · refine g_aload_n (pc := 22) X 0 dX0_turns_22 rfl rfl ?_
      refine g_iload_n (pc := 23) X 1 dX0_turns_23 rfl rfl ?_
      refine g_iload_n (pc := 24) X 2 dX0_turns_24 rfl rfl ?_
      refine g_iload_n (pc := 25) X 3 dX0_turns_25 rfl rfl ?_
      refine g_iload (pc := 26) X 4 dX0_turns_26 rfl ?_
      refine g_iconst (pc := 28) X 0 dX0_turns_28 rfl ?_
      refine g_bD_i (pc := 29) X (cs := [0]) (As := [.int x1, .int x2, .int x3, .int x4, .int 0]) (rest := []) (b := h0) (n := 5) dX0_turns_29 rfl rfl (Nat.le_of_ble_eq_true rfl) (fun fl3 ci4 fs5 hs6 hci7 r u h => ?_) (fun r1 t2 => ?_)
      · obtain rfl := List.mem_singleton.mp hci7
        exact ⟨_, _, _, yX0_comesTo, _, _, _, 20, 425, rfl, kX0_comesTo hex h, Or.inl (cwV 5 X.2.2.2.2.1 (lw_V q887 q889 qs10 q70 q890) rfl rfl rfl dmV_X0_comesTo ⟨Nat.le_of_ble_eq_true rfl, Nat.le_of_ble_eq_true rfl⟩)⟩
      refine g_if_ne (pc := 32) X 41 dX0_turns_32 (by decide) ?_ ?_
      · exact g_lv (pc := 41) (lv' := [(4, .int x4)]) [4] rfl (wX0_turns_41 hex X hr x4 t2)
      · refine g_iinc (pc := 35) X 1 4 (lv' := [(4, .int (x4 + 1)), (0, .ref h0), (1, .int x1), (2, .int x2), (3, .int x3)]) dX0_turns_35 rfl rfl (by decide) rfl ?_
        refine g_goto (pc := 38) X 15 dX0_turns_38 (by decide) ?_
        exact g_lv (pc := 15) (lv' := [(0, .ref h0), (1, .int x1), (2, .int x2), (3, .int x3), (4, .int (x4 + 1))]) [1, 2, 3, 4, 0] rfl (ih h0 x1 x2 x3 (x4 + 1) t2)
noncomputable def fX0_turns (ex : Nat → Option Nat) (z : Nat) (h0 : Nat) (x1 : Int32) (x2 : Int32) (x3 : Int32) (t : St) : Option (Int32 × St) := ccast [0] t h0 (gb (fX0_isAsked ex (z + t.2.1) h0 x1 x2 x3 (t.1, 0, 0)) t fun r1 t2 => if r1 = 0 then some ((-1), t2) else fX0_turns_15 ex z 1000 h0 x1 x2 x3 0 t2)
set_option maxHeartbeats 4000000 in
theorem wX0_turns {rF : Int32} (hex : ex = Γ.2.2.2.2) (X : g_X Γ p s m args meth c cX0_turns 5 RX0) (hr : meth.sig.returnType = (some .int)) (h0 : Nat) (x1 : Int32) (x2 : Int32) (x3 : Int32) (t : St) : Wf Γ p l e 21 450 s m args below meth c 5 (g_ι z) v_i rF tF 0 [(0, .ref h0), (1, .int x1), (2, .int x2), (3, .int x3)] [] t (fX0_turns ex z h0 x1 x2 x3 t) := by
  unfold fX0_turns
  refine g_aload_n (pc := 0) X 0 dX0_turns_0 rfl rfl ?_
  refine g_iload_n (pc := 1) X 1 dX0_turns_1 rfl rfl ?_
  refine g_iload_n (pc := 2) X 2 dX0_turns_2 rfl rfl ?_
  refine g_iload_n (pc := 3) X 3 dX0_turns_3 rfl rfl ?_
  refine g_bD_i (pc := 4) X (cs := [0]) (As := [.int x1, .int x2, .int x3]) (rest := []) (b := h0) (n := 3) dX0_turns_4 rfl rfl (Nat.le_of_ble_eq_true rfl) (fun fl3 ci4 fs5 hs6 hci7 r u h => ?_) (fun r1 t2 => ?_)
  · obtain rfl := List.mem_singleton.mp hci7
    exact ⟨_, _, _, yX0_isAsked, _, _, _, 3, 61, rfl, kX0_isAsked hex h, Or.inl (cwV 3 X.2.2.2.2.1 (lw_V q882 q884 qs9 q70 q885) rfl rfl rfl dmV_X0_isAsked ⟨Nat.le_of_ble_eq_true rfl, Nat.le_of_ble_eq_true rfl⟩)⟩
  refine g_if_ne (pc := 7) X 12 dX0_turns_7 (by decide) ?_ ?_
  · refine g_iconst (pc := 12) X 0 dX0_turns_12 rfl ?_
    refine g_istore (pc := 13) X (lv' := [(4, .int 0), (0, .ref h0), (1, .int x1), (2, .int x2), (3, .int x3)]) dX0_turns_13 (by decide) rfl ?_
    exact g_lv (pc := 15) (lv' := [(0, .ref h0), (1, .int x1), (2, .int x2), (3, .int x3), (4, .int 0)]) [1, 2, 3, 4, 0] rfl (wX0_turns_15 hex X hr 1000 h0 x1 x2 x3 0 t2)
  · refine g_iconst (pc := 10) X (-1) dX0_turns_10 rfl ?_
    exact g_iret (pc := 11) X hr dX0_turns_11
theorem kX0_turns {ex : Nat → Option Nat} {z : Nat} {h0 : Nat} {x1 : Int32} {x2 : Int32} {x3 : Int32} {σ : Sg} {r : Int32} {u : St} (hex : ex = Γ.2.2.2.2) (h : fX0_turns ex z h0 x1 x2 x3 (σ, 0, 0) = some (r, u)) : g_C Γ l yX0_turns cX0_turns 5 (some .int) 21 450 [.ref h0, .int x1, .int x2, .int x3] σ z v_i r (g_ι z u) :=
  g_met (ι := g_ι z) (t := (σ, 0, 0)) [.ref h0, .int x1, .int x2, .int x3] (by decide) (Nat.le_of_ble_eq_true rfl) h rfl (fun p e s m args below meth c X hr hn => wX0_turns hex X hr h0 x1 x2 x3 (σ, 0, 0))
end CP
abbrev cX0_breath : ByteArray := prog_1_method_38_code
def yX0_breath : MethodName := ⟨RX0, "breath", "(II)I"⟩
def dkwX0_breath_5 : List UInt8 := [132, 5, 1, 167, 255, 179, 21, 4, 172]
abbrev dktX0_breath_5 : List UInt8 := dkwX0_breath_5 ++ []
def dkwX0_breath_4 : List UInt8 := [163, 0, 6, 167, 0, 19, 42, 180, 0, 213, 27, 182, 0, 111, 180, 0, 116, 62, 21, 5, 54, 4]
abbrev dktX0_breath_4 : List UInt8 := dkwX0_breath_4 ++ dktX0_breath_5
def dkwX0_breath_3 : List UInt8 := [21, 5, 16, 12, 84, 42, 28, 182, 0, 220, 42, 180, 0, 213, 27, 182, 0, 111, 180, 0, 116, 29]
abbrev dktX0_breath_3 : List UInt8 := dkwX0_breath_3 ++ dktX0_breath_4
def dkwX0_breath_2 : List UInt8 := [182, 0, 52, 163, 0, 71, 42, 180, 0, 213, 42, 180, 0, 38, 182, 0, 216, 42, 180, 0, 213, 180, 0, 138]
abbrev dktX0_breath_2 : List UInt8 := dkwX0_breath_2 ++ dktX0_breath_3
def dkwX0_breath_1 : List UInt8 := [180, 0, 213, 27, 182, 0, 111, 180, 0, 116, 62, 16, 252, 54, 4, 3, 54, 5, 21, 5, 42, 180, 0, 38]
abbrev dktX0_breath_1 : List UInt8 := dkwX0_breath_1 ++ dktX0_breath_2
def dkwX0_breath_0 : List UInt8 := [42, 27, 182, 0, 107, 153, 0, 10, 28, 184, 0, 223, 154, 0, 5, 2, 172, 42, 28, 182, 0, 226, 42]
abbrev dktX0_breath_0 : List UInt8 := dkwX0_breath_0 ++ dktX0_breath_1
theorem dksX0_breath_0 : cX0_breath.data.toList.drop 0 = dktX0_breath_0 := by decide +kernel
theorem dksX0_breath_1 : cX0_breath.data.toList.drop 23 = dktX0_breath_1 := dk_seg dksX0_breath_0 23 rfl rfl
theorem dksX0_breath_2 : cX0_breath.data.toList.drop 47 = dktX0_breath_2 := dk_seg dksX0_breath_1 24 rfl rfl
theorem dksX0_breath_3 : cX0_breath.data.toList.drop 71 = dktX0_breath_3 := dk_seg dksX0_breath_2 24 rfl rfl
theorem dksX0_breath_4 : cX0_breath.data.toList.drop 93 = dktX0_breath_4 := dk_seg dksX0_breath_3 22 rfl rfl
theorem dksX0_breath_5 : cX0_breath.data.toList.drop 115 = dktX0_breath_5 := dk_seg dksX0_breath_4 22 rfl rfl
theorem dX0_breath_0 : decode cX0_breath 0 = .ok (.aload_n 0, 1) := dk_42 (dk_at dksX0_breath_0 0 rfl rfl)
theorem dX0_breath_1 : decode cX0_breath 1 = .ok (.iload_n 1, 1) := dk_27 (dk_at dksX0_breath_0 1 rfl rfl)
theorem dX0_breath_2 : decode cX0_breath 2 = .ok (.invokevirtual 107, 3) := dk_182 0 107 (dk_at dksX0_breath_0 2 rfl rfl)
theorem dX0_breath_5 : decode cX0_breath 5 = .ok (.ifCond .eq 10, 3) := dk_153 0 10 (dk_at dksX0_breath_0 5 rfl rfl)
theorem dX0_breath_8 : decode cX0_breath 8 = .ok (.iload_n 2, 1) := dk_28 (dk_at dksX0_breath_0 8 rfl rfl)
theorem dX0_breath_9 : decode cX0_breath 9 = .ok (.invokestatic 223, 3) := dk_184 0 223 (dk_at dksX0_breath_0 9 rfl rfl)
theorem dX0_breath_12 : decode cX0_breath 12 = .ok (.ifCond .ne 5, 3) := dk_154 0 5 (dk_at dksX0_breath_0 12 rfl rfl)
theorem dX0_breath_15 : decode cX0_breath 15 = .ok (.iconst (-1), 1) := dk_2 (dk_at dksX0_breath_0 15 rfl rfl)
theorem dX0_breath_16 : decode cX0_breath 16 = .ok (.ireturn, 1) := dk_172 (dk_at dksX0_breath_0 16 rfl rfl)
theorem dX0_breath_17 : decode cX0_breath 17 = .ok (.aload_n 0, 1) := dk_42 (dk_at dksX0_breath_0 17 rfl rfl)
theorem dX0_breath_18 : decode cX0_breath 18 = .ok (.iload_n 2, 1) := dk_28 (dk_at dksX0_breath_0 18 rfl rfl)
theorem dX0_breath_19 : decode cX0_breath 19 = .ok (.invokevirtual 226, 3) := dk_182 0 226 (dk_at dksX0_breath_0 19 rfl rfl)
theorem dX0_breath_22 : decode cX0_breath 22 = .ok (.aload_n 0, 1) := dk_42 (dk_at dksX0_breath_0 22 rfl rfl)
theorem dX0_breath_23 : decode cX0_breath 23 = .ok (.getfield 213, 3) := dk_180 0 213 (dk_at dksX0_breath_1 0 rfl rfl)
theorem dX0_breath_26 : decode cX0_breath 26 = .ok (.iload_n 1, 1) := dk_27 (dk_at dksX0_breath_1 3 rfl rfl)
theorem dX0_breath_27 : decode cX0_breath 27 = .ok (.invokevirtual 111, 3) := dk_182 0 111 (dk_at dksX0_breath_1 4 rfl rfl)
theorem dX0_breath_30 : decode cX0_breath 30 = .ok (.getfield 116, 3) := dk_180 0 116 (dk_at dksX0_breath_1 7 rfl rfl)
theorem dX0_breath_33 : decode cX0_breath 33 = .ok (.istore_n 3, 1) := dk_62 (dk_at dksX0_breath_1 10 rfl rfl)
theorem dX0_breath_34 : decode cX0_breath 34 = .ok (.bipush (-4), 2) := dk_16 252 (dk_at dksX0_breath_1 11 rfl rfl)
theorem dX0_breath_36 : decode cX0_breath 36 = .ok (.istore 4, 2) := dk_54 4 (dk_at dksX0_breath_1 13 rfl rfl)
theorem dX0_breath_38 : decode cX0_breath 38 = .ok (.iconst 0, 1) := dk_3 (dk_at dksX0_breath_1 15 rfl rfl)
theorem dX0_breath_39 : decode cX0_breath 39 = .ok (.istore 5, 2) := dk_54 5 (dk_at dksX0_breath_1 16 rfl rfl)
theorem dX0_breath_41 : decode cX0_breath 41 = .ok (.iload 5, 2) := dk_21 5 (dk_at dksX0_breath_1 18 rfl rfl)
theorem dX0_breath_43 : decode cX0_breath 43 = .ok (.aload_n 0, 1) := dk_42 (dk_at dksX0_breath_1 20 rfl rfl)
theorem dX0_breath_44 : decode cX0_breath 44 = .ok (.getfield 38, 3) := dk_180 0 38 (dk_at dksX0_breath_1 21 rfl rfl)
theorem dX0_breath_47 : decode cX0_breath 47 = .ok (.invokevirtual 52, 3) := dk_182 0 52 (dk_at dksX0_breath_2 0 rfl rfl)
theorem dX0_breath_50 : decode cX0_breath 50 = .ok (.if_icmp .gt 71, 3) := dk_163 0 71 (dk_at dksX0_breath_2 3 rfl rfl)
theorem dX0_breath_53 : decode cX0_breath 53 = .ok (.aload_n 0, 1) := dk_42 (dk_at dksX0_breath_2 6 rfl rfl)
theorem dX0_breath_54 : decode cX0_breath 54 = .ok (.getfield 213, 3) := dk_180 0 213 (dk_at dksX0_breath_2 7 rfl rfl)
theorem dX0_breath_57 : decode cX0_breath 57 = .ok (.aload_n 0, 1) := dk_42 (dk_at dksX0_breath_2 10 rfl rfl)
theorem dX0_breath_58 : decode cX0_breath 58 = .ok (.getfield 38, 3) := dk_180 0 38 (dk_at dksX0_breath_2 11 rfl rfl)
theorem dX0_breath_61 : decode cX0_breath 61 = .ok (.invokevirtual 216, 3) := dk_182 0 216 (dk_at dksX0_breath_2 14 rfl rfl)
theorem dX0_breath_64 : decode cX0_breath 64 = .ok (.aload_n 0, 1) := dk_42 (dk_at dksX0_breath_2 17 rfl rfl)
theorem dX0_breath_65 : decode cX0_breath 65 = .ok (.getfield 213, 3) := dk_180 0 213 (dk_at dksX0_breath_2 18 rfl rfl)
theorem dX0_breath_68 : decode cX0_breath 68 = .ok (.getfield 138, 3) := dk_180 0 138 (dk_at dksX0_breath_2 21 rfl rfl)
theorem dX0_breath_71 : decode cX0_breath 71 = .ok (.iload 5, 2) := dk_21 5 (dk_at dksX0_breath_3 0 rfl rfl)
theorem dX0_breath_73 : decode cX0_breath 73 = .ok (.bipush 12, 2) := dk_16 12 (dk_at dksX0_breath_3 2 rfl rfl)
theorem dX0_breath_75 : decode cX0_breath 75 = .ok (.bastore, 1) := dk_84 (dk_at dksX0_breath_3 4 rfl rfl)
theorem dX0_breath_76 : decode cX0_breath 76 = .ok (.aload_n 0, 1) := dk_42 (dk_at dksX0_breath_3 5 rfl rfl)
theorem dX0_breath_77 : decode cX0_breath 77 = .ok (.iload_n 2, 1) := dk_28 (dk_at dksX0_breath_3 6 rfl rfl)
theorem dX0_breath_78 : decode cX0_breath 78 = .ok (.invokevirtual 220, 3) := dk_182 0 220 (dk_at dksX0_breath_3 7 rfl rfl)
theorem dX0_breath_81 : decode cX0_breath 81 = .ok (.aload_n 0, 1) := dk_42 (dk_at dksX0_breath_3 10 rfl rfl)
theorem dX0_breath_82 : decode cX0_breath 82 = .ok (.getfield 213, 3) := dk_180 0 213 (dk_at dksX0_breath_3 11 rfl rfl)
theorem dX0_breath_85 : decode cX0_breath 85 = .ok (.iload_n 1, 1) := dk_27 (dk_at dksX0_breath_3 14 rfl rfl)
theorem dX0_breath_86 : decode cX0_breath 86 = .ok (.invokevirtual 111, 3) := dk_182 0 111 (dk_at dksX0_breath_3 15 rfl rfl)
theorem dX0_breath_89 : decode cX0_breath 89 = .ok (.getfield 116, 3) := dk_180 0 116 (dk_at dksX0_breath_3 18 rfl rfl)
theorem dX0_breath_92 : decode cX0_breath 92 = .ok (.iload_n 3, 1) := dk_29 (dk_at dksX0_breath_3 21 rfl rfl)
theorem dX0_breath_93 : decode cX0_breath 93 = .ok (.if_icmp .gt 6, 3) := dk_163 0 6 (dk_at dksX0_breath_4 0 rfl rfl)
theorem dX0_breath_96 : decode cX0_breath 96 = .ok (.goto 19, 3) := dk_167 0 19 (dk_at dksX0_breath_4 3 rfl rfl)
theorem dX0_breath_99 : decode cX0_breath 99 = .ok (.aload_n 0, 1) := dk_42 (dk_at dksX0_breath_4 6 rfl rfl)
theorem dX0_breath_100 : decode cX0_breath 100 = .ok (.getfield 213, 3) := dk_180 0 213 (dk_at dksX0_breath_4 7 rfl rfl)
theorem dX0_breath_103 : decode cX0_breath 103 = .ok (.iload_n 1, 1) := dk_27 (dk_at dksX0_breath_4 10 rfl rfl)
theorem dX0_breath_104 : decode cX0_breath 104 = .ok (.invokevirtual 111, 3) := dk_182 0 111 (dk_at dksX0_breath_4 11 rfl rfl)
theorem dX0_breath_107 : decode cX0_breath 107 = .ok (.getfield 116, 3) := dk_180 0 116 (dk_at dksX0_breath_4 14 rfl rfl)
theorem dX0_breath_110 : decode cX0_breath 110 = .ok (.istore_n 3, 1) := dk_62 (dk_at dksX0_breath_4 17 rfl rfl)
theorem dX0_breath_111 : decode cX0_breath 111 = .ok (.iload 5, 2) := dk_21 5 (dk_at dksX0_breath_4 18 rfl rfl)
theorem dX0_breath_113 : decode cX0_breath 113 = .ok (.istore 4, 2) := dk_54 4 (dk_at dksX0_breath_4 20 rfl rfl)
theorem dX0_breath_115 : decode cX0_breath 115 = .ok (.iinc 5 1, 3) := dk_132 5 1 (dk_at dksX0_breath_5 0 rfl rfl)
theorem dX0_breath_118 : decode cX0_breath 118 = .ok (.goto (-77), 3) := dk_167 255 179 (dk_at dksX0_breath_5 3 rfl rfl)
theorem dX0_breath_121 : decode cX0_breath 121 = .ok (.iload 4, 2) := dk_21 4 (dk_at dksX0_breath_5 6 rfl rfl)
theorem dX0_breath_123 : decode cX0_breath 123 = .ok (.ireturn, 1) := dk_172 (dk_at dksX0_breath_5 8 rfl rfl)
section CP
variable {Γ : Gc} {p : Program} {l : Launch} {e : Env} {s : State} {m : MethodId} {args : Array Value} {below : List Frame} {meth : Method} {c : Code} {ex : Nat → Option Nat} {z : Nat} {tF : St}
noncomputable def fX0_breath_115 (ex : Nat → Option Nat) (z : Nat) (kc41 : Nat → Int32 → Int32 → Int32 → Int32 → Int32 → St → Option (Int32 × St)) (h0 : Nat) (x1 : Int32) (x2 : Int32) (x3 : Int32) (x4 : Int32) (x5 : Int32) (t : St) : Option (Int32 × St) := kc41 h0 x1 x2 x3 x4 (x5 + 1) t
set_option maxHeartbeats 4000000 in
theorem wX0_breath_115 {rF : Int32} (hex : ex = Γ.2.2.2.2) (X : g_X Γ p s m args meth c cX0_breath 6 RX0) (hr : meth.sig.returnType = (some .int)) {kc41 : Nat → Int32 → Int32 → Int32 → Int32 → Int32 → St → Option (Int32 × St)} (hk41 : ∀ (h0 : Nat) (x1 : Int32) (x2 : Int32) (x3 : Int32) (x4 : Int32) (x5 : Int32) (t : St), Wf Γ p l e 21 446 s m args below meth c 6 (g_ι z) v_i rF tF 41 [(0, .ref h0), (1, .int x1), (2, .int x2), (3, .int x3), (4, .int x4), (5, .int x5)] [] t (kc41 h0 x1 x2 x3 x4 x5 t)) (h0 : Nat) (x1 : Int32) (x2 : Int32) (x3 : Int32) (x4 : Int32) (x5 : Int32) (t : St) : Wf Γ p l e 21 446 s m args below meth c 6 (g_ι z) v_i rF tF 115 [(0, .ref h0), (1, .int x1), (2, .int x2), (3, .int x3), (4, .int x4), (5, .int x5)] [] t (fX0_breath_115 ex z kc41 h0 x1 x2 x3 x4 x5 t) := by
  unfold fX0_breath_115
  refine g_iinc (pc := 115) X 1 5 (lv' := [(5, .int (x5 + 1)), (0, .ref h0), (1, .int x1), (2, .int x2), (3, .int x3), (4, .int x4)]) dX0_breath_115 rfl rfl (by decide) rfl ?_
  refine g_goto (pc := 118) X 41 dX0_breath_118 (by decide) ?_
  exact g_lv (pc := 41) (lv' := [(0, .ref h0), (1, .int x1), (2, .int x2), (3, .int x3), (4, .int x4), (5, .int (x5 + 1))]) [1, 2, 3, 4, 5, 0] rfl (hk41 h0 x1 x2 x3 x4 (x5 + 1) t)
noncomputable def fX0_breath_41 (ex : Nat → Option Nat) (z : Nat) : Nat → Nat → Int32 → Int32 → Int32 → Int32 → Int32 → St → Option (Int32 × St)
  | 0, _, _, _, _, _, _, _ => none
  | n + 1, h0, x1, x2, x3, x4, x5, t => cgA [0] 0 t h0 fun v1 => ccast [1] t v1 (gb (fX1_home ex (z + t.2.1) v1 (t.1, 0, 0)) t fun r2 t3 => if r2 < x5 then some (x4, t3) else cgA [0] 1 t3 h0 fun v9 => cgA [0] 0 t3 h0 fun v10 => ccast [1] t3 v9 (gb (fX1_takes ex (z + t3.2.1) v9 v10 (t3.1, 0, 0)) t3 fun _ t12 => cgA [0] 1 t12 h0 fun v18 => cgA [1] 1 t12 v18 fun v19 => cast_ 0 (vp_nar .byte) t12 v19 x5 12 fun t20 => ccast [0] t20 h0 (gb (fX0_goOn ex (z + t20.2.1) h0 x2 (t20.1, 0, 0)) t20 fun _ t22 => cgA [0] 1 t22 h0 fun v28 => ccast [1] t22 v28 (gb (fX1_clock ex (z + t22.2.1) v28 x1 (t22.1, 0, 0)) t22 fun r29 t30 => cgI [4, 5, 6, 7, 8, 9] 4 t30 r29 fun v36 => if x3 < v36 then cgA [0] 1 t30 h0 fun v37 => ccast [1] t30 v37 (gb (fX1_clock ex (z + t30.2.1) v37 x1 (t30.1, 0, 0)) t30 fun r38 t39 => cgI [4, 5, 6, 7, 8, 9] 4 t39 r38 fun v45 => fX0_breath_115 ex z (fun a0 a1 a2 a3 a4 a5 a6 => fX0_breath_41 ex z n a0 a1 a2 a3 a4 a5 a6) h0 x1 x2 v45 x5 x5 t39) else fX0_breath_115 ex z (fun a0 a1 a2 a3 a4 a5 a6 => fX0_breath_41 ex z n a0 a1 a2 a3 a4 a5 a6) h0 x1 x2 x3 x4 x5 t30))))
set_option maxHeartbeats 4000000 in
theorem wX0_breath_41 {rF : Int32} (hex : ex = Γ.2.2.2.2) (X : g_X Γ p s m args meth c cX0_breath 6 RX0) (hr : meth.sig.returnType = (some .int)) (n : Nat) : ∀ (h0 : Nat) (x1 : Int32) (x2 : Int32) (x3 : Int32) (x4 : Int32) (x5 : Int32) (t : St), Wf Γ p l e 21 446 s m args below meth c 6 (g_ι z) v_i rF tF 41 [(0, .ref h0), (1, .int x1), (2, .int x2), (3, .int x3), (4, .int x4), (5, .int x5)] [] t (fX0_breath_41 ex z n h0 x1 x2 x3 x4 x5 t) := by
  induction n with
  | zero => intro h0 x1 x2 x3 x4 x5 t; exact g_none
  | succ n ih =>
    intro h0 x1 x2 x3 x4 x5 t
    rw [fX0_breath_41]
    refine g_iload (pc := 41) X 5 dX0_breath_41 rfl ?_
    refine g_aload_n (pc := 43) X 0 dX0_breath_43 rfl rfl ?_
    refine cg_getA (pc := 44) X fo_X0_38 dX0_breath_44 (fun v1 => ?_)
    refine g_bD_i (pc := 47) X (cs := [1]) (As := []) (rest := [.int x5]) (b := v1) (n := 0) dX0_breath_47 rfl rfl (Nat.le_of_ble_eq_true rfl) (fun fl4 ci5 fs6 hs7 hci8 r u h => ?_) (fun r2 t3 => ?_)
    · obtain rfl := List.mem_singleton.mp hci8
      exact ⟨_, _, _, yX1_home, _, _, _, 0, 0, rfl, kX1_home hex h, Or.inl (cwV 0 X.2.2.2.2.1 (lw_V q467 q468 q469 q71 q470) rfl rfl rfl dmV_X1_home ⟨Nat.le_of_ble_eq_true rfl, Nat.le_of_ble_eq_true rfl⟩)⟩
    refine g_icmp_gt (pc := 50) X 121 dX0_breath_50 (by decide) ?_ ?_
    · refine g_iload (pc := 121) X 4 dX0_breath_121 rfl ?_
      exact g_iret (pc := 123) X hr dX0_breath_123
    · refine g_aload_n (pc := 53) X 0 dX0_breath_53 rfl rfl ?_
      refine cg_getA (pc := 54) X fo_X0_213 dX0_breath_54 (fun v9 => ?_)
      refine g_aload_n (pc := 57) X 0 dX0_breath_57 rfl rfl ?_
      refine cg_getA (pc := 58) X fo_X0_38 dX0_breath_58 (fun v10 => ?_)
      refine g_bD_v (pc := 61) X (cs := [1]) (As := [.ref v10]) (rest := []) (b := v9) (n := 1) dX0_breath_61 rfl rfl (Nat.le_of_ble_eq_true rfl) (fun fl13 ci14 fs15 hs16 hci17 r u h => ?_) (fun r11 t12 => ?_)
      · obtain rfl := List.mem_singleton.mp hci17
        exact ⟨_, _, _, yX1_takes, _, _, _, 7, 152, rfl, kX1_takes hex h, Or.inl (cwV 1 X.2.2.2.2.1 (lw_V q827 q828 q829 q71 q830) rfl rfl rfl dmV_X1_takes ⟨Nat.le_of_ble_eq_true rfl, Nat.le_of_ble_eq_true rfl⟩)⟩
      refine g_aload_n (pc := 64) X 0 dX0_breath_64 rfl rfl ?_
      refine cg_getA (pc := 65) X fo_X0_213 dX0_breath_65 (fun v18 => ?_)
      refine cg_getA (pc := 68) X fo_X0_138 dX0_breath_68 (fun v19 => ?_)
      refine g_iload (pc := 71) X 5 dX0_breath_71 rfl ?_
      refine g_bipush (pc := 73) X 12 dX0_breath_73 rfl ?_
      refine cg_bast (pc := 75) X dX0_breath_75 (fun t20 => ?_)
      refine g_aload_n (pc := 76) X 0 dX0_breath_76 rfl rfl ?_
      refine g_iload_n (pc := 77) X 2 dX0_breath_77 rfl rfl ?_
      refine g_bD_v (pc := 78) X (cs := [0]) (As := [.int x2]) (rest := []) (b := h0) (n := 1) dX0_breath_78 rfl rfl (Nat.le_of_ble_eq_true rfl) (fun fl23 ci24 fs25 hs26 hci27 r u h => ?_) (fun r21 t22 => ?_)
      · obtain rfl := List.mem_singleton.mp hci27
        exact ⟨_, _, _, yX0_goOn, _, _, _, 19, 403, rfl, kX0_goOn hex h, Or.inl (cwV 1 X.2.2.2.2.1 (lw_V q861 q863 qs8 q70 q864) rfl rfl rfl dmV_X0_goOn ⟨Nat.le_of_ble_eq_true rfl, Nat.le_of_ble_eq_true rfl⟩)⟩
      refine g_aload_n (pc := 81) X 0 dX0_breath_81 rfl rfl ?_
      refine cg_getA (pc := 82) X fo_X0_213 dX0_breath_82 (fun v28 => ?_)
      refine g_iload_n (pc := 85) X 1 dX0_breath_85 rfl rfl ?_
      refine g_bD_a (pc := 86) X (cs := [1]) (As := [.int x1]) (rest := []) (b := v28) (n := 1) dX0_breath_86 rfl rfl (Nat.le_of_ble_eq_true rfl) (fun fl31 ci32 fs33 hs34 hci35 r u h => ?_) (fun r29 t30 => ?_)
      · obtain rfl := List.mem_singleton.mp hci35
        exact ⟨_, _, _, yX1_clock, _, _, _, 3, 64, rfl, kX1_clock hex h, Or.inl (cwV 1 X.2.2.2.2.1 (lw_V q373 q374 q375 q71 q376) rfl rfl rfl dmV_X1_clock ⟨Nat.le_of_ble_eq_true rfl, Nat.le_of_ble_eq_true rfl⟩)⟩
      refine cg_getI (pc := 89) X fo_X0_116 dX0_breath_89 (fun v36 => ?_)
      refine g_iload_n (pc := 92) X 3 dX0_breath_92 rfl rfl ?_
      refine g_icmp_gt (pc := 93) X 99 dX0_breath_93 (by decide) ?_ ?_
      · refine g_aload_n (pc := 99) X 0 dX0_breath_99 rfl rfl ?_
        refine cg_getA (pc := 100) X fo_X0_213 dX0_breath_100 (fun v37 => ?_)
        refine g_iload_n (pc := 103) X 1 dX0_breath_103 rfl rfl ?_
        refine g_bD_a (pc := 104) X (cs := [1]) (As := [.int x1]) (rest := []) (b := v37) (n := 1) dX0_breath_104 rfl rfl (Nat.le_of_ble_eq_true rfl) (fun fl40 ci41 fs42 hs43 hci44 r u h => ?_) (fun r38 t39 => ?_)
        · obtain rfl := List.mem_singleton.mp hci44
          exact ⟨_, _, _, yX1_clock, _, _, _, 3, 64, rfl, kX1_clock hex h, Or.inl (cwV 1 X.2.2.2.2.1 (lw_V q373 q374 q375 q71 q376) rfl rfl rfl dmV_X1_clock ⟨Nat.le_of_ble_eq_true rfl, Nat.le_of_ble_eq_true rfl⟩)⟩
        refine cg_getI (pc := 107) X fo_X0_116 dX0_breath_107 (fun v45 => ?_)
        refine g_istore_n (pc := 110) X (lv' := [(3, .int v45), (0, .ref h0), (1, .int x1), (2, .int x2), (4, .int x4), (5, .int x5)]) dX0_breath_110 rfl (by decide) rfl ?_
        refine g_iload (pc := 111) X 5 dX0_breath_111 rfl ?_
        refine g_istore (pc := 113) X (lv' := [(4, .int x5), (3, .int v45), (0, .ref h0), (1, .int x1), (2, .int x2), (5, .int x5)]) dX0_breath_113 (by decide) rfl ?_
        exact g_lv (pc := 115) (lv' := [(0, .ref h0), (1, .int x1), (2, .int x2), (3, .int v45), (4, .int x5), (5, .int x5)]) [2, 3, 4, 1, 0, 5] rfl (wX0_breath_115 hex X hr (fun a0 a1 a2 a3 a4 a5 a6 => ih a0 a1 a2 a3 a4 a5 a6) h0 x1 x2 v45 x5 x5 t39)
      · refine g_goto (pc := 96) X 115 dX0_breath_96 (by decide) ?_
        exact g_lv (pc := 115) (lv' := [(0, .ref h0), (1, .int x1), (2, .int x2), (3, .int x3), (4, .int x4), (5, .int x5)]) [0, 1, 2, 3, 4, 5] rfl (wX0_breath_115 hex X hr (fun a0 a1 a2 a3 a4 a5 a6 => ih a0 a1 a2 a3 a4 a5 a6) h0 x1 x2 x3 x4 x5 t30)
noncomputable def fX0_breath (ex : Nat → Option Nat) (z : Nat) (h0 : Nat) (x1 : Int32) (x2 : Int32) (t : St) : Option (Int32 × St) := ccast [0] t h0 (gb (fX0_isClock ex (z + t.2.1) h0 x1 (t.1, 0, 0)) t fun r1 t2 => if r1 = 0 then some ((-1), t2) else gb (fX0_isFew ex (z + t2.2.1) x2 (t2.1, 0, 0)) t2 fun r8 t9 => if r8 = 0 then some ((-1), t9) else ccast [0] t9 h0 (gb (fX0_runs ex (z + t9.2.1) h0 x2 (t9.1, 0, 0)) t9 fun _ t11 => cgA [0] 1 t11 h0 fun v17 => ccast [1] t11 v17 (gb (fX1_clock ex (z + t11.2.1) v17 x1 (t11.1, 0, 0)) t11 fun r18 t19 => cgI [4, 5, 6, 7, 8, 9] 4 t19 r18 fun v25 => fX0_breath_41 ex z 1000 h0 x1 x2 v25 (-4) 0 t19)))
set_option maxHeartbeats 4000000 in
theorem wX0_breath {rF : Int32} (hex : ex = Γ.2.2.2.2) (X : g_X Γ p s m args meth c cX0_breath 6 RX0) (hr : meth.sig.returnType = (some .int)) (h0 : Nat) (x1 : Int32) (x2 : Int32) (t : St) : Wf Γ p l e 21 446 s m args below meth c 6 (g_ι z) v_i rF tF 0 [(0, .ref h0), (1, .int x1), (2, .int x2)] [] t (fX0_breath ex z h0 x1 x2 t) := by
  unfold fX0_breath
  refine g_aload_n (pc := 0) X 0 dX0_breath_0 rfl rfl ?_
  refine g_iload_n (pc := 1) X 1 dX0_breath_1 rfl rfl ?_
  refine g_bD_i (pc := 2) X (cs := [0]) (As := [.int x1]) (rest := []) (b := h0) (n := 1) dX0_breath_2 rfl rfl (Nat.le_of_ble_eq_true rfl) (fun fl3 ci4 fs5 hs6 hci7 r u h => ?_) (fun r1 t2 => ?_)
  · obtain rfl := List.mem_singleton.mp hci7
    exact ⟨_, _, _, yX0_isClock, _, _, _, 2, 40, rfl, kX0_isClock hex h, Or.inl (cwV 1 X.2.2.2.2.1 (lw_V q368 q370 qs4 q70 q372) rfl rfl rfl dmV_X0_isClock ⟨Nat.le_of_ble_eq_true rfl, Nat.le_of_ble_eq_true rfl⟩)⟩
  refine g_if_eq (pc := 5) X 15 dX0_breath_5 (by decide) ?_ ?_
  · refine g_iconst (pc := 15) X (-1) dX0_breath_15 rfl ?_
    exact g_iret (pc := 16) X hr dX0_breath_16
  · refine g_iload_n (pc := 8) X 2 dX0_breath_8 rfl rfl ?_
    refine g_bS_i (pc := 9) X (y := yX0_isFew) (As := [.int x2]) (rest := []) (fr' := 1) (lo' := 25) (fun _ => va_cwS 1 X.2.2.2.2.1 (lw_S q819 q820 q70 q821) rfl rfl rfl dmS_X0_isFew ⟨Nat.le_of_ble_eq_true rfl, Nat.le_of_ble_eq_true rfl⟩) dX0_breath_9 rfl rfl (Nat.le_of_ble_eq_true rfl) (fun r u h => kX0_isFew hex h) (fun r8 t9 => ?_)
    refine g_if_ne (pc := 12) X 17 dX0_breath_12 (by decide) ?_ ?_
    · refine g_aload_n (pc := 17) X 0 dX0_breath_17 rfl rfl ?_
      refine g_iload_n (pc := 18) X 2 dX0_breath_18 rfl rfl ?_
      refine g_bD_v (pc := 19) X (cs := [0]) (As := [.int x2]) (rest := []) (b := h0) (n := 1) dX0_breath_19 rfl rfl (Nat.le_of_ble_eq_true rfl) (fun fl12 ci13 fs14 hs15 hci16 r u h => ?_) (fun r10 t11 => ?_)
      · obtain rfl := List.mem_singleton.mp hci16
        exact ⟨_, _, _, yX0_runs, _, _, _, 20, 425, rfl, kX0_runs hex h, Or.inl (cwV 1 X.2.2.2.2.1 (lw_V q823 q825 qs7 q70 q826) rfl rfl rfl dmV_X0_runs ⟨Nat.le_of_ble_eq_true rfl, Nat.le_of_ble_eq_true rfl⟩)⟩
      refine g_aload_n (pc := 22) X 0 dX0_breath_22 rfl rfl ?_
      refine cg_getA (pc := 23) X fo_X0_213 dX0_breath_23 (fun v17 => ?_)
      refine g_iload_n (pc := 26) X 1 dX0_breath_26 rfl rfl ?_
      refine g_bD_a (pc := 27) X (cs := [1]) (As := [.int x1]) (rest := []) (b := v17) (n := 1) dX0_breath_27 rfl rfl (Nat.le_of_ble_eq_true rfl) (fun fl20 ci21 fs22 hs23 hci24 r u h => ?_) (fun r18 t19 => ?_)
      · obtain rfl := List.mem_singleton.mp hci24
        exact ⟨_, _, _, yX1_clock, _, _, _, 3, 64, rfl, kX1_clock hex h, Or.inl (cwV 1 X.2.2.2.2.1 (lw_V q373 q374 q375 q71 q376) rfl rfl rfl dmV_X1_clock ⟨Nat.le_of_ble_eq_true rfl, Nat.le_of_ble_eq_true rfl⟩)⟩
      refine cg_getI (pc := 30) X fo_X0_116 dX0_breath_30 (fun v25 => ?_)
      refine g_istore_n (pc := 33) X (lv' := [(3, .int v25), (0, .ref h0), (1, .int x1), (2, .int x2)]) dX0_breath_33 rfl (by decide) rfl ?_
      refine g_bipush (pc := 34) X (-4) dX0_breath_34 rfl ?_
      refine g_istore (pc := 36) X (lv' := [(4, .int (-4)), (3, .int v25), (0, .ref h0), (1, .int x1), (2, .int x2)]) dX0_breath_36 (by decide) rfl ?_
      refine g_iconst (pc := 38) X 0 dX0_breath_38 rfl ?_
      refine g_istore (pc := 39) X (lv' := [(5, .int 0), (4, .int (-4)), (3, .int v25), (0, .ref h0), (1, .int x1), (2, .int x2)]) dX0_breath_39 (by decide) rfl ?_
      exact g_lv (pc := 41) (lv' := [(0, .ref h0), (1, .int x1), (2, .int x2), (3, .int v25), (4, .int (-4)), (5, .int 0)]) [3, 4, 5, 2, 1, 0] rfl (wX0_breath_41 hex X hr 1000 h0 x1 x2 v25 (-4) 0 t19)
    · refine g_iconst (pc := 15) X (-1) dX0_breath_15 rfl ?_
      exact g_iret (pc := 16) X hr dX0_breath_16
theorem kX0_breath {ex : Nat → Option Nat} {z : Nat} {h0 : Nat} {x1 : Int32} {x2 : Int32} {σ : Sg} {r : Int32} {u : St} (hex : ex = Γ.2.2.2.2) (h : fX0_breath ex z h0 x1 x2 (σ, 0, 0) = some (r, u)) : g_C Γ l yX0_breath cX0_breath 6 (some .int) 21 446 [.ref h0, .int x1, .int x2] σ z v_i r (g_ι z u) :=
  g_met (ι := g_ι z) (t := (σ, 0, 0)) [.ref h0, .int x1, .int x2] (by decide) (Nat.le_of_ble_eq_true rfl) h rfl (fun p e s m args below meth c X hr hn => wX0_breath hex X hr h0 x1 x2 (σ, 0, 0))
end CP
abbrev cX0_spans : ByteArray := prog_1_method_42_code
def yX0_spans : MethodName := ⟨RX0, "spans", "(II)I"⟩
def dkwX0_spans_3 : List UInt8 := [167, 255, 218, 29, 172]
abbrev dktX0_spans_3 : List UInt8 := dkwX0_spans_3 ++ []
def dkwX0_spans_2 : List UInt8 := [154, 0, 12, 29, 21, 5, 184, 1, 4, 167, 0, 9, 29, 21, 5, 184, 1, 9, 62, 132, 4, 1]
abbrev dktX0_spans_2 : List UInt8 := dkwX0_spans_2 ++ dktX0_spans_3
def dkwX0_spans_1 : List UInt8 := [182, 1, 0, 62, 4, 54, 4, 21, 4, 7, 162, 0, 38, 42, 27, 21, 4, 182, 1, 0, 54, 5, 28]
abbrev dktX0_spans_1 : List UInt8 := dkwX0_spans_1 ++ dktX0_spans_2
def dkwX0_spans_0 : List UInt8 := [42, 27, 182, 0, 107, 153, 0, 13, 28, 133, 9, 10, 184, 0, 48, 154, 0, 5, 2, 172, 42, 27, 3]
abbrev dktX0_spans_0 : List UInt8 := dkwX0_spans_0 ++ dktX0_spans_1
theorem dksX0_spans_0 : cX0_spans.data.toList.drop 0 = dktX0_spans_0 := by decide +kernel
theorem dksX0_spans_1 : cX0_spans.data.toList.drop 23 = dktX0_spans_1 := dk_seg dksX0_spans_0 23 rfl rfl
theorem dksX0_spans_2 : cX0_spans.data.toList.drop 46 = dktX0_spans_2 := dk_seg dksX0_spans_1 23 rfl rfl
theorem dksX0_spans_3 : cX0_spans.data.toList.drop 68 = dktX0_spans_3 := dk_seg dksX0_spans_2 22 rfl rfl
theorem dX0_spans_0 : decode cX0_spans 0 = .ok (.aload_n 0, 1) := dk_42 (dk_at dksX0_spans_0 0 rfl rfl)
theorem dX0_spans_1 : decode cX0_spans 1 = .ok (.iload_n 1, 1) := dk_27 (dk_at dksX0_spans_0 1 rfl rfl)
theorem dX0_spans_2 : decode cX0_spans 2 = .ok (.invokevirtual 107, 3) := dk_182 0 107 (dk_at dksX0_spans_0 2 rfl rfl)
theorem dX0_spans_5 : decode cX0_spans 5 = .ok (.ifCond .eq 13, 3) := dk_153 0 13 (dk_at dksX0_spans_0 5 rfl rfl)
theorem dX0_spans_8 : decode cX0_spans 8 = .ok (.iload_n 2, 1) := dk_28 (dk_at dksX0_spans_0 8 rfl rfl)
theorem dX0_spans_9 : decode cX0_spans 9 = .ok (.i2l, 1) := dk_133 (dk_at dksX0_spans_0 9 rfl rfl)
theorem dX0_spans_10 : decode cX0_spans 10 = .ok (.lconst 0, 1) := dk_9 (dk_at dksX0_spans_0 10 rfl rfl)
theorem dX0_spans_11 : decode cX0_spans 11 = .ok (.lconst 1, 1) := dk_10 (dk_at dksX0_spans_0 11 rfl rfl)
theorem dX0_spans_12 : decode cX0_spans 12 = .ok (.invokestatic 48, 3) := dk_184 0 48 (dk_at dksX0_spans_0 12 rfl rfl)
theorem dX0_spans_15 : decode cX0_spans 15 = .ok (.ifCond .ne 5, 3) := dk_154 0 5 (dk_at dksX0_spans_0 15 rfl rfl)
theorem dX0_spans_18 : decode cX0_spans 18 = .ok (.iconst (-1), 1) := dk_2 (dk_at dksX0_spans_0 18 rfl rfl)
theorem dX0_spans_19 : decode cX0_spans 19 = .ok (.ireturn, 1) := dk_172 (dk_at dksX0_spans_0 19 rfl rfl)
theorem dX0_spans_20 : decode cX0_spans 20 = .ok (.aload_n 0, 1) := dk_42 (dk_at dksX0_spans_0 20 rfl rfl)
theorem dX0_spans_21 : decode cX0_spans 21 = .ok (.iload_n 1, 1) := dk_27 (dk_at dksX0_spans_0 21 rfl rfl)
theorem dX0_spans_22 : decode cX0_spans 22 = .ok (.iconst 0, 1) := dk_3 (dk_at dksX0_spans_0 22 rfl rfl)
theorem dX0_spans_23 : decode cX0_spans 23 = .ok (.invokevirtual 256, 3) := dk_182 1 0 (dk_at dksX0_spans_1 0 rfl rfl)
theorem dX0_spans_26 : decode cX0_spans 26 = .ok (.istore_n 3, 1) := dk_62 (dk_at dksX0_spans_1 3 rfl rfl)
theorem dX0_spans_27 : decode cX0_spans 27 = .ok (.iconst 1, 1) := dk_4 (dk_at dksX0_spans_1 4 rfl rfl)
theorem dX0_spans_28 : decode cX0_spans 28 = .ok (.istore 4, 2) := dk_54 4 (dk_at dksX0_spans_1 5 rfl rfl)
theorem dX0_spans_30 : decode cX0_spans 30 = .ok (.iload 4, 2) := dk_21 4 (dk_at dksX0_spans_1 7 rfl rfl)
theorem dX0_spans_32 : decode cX0_spans 32 = .ok (.iconst 4, 1) := dk_7 (dk_at dksX0_spans_1 9 rfl rfl)
theorem dX0_spans_33 : decode cX0_spans 33 = .ok (.if_icmp .ge 38, 3) := dk_162 0 38 (dk_at dksX0_spans_1 10 rfl rfl)
theorem dX0_spans_36 : decode cX0_spans 36 = .ok (.aload_n 0, 1) := dk_42 (dk_at dksX0_spans_1 13 rfl rfl)
theorem dX0_spans_37 : decode cX0_spans 37 = .ok (.iload_n 1, 1) := dk_27 (dk_at dksX0_spans_1 14 rfl rfl)
theorem dX0_spans_38 : decode cX0_spans 38 = .ok (.iload 4, 2) := dk_21 4 (dk_at dksX0_spans_1 15 rfl rfl)
theorem dX0_spans_40 : decode cX0_spans 40 = .ok (.invokevirtual 256, 3) := dk_182 1 0 (dk_at dksX0_spans_1 17 rfl rfl)
theorem dX0_spans_43 : decode cX0_spans 43 = .ok (.istore 5, 2) := dk_54 5 (dk_at dksX0_spans_1 20 rfl rfl)
theorem dX0_spans_45 : decode cX0_spans 45 = .ok (.iload_n 2, 1) := dk_28 (dk_at dksX0_spans_1 22 rfl rfl)
theorem dX0_spans_46 : decode cX0_spans 46 = .ok (.ifCond .ne 12, 3) := dk_154 0 12 (dk_at dksX0_spans_2 0 rfl rfl)
theorem dX0_spans_49 : decode cX0_spans 49 = .ok (.iload_n 3, 1) := dk_29 (dk_at dksX0_spans_2 3 rfl rfl)
theorem dX0_spans_50 : decode cX0_spans 50 = .ok (.iload 5, 2) := dk_21 5 (dk_at dksX0_spans_2 4 rfl rfl)
theorem dX0_spans_52 : decode cX0_spans 52 = .ok (.invokestatic 260, 3) := dk_184 1 4 (dk_at dksX0_spans_2 6 rfl rfl)
theorem dX0_spans_55 : decode cX0_spans 55 = .ok (.goto 9, 3) := dk_167 0 9 (dk_at dksX0_spans_2 9 rfl rfl)
theorem dX0_spans_58 : decode cX0_spans 58 = .ok (.iload_n 3, 1) := dk_29 (dk_at dksX0_spans_2 12 rfl rfl)
theorem dX0_spans_59 : decode cX0_spans 59 = .ok (.iload 5, 2) := dk_21 5 (dk_at dksX0_spans_2 13 rfl rfl)
theorem dX0_spans_61 : decode cX0_spans 61 = .ok (.invokestatic 265, 3) := dk_184 1 9 (dk_at dksX0_spans_2 15 rfl rfl)
theorem dX0_spans_64 : decode cX0_spans 64 = .ok (.istore_n 3, 1) := dk_62 (dk_at dksX0_spans_2 18 rfl rfl)
theorem dX0_spans_65 : decode cX0_spans 65 = .ok (.iinc 4 1, 3) := dk_132 4 1 (dk_at dksX0_spans_2 19 rfl rfl)
theorem dX0_spans_68 : decode cX0_spans 68 = .ok (.goto (-38), 3) := dk_167 255 218 (dk_at dksX0_spans_3 0 rfl rfl)
theorem dX0_spans_71 : decode cX0_spans 71 = .ok (.iload_n 3, 1) := dk_29 (dk_at dksX0_spans_3 3 rfl rfl)
theorem dX0_spans_72 : decode cX0_spans 72 = .ok (.ireturn, 1) := dk_172 (dk_at dksX0_spans_3 4 rfl rfl)
theorem dmV_X0_spanBy : yX0_spanBy.cls = RX0 ∧ yX0_spanBy.cls ≠ "java/lang/invoke/MethodHandle" ∧ yX0_spanBy.cls ≠ "java/lang/invoke/VarHandle" ∧ (parseMethodDescriptor yX0_spanBy.desc).map (fun d => d.parameters.length) = some 2 := by decide +kernel
section CP
variable {Γ : Gc} {p : Program} {l : Launch} {e : Env} {s : State} {m : MethodId} {args : Array Value} {below : List Frame} {meth : Method} {c : Code} {ex : Nat → Option Nat} {z : Nat} {tF : St}
noncomputable def fX0_spans_64 (ex : Nat → Option Nat) (z : Nat) (kc30 : Nat → Int32 → Int32 → Int32 → Int32 → St → Option (Int32 × St)) (h0 : Nat) (x1 : Int32) (x2 : Int32) (x4 : Int32) (s0 : Int32) (t : St) : Option (Int32 × St) := kc30 h0 x1 x2 s0 (x4 + 1) t
set_option maxHeartbeats 4000000 in
theorem wX0_spans_64 {rF : Int32} (hex : ex = Γ.2.2.2.2) (X : g_X Γ p s m args meth c cX0_spans 6 RX0) (hr : meth.sig.returnType = (some .int)) {kc30 : Nat → Int32 → Int32 → Int32 → Int32 → St → Option (Int32 × St)} (hk30 : ∀ (h0 : Nat) (x1 : Int32) (x2 : Int32) (x3 : Int32) (x4 : Int32) (t : St), Wf Γ p l e 20 426 s m args below meth c 6 (g_ι z) v_i rF tF 30 [(0, .ref h0), (1, .int x1), (2, .int x2), (3, .int x3), (4, .int x4)] [] t (kc30 h0 x1 x2 x3 x4 t)) (h0 : Nat) (x1 : Int32) (x2 : Int32) (x4 : Int32) (s0 : Int32) (t : St) : Wf Γ p l e 20 426 s m args below meth c 6 (g_ι z) v_i rF tF 64 [(0, .ref h0), (1, .int x1), (2, .int x2), (4, .int x4)] [.int s0] t (fX0_spans_64 ex z kc30 h0 x1 x2 x4 s0 t) := by
  unfold fX0_spans_64
  refine g_istore_n (pc := 64) X (lv' := [(3, .int s0), (0, .ref h0), (1, .int x1), (2, .int x2), (4, .int x4)]) dX0_spans_64 rfl (by decide) rfl ?_
  refine g_iinc (pc := 65) X 1 4 (lv' := [(4, .int (x4 + 1)), (3, .int s0), (0, .ref h0), (1, .int x1), (2, .int x2)]) dX0_spans_65 rfl rfl (by decide) rfl ?_
  refine g_goto (pc := 68) X 30 dX0_spans_68 (by decide) ?_
  exact g_lv (pc := 30) (lv' := [(0, .ref h0), (1, .int x1), (2, .int x2), (3, .int s0), (4, .int (x4 + 1))]) [2, 3, 4, 1, 0] rfl (hk30 h0 x1 x2 s0 (x4 + 1) t)
noncomputable def fX0_spans_30 (ex : Nat → Option Nat) (z : Nat) : Nat → Nat → Int32 → Int32 → Int32 → Int32 → St → Option (Int32 × St)
  | 0, _, _, _, _, _, _ => none
  | n + 1, h0, x1, x2, x3, x4, t => if 4 ≤ x4 then some (x3, t) else ccast [0] t h0 (gb (fX0_spanBy ex (z + t.2.1) h0 x1 x4 (t.1, 0, 0)) t fun r1 t2 => if x2 = 0 then gb (fJ4_min ex (z + t2.2.1) x3 r1 (t2.1, 0, 0)) t2 fun r10 t11 => fX0_spans_64 ex z (fun a0 a1 a2 a3 a4 a5 => fX0_spans_30 ex z n a0 a1 a2 a3 a4 a5) h0 x1 x2 x4 r10 t11 else gb (fJ4_max ex (z + t2.2.1) x3 r1 (t2.1, 0, 0)) t2 fun r8 t9 => fX0_spans_64 ex z (fun a0 a1 a2 a3 a4 a5 => fX0_spans_30 ex z n a0 a1 a2 a3 a4 a5) h0 x1 x2 x4 r8 t9)
set_option maxHeartbeats 4000000 in
theorem wX0_spans_30 {rF : Int32} (hex : ex = Γ.2.2.2.2) (X : g_X Γ p s m args meth c cX0_spans 6 RX0) (hr : meth.sig.returnType = (some .int)) (n : Nat) : ∀ (h0 : Nat) (x1 : Int32) (x2 : Int32) (x3 : Int32) (x4 : Int32) (t : St), Wf Γ p l e 20 426 s m args below meth c 6 (g_ι z) v_i rF tF 30 [(0, .ref h0), (1, .int x1), (2, .int x2), (3, .int x3), (4, .int x4)] [] t (fX0_spans_30 ex z n h0 x1 x2 x3 x4 t) := by
  induction n with
  | zero => intro h0 x1 x2 x3 x4 t; exact g_none
  | succ n ih =>
    intro h0 x1 x2 x3 x4 t
    rw [fX0_spans_30]
    refine g_iload (pc := 30) X 4 dX0_spans_30 rfl ?_
    refine g_iconst (pc := 32) X 4 dX0_spans_32 rfl ?_
    refine g_icmp_ge (pc := 33) X 71 dX0_spans_33 (by decide) ?_ ?_
    · refine g_iload_n (pc := 71) X 3 dX0_spans_71 rfl rfl ?_
      exact g_iret (pc := 72) X hr dX0_spans_72
    · refine g_aload_n (pc := 36) X 0 dX0_spans_36 rfl rfl ?_
      refine g_iload_n (pc := 37) X 1 dX0_spans_37 rfl rfl ?_
      refine g_iload (pc := 38) X 4 dX0_spans_38 rfl ?_
      refine g_bD_i (pc := 40) X (cs := [0]) (As := [.int x1, .int x4]) (rest := []) (b := h0) (n := 2) dX0_spans_40 rfl rfl (Nat.le_of_ble_eq_true rfl) (fun fl3 ci4 fs5 hs6 hci7 r u h => ?_) (fun r1 t2 => ?_)
      · obtain rfl := List.mem_singleton.mp hci7
        exact ⟨_, _, _, yX0_spanBy, _, _, _, 19, 403, rfl, kX0_spanBy hex h, Or.inl (cwV 2 X.2.2.2.2.1 (lw_V q923 q925 qs12 q70 q926) rfl rfl rfl dmV_X0_spanBy ⟨Nat.le_of_ble_eq_true rfl, Nat.le_of_ble_eq_true rfl⟩)⟩
      refine g_istore (pc := 43) X (lv' := [(5, .int r1), (0, .ref h0), (1, .int x1), (2, .int x2), (3, .int x3), (4, .int x4)]) dX0_spans_43 (by decide) rfl ?_
      refine g_iload_n (pc := 45) X 3 dX0_spans_45 rfl rfl ?_
      refine g_if_ne (pc := 46) X 58 dX0_spans_46 (by decide) ?_ ?_
      · refine g_iload_n (pc := 58) X 4 dX0_spans_58 rfl rfl ?_
        refine g_iload (pc := 59) X 0 dX0_spans_59 rfl ?_
        refine g_bS_i (pc := 61) X (y := yJ4_max) (As := [.int x3, .int r1]) (rest := []) (fr' := 0) (lo' := 0) (fun _ => va_cwS 2 X.2.2.2.2.1 (lw_S q928 q277 q84 q278) rfl rfl rfl dmS_J4_max ⟨Nat.le_of_ble_eq_true rfl, Nat.le_of_ble_eq_true rfl⟩) dX0_spans_61 rfl rfl (Nat.le_of_ble_eq_true rfl) (fun r u h => kJ4_max hex h) (fun r8 t9 => ?_)
        exact g_lv (pc := 64) (lv' := [(0, .ref h0), (1, .int x1), (2, .int x2), (4, .int x4)]) [1, 2, 3, 5] rfl (wX0_spans_64 hex X hr (fun a0 a1 a2 a3 a4 a5 => ih a0 a1 a2 a3 a4 a5) h0 x1 x2 x4 r8 t9)
      · refine g_iload_n (pc := 49) X 4 dX0_spans_49 rfl rfl ?_
        refine g_iload (pc := 50) X 0 dX0_spans_50 rfl ?_
        refine g_bS_i (pc := 52) X (y := yJ4_min) (As := [.int x3, .int r1]) (rest := []) (fr' := 0) (lo' := 0) (fun _ => va_cwS 2 X.2.2.2.2.1 (lw_S q927 q324 q84 q325) rfl rfl rfl dmS_J4_min ⟨Nat.le_of_ble_eq_true rfl, Nat.le_of_ble_eq_true rfl⟩) dX0_spans_52 rfl rfl (Nat.le_of_ble_eq_true rfl) (fun r u h => kJ4_min hex h) (fun r10 t11 => ?_)
        refine g_goto (pc := 55) X 64 dX0_spans_55 (by decide) ?_
        exact g_lv (pc := 64) (lv' := [(0, .ref h0), (1, .int x1), (2, .int x2), (4, .int x4)]) [1, 2, 3, 5] rfl (wX0_spans_64 hex X hr (fun a0 a1 a2 a3 a4 a5 => ih a0 a1 a2 a3 a4 a5) h0 x1 x2 x4 r10 t11)
noncomputable def fX0_spans (ex : Nat → Option Nat) (z : Nat) (h0 : Nat) (x1 : Int32) (x2 : Int32) (t : St) : Option (Int32 × St) := ccast [0] t h0 (gb (fX0_isClock ex (z + t.2.1) h0 x1 (t.1, 0, 0)) t fun r1 t2 => if r1 = 0 then some ((-1), t2) else gb (fX0_in ex (z + t2.2.1) x2.toInt64 0 1 (t2.1, 0, 0)) t2 fun r8 t9 => if r8 = 0 then some ((-1), t9) else ccast [0] t9 h0 (gb (fX0_spanBy ex (z + t9.2.1) h0 x1 0 (t9.1, 0, 0)) t9 fun r10 t11 => fX0_spans_30 ex z 1000 h0 x1 x2 r10 1 t11))
set_option maxHeartbeats 4000000 in
theorem wX0_spans {rF : Int32} (hex : ex = Γ.2.2.2.2) (X : g_X Γ p s m args meth c cX0_spans 6 RX0) (hr : meth.sig.returnType = (some .int)) (h0 : Nat) (x1 : Int32) (x2 : Int32) (t : St) : Wf Γ p l e 20 426 s m args below meth c 6 (g_ι z) v_i rF tF 0 [(0, .ref h0), (1, .int x1), (2, .int x2)] [] t (fX0_spans ex z h0 x1 x2 t) := by
  unfold fX0_spans
  refine g_aload_n (pc := 0) X 0 dX0_spans_0 rfl rfl ?_
  refine g_iload_n (pc := 1) X 1 dX0_spans_1 rfl rfl ?_
  refine g_bD_i (pc := 2) X (cs := [0]) (As := [.int x1]) (rest := []) (b := h0) (n := 1) dX0_spans_2 rfl rfl (Nat.le_of_ble_eq_true rfl) (fun fl3 ci4 fs5 hs6 hci7 r u h => ?_) (fun r1 t2 => ?_)
  · obtain rfl := List.mem_singleton.mp hci7
    exact ⟨_, _, _, yX0_isClock, _, _, _, 2, 40, rfl, kX0_isClock hex h, Or.inl (cwV 1 X.2.2.2.2.1 (lw_V q368 q370 qs4 q70 q372) rfl rfl rfl dmV_X0_isClock ⟨Nat.le_of_ble_eq_true rfl, Nat.le_of_ble_eq_true rfl⟩)⟩
  refine g_if_eq (pc := 5) X 18 dX0_spans_5 (by decide) ?_ ?_
  · refine g_iconst (pc := 18) X (-1) dX0_spans_18 rfl ?_
    exact g_iret (pc := 19) X hr dX0_spans_19
  · refine g_iload_n (pc := 8) X 2 dX0_spans_8 rfl rfl ?_
    refine g_i2l (pc := 9) X dX0_spans_9 ?_
    refine g_lconst (pc := 10) X 0 dX0_spans_10 rfl ?_
    refine g_lconst (pc := 11) X 1 dX0_spans_11 rfl ?_
    refine g_bS_i (pc := 12) X (y := yX0_in) (As := [.long x2.toInt64, .long 0, .long 1]) (rest := []) (fr' := 0) (lo' := 0) (fun _ => va_cwS 3 X.2.2.2.2.1 (lw_S q122 q123 q70 q124) rfl rfl rfl dmS_X0_in ⟨Nat.le_of_ble_eq_true rfl, Nat.le_of_ble_eq_true rfl⟩) dX0_spans_12 rfl rfl (Nat.le_of_ble_eq_true rfl) (fun r u h => kX0_in hex h) (fun r8 t9 => ?_)
    refine g_if_ne (pc := 15) X 20 dX0_spans_15 (by decide) ?_ ?_
    · refine g_aload_n (pc := 20) X 0 dX0_spans_20 rfl rfl ?_
      refine g_iload_n (pc := 21) X 1 dX0_spans_21 rfl rfl ?_
      refine g_iconst (pc := 22) X 0 dX0_spans_22 rfl ?_
      refine g_bD_i (pc := 23) X (cs := [0]) (As := [.int x1, .int 0]) (rest := []) (b := h0) (n := 2) dX0_spans_23 rfl rfl (Nat.le_of_ble_eq_true rfl) (fun fl12 ci13 fs14 hs15 hci16 r u h => ?_) (fun r10 t11 => ?_)
      · obtain rfl := List.mem_singleton.mp hci16
        exact ⟨_, _, _, yX0_spanBy, _, _, _, 19, 403, rfl, kX0_spanBy hex h, Or.inl (cwV 2 X.2.2.2.2.1 (lw_V q923 q925 qs12 q70 q926) rfl rfl rfl dmV_X0_spanBy ⟨Nat.le_of_ble_eq_true rfl, Nat.le_of_ble_eq_true rfl⟩)⟩
      refine g_istore_n (pc := 26) X (lv' := [(3, .int r10), (0, .ref h0), (1, .int x1), (2, .int x2)]) dX0_spans_26 rfl (by decide) rfl ?_
      refine g_iconst (pc := 27) X 1 dX0_spans_27 rfl ?_
      refine g_istore (pc := 28) X (lv' := [(4, .int 1), (3, .int r10), (0, .ref h0), (1, .int x1), (2, .int x2)]) dX0_spans_28 (by decide) rfl ?_
      exact g_lv (pc := 30) (lv' := [(0, .ref h0), (1, .int x1), (2, .int x2), (3, .int r10), (4, .int 1)]) [2, 3, 4, 1, 0] rfl (wX0_spans_30 hex X hr 1000 h0 x1 x2 r10 1 t11)
    · refine g_iconst (pc := 18) X (-1) dX0_spans_18 rfl ?_
      exact g_iret (pc := 19) X hr dX0_spans_19
theorem kX0_spans {ex : Nat → Option Nat} {z : Nat} {h0 : Nat} {x1 : Int32} {x2 : Int32} {σ : Sg} {r : Int32} {u : St} (hex : ex = Γ.2.2.2.2) (h : fX0_spans ex z h0 x1 x2 (σ, 0, 0) = some (r, u)) : g_C Γ l yX0_spans cX0_spans 6 (some .int) 20 426 [.ref h0, .int x1, .int x2] σ z v_i r (g_ι z u) :=
  g_met (ι := g_ι z) (t := (σ, 0, 0)) [.ref h0, .int x1, .int x2] (by decide) (Nat.le_of_ble_eq_true rfl) h rfl (fun p e s m args below meth c X hr hn => wX0_spans hex X hr h0 x1 x2 (σ, 0, 0))
end CP
abbrev cX0_behind : ByteArray := prog_1_method_27_code
def yX0_behind : MethodName := ⟨RX0, "behind", "(III)I"⟩
def dkwX0_behind_2 : List UInt8 := [180, 0, 116, 167, 0, 18, 42, 180, 0, 213, 42, 180, 0, 213, 27, 182, 0, 111, 182, 0, 165, 172]
abbrev dktX0_behind_2 : List UInt8 := dkwX0_behind_2 ++ []
def dkwX0_behind_1 : List UInt8 := [154, 0, 5, 2, 172, 42, 28, 182, 0, 226, 29, 154, 0, 17, 42, 180, 0, 213, 27, 182, 0, 111]
abbrev dktX0_behind_1 : List UInt8 := dkwX0_behind_1 ++ dktX0_behind_2
def dkwX0_behind_0 : List UInt8 := [42, 27, 182, 0, 107, 153, 0, 20, 28, 184, 0, 223, 153, 0, 13, 29, 133, 9, 10, 184, 0, 48]
abbrev dktX0_behind_0 : List UInt8 := dkwX0_behind_0 ++ dktX0_behind_1
theorem dksX0_behind_0 : cX0_behind.data.toList.drop 0 = dktX0_behind_0 := by decide +kernel
theorem dksX0_behind_1 : cX0_behind.data.toList.drop 22 = dktX0_behind_1 := dk_seg dksX0_behind_0 22 rfl rfl
theorem dksX0_behind_2 : cX0_behind.data.toList.drop 44 = dktX0_behind_2 := dk_seg dksX0_behind_1 22 rfl rfl
theorem dX0_behind_0 : decode cX0_behind 0 = .ok (.aload_n 0, 1) := dk_42 (dk_at dksX0_behind_0 0 rfl rfl)
theorem dX0_behind_1 : decode cX0_behind 1 = .ok (.iload_n 1, 1) := dk_27 (dk_at dksX0_behind_0 1 rfl rfl)
theorem dX0_behind_2 : decode cX0_behind 2 = .ok (.invokevirtual 107, 3) := dk_182 0 107 (dk_at dksX0_behind_0 2 rfl rfl)
theorem dX0_behind_5 : decode cX0_behind 5 = .ok (.ifCond .eq 20, 3) := dk_153 0 20 (dk_at dksX0_behind_0 5 rfl rfl)
theorem dX0_behind_8 : decode cX0_behind 8 = .ok (.iload_n 2, 1) := dk_28 (dk_at dksX0_behind_0 8 rfl rfl)
theorem dX0_behind_9 : decode cX0_behind 9 = .ok (.invokestatic 223, 3) := dk_184 0 223 (dk_at dksX0_behind_0 9 rfl rfl)
theorem dX0_behind_12 : decode cX0_behind 12 = .ok (.ifCond .eq 13, 3) := dk_153 0 13 (dk_at dksX0_behind_0 12 rfl rfl)
theorem dX0_behind_15 : decode cX0_behind 15 = .ok (.iload_n 3, 1) := dk_29 (dk_at dksX0_behind_0 15 rfl rfl)
theorem dX0_behind_16 : decode cX0_behind 16 = .ok (.i2l, 1) := dk_133 (dk_at dksX0_behind_0 16 rfl rfl)
theorem dX0_behind_17 : decode cX0_behind 17 = .ok (.lconst 0, 1) := dk_9 (dk_at dksX0_behind_0 17 rfl rfl)
theorem dX0_behind_18 : decode cX0_behind 18 = .ok (.lconst 1, 1) := dk_10 (dk_at dksX0_behind_0 18 rfl rfl)
theorem dX0_behind_19 : decode cX0_behind 19 = .ok (.invokestatic 48, 3) := dk_184 0 48 (dk_at dksX0_behind_0 19 rfl rfl)
theorem dX0_behind_22 : decode cX0_behind 22 = .ok (.ifCond .ne 5, 3) := dk_154 0 5 (dk_at dksX0_behind_1 0 rfl rfl)
theorem dX0_behind_25 : decode cX0_behind 25 = .ok (.iconst (-1), 1) := dk_2 (dk_at dksX0_behind_1 3 rfl rfl)
theorem dX0_behind_26 : decode cX0_behind 26 = .ok (.ireturn, 1) := dk_172 (dk_at dksX0_behind_1 4 rfl rfl)
theorem dX0_behind_27 : decode cX0_behind 27 = .ok (.aload_n 0, 1) := dk_42 (dk_at dksX0_behind_1 5 rfl rfl)
theorem dX0_behind_28 : decode cX0_behind 28 = .ok (.iload_n 2, 1) := dk_28 (dk_at dksX0_behind_1 6 rfl rfl)
theorem dX0_behind_29 : decode cX0_behind 29 = .ok (.invokevirtual 226, 3) := dk_182 0 226 (dk_at dksX0_behind_1 7 rfl rfl)
theorem dX0_behind_32 : decode cX0_behind 32 = .ok (.iload_n 3, 1) := dk_29 (dk_at dksX0_behind_1 10 rfl rfl)
theorem dX0_behind_33 : decode cX0_behind 33 = .ok (.ifCond .ne 17, 3) := dk_154 0 17 (dk_at dksX0_behind_1 11 rfl rfl)
theorem dX0_behind_36 : decode cX0_behind 36 = .ok (.aload_n 0, 1) := dk_42 (dk_at dksX0_behind_1 14 rfl rfl)
theorem dX0_behind_37 : decode cX0_behind 37 = .ok (.getfield 213, 3) := dk_180 0 213 (dk_at dksX0_behind_1 15 rfl rfl)
theorem dX0_behind_40 : decode cX0_behind 40 = .ok (.iload_n 1, 1) := dk_27 (dk_at dksX0_behind_1 18 rfl rfl)
theorem dX0_behind_41 : decode cX0_behind 41 = .ok (.invokevirtual 111, 3) := dk_182 0 111 (dk_at dksX0_behind_1 19 rfl rfl)
theorem dX0_behind_44 : decode cX0_behind 44 = .ok (.getfield 116, 3) := dk_180 0 116 (dk_at dksX0_behind_2 0 rfl rfl)
theorem dX0_behind_47 : decode cX0_behind 47 = .ok (.goto 18, 3) := dk_167 0 18 (dk_at dksX0_behind_2 3 rfl rfl)
theorem dX0_behind_50 : decode cX0_behind 50 = .ok (.aload_n 0, 1) := dk_42 (dk_at dksX0_behind_2 6 rfl rfl)
theorem dX0_behind_51 : decode cX0_behind 51 = .ok (.getfield 213, 3) := dk_180 0 213 (dk_at dksX0_behind_2 7 rfl rfl)
theorem dX0_behind_54 : decode cX0_behind 54 = .ok (.aload_n 0, 1) := dk_42 (dk_at dksX0_behind_2 10 rfl rfl)
theorem dX0_behind_55 : decode cX0_behind 55 = .ok (.getfield 213, 3) := dk_180 0 213 (dk_at dksX0_behind_2 11 rfl rfl)
theorem dX0_behind_58 : decode cX0_behind 58 = .ok (.iload_n 1, 1) := dk_27 (dk_at dksX0_behind_2 14 rfl rfl)
theorem dX0_behind_59 : decode cX0_behind 59 = .ok (.invokevirtual 111, 3) := dk_182 0 111 (dk_at dksX0_behind_2 15 rfl rfl)
theorem dX0_behind_62 : decode cX0_behind 62 = .ok (.invokevirtual 165, 3) := dk_182 0 165 (dk_at dksX0_behind_2 18 rfl rfl)
theorem dX0_behind_65 : decode cX0_behind 65 = .ok (.ireturn, 1) := dk_172 (dk_at dksX0_behind_2 21 rfl rfl)
section CP
variable {Γ : Gc} {p : Program} {l : Launch} {e : Env} {s : State} {m : MethodId} {args : Array Value} {below : List Frame} {meth : Method} {c : Code} {ex : Nat → Option Nat} {z : Nat} {tF : St}
noncomputable def fX0_behind (ex : Nat → Option Nat) (z : Nat) (h0 : Nat) (x1 : Int32) (x2 : Int32) (x3 : Int32) (t : St) : Option (Int32 × St) := ccast [0] t h0 (gb (fX0_isClock ex (z + t.2.1) h0 x1 (t.1, 0, 0)) t fun r1 t2 => if r1 = 0 then some ((-1), t2) else gb (fX0_isFew ex (z + t2.2.1) x2 (t2.1, 0, 0)) t2 fun r8 t9 => if r8 = 0 then some ((-1), t9) else gb (fX0_in ex (z + t9.2.1) x3.toInt64 0 1 (t9.1, 0, 0)) t9 fun r10 t11 => if r10 = 0 then some ((-1), t11) else ccast [0] t11 h0 (gb (fX0_runs ex (z + t11.2.1) h0 x2 (t11.1, 0, 0)) t11 fun _ t13 => if x3 = 0 then cgA [0] 1 t13 h0 fun v35 => ccast [1] t13 v35 (gb (fX1_clock ex (z + t13.2.1) v35 x1 (t13.1, 0, 0)) t13 fun r36 t37 => cgI [4, 5, 6, 7, 8, 9] 4 t37 r36 fun v43 => some (v43, t37)) else cgA [0] 1 t13 h0 fun v19 => cgA [0] 1 t13 h0 fun v20 => ccast [1] t13 v20 (gb (fX1_clock ex (z + t13.2.1) v20 x1 (t13.1, 0, 0)) t13 fun r21 t22 => ccast [1] t22 v19 (gb (fX1_place ex (z + t22.2.1) v19 r21 (t22.1, 0, 0)) t22 fun r28 t29 => some (r28, t29)))))
set_option maxHeartbeats 4000000 in
theorem wX0_behind {rF : Int32} (hex : ex = Γ.2.2.2.2) (X : g_X Γ p s m args meth c cX0_behind 4 RX0) (hr : meth.sig.returnType = (some .int)) (h0 : Nat) (x1 : Int32) (x2 : Int32) (x3 : Int32) (t : St) : Wf Γ p l e 21 446 s m args below meth c 4 (g_ι z) v_i rF tF 0 [(0, .ref h0), (1, .int x1), (2, .int x2), (3, .int x3)] [] t (fX0_behind ex z h0 x1 x2 x3 t) := by
  unfold fX0_behind
  refine g_aload_n (pc := 0) X 0 dX0_behind_0 rfl rfl ?_
  refine g_iload_n (pc := 1) X 1 dX0_behind_1 rfl rfl ?_
  refine g_bD_i (pc := 2) X (cs := [0]) (As := [.int x1]) (rest := []) (b := h0) (n := 1) dX0_behind_2 rfl rfl (Nat.le_of_ble_eq_true rfl) (fun fl3 ci4 fs5 hs6 hci7 r u h => ?_) (fun r1 t2 => ?_)
  · obtain rfl := List.mem_singleton.mp hci7
    exact ⟨_, _, _, yX0_isClock, _, _, _, 2, 40, rfl, kX0_isClock hex h, Or.inl (cwV 1 X.2.2.2.2.1 (lw_V q368 q370 qs4 q70 q372) rfl rfl rfl dmV_X0_isClock ⟨Nat.le_of_ble_eq_true rfl, Nat.le_of_ble_eq_true rfl⟩)⟩
  refine g_if_eq (pc := 5) X 25 dX0_behind_5 (by decide) ?_ ?_
  · refine g_iconst (pc := 25) X (-1) dX0_behind_25 rfl ?_
    exact g_iret (pc := 26) X hr dX0_behind_26
  · refine g_iload_n (pc := 8) X 2 dX0_behind_8 rfl rfl ?_
    refine g_bS_i (pc := 9) X (y := yX0_isFew) (As := [.int x2]) (rest := []) (fr' := 1) (lo' := 25) (fun _ => va_cwS 1 X.2.2.2.2.1 (lw_S q819 q820 q70 q821) rfl rfl rfl dmS_X0_isFew ⟨Nat.le_of_ble_eq_true rfl, Nat.le_of_ble_eq_true rfl⟩) dX0_behind_9 rfl rfl (Nat.le_of_ble_eq_true rfl) (fun r u h => kX0_isFew hex h) (fun r8 t9 => ?_)
    refine g_if_eq (pc := 12) X 25 dX0_behind_12 (by decide) ?_ ?_
    · refine g_iconst (pc := 25) X (-1) dX0_behind_25 rfl ?_
      exact g_iret (pc := 26) X hr dX0_behind_26
    · refine g_iload_n (pc := 15) X 3 dX0_behind_15 rfl rfl ?_
      refine g_i2l (pc := 16) X dX0_behind_16 ?_
      refine g_lconst (pc := 17) X 0 dX0_behind_17 rfl ?_
      refine g_lconst (pc := 18) X 1 dX0_behind_18 rfl ?_
      refine g_bS_i (pc := 19) X (y := yX0_in) (As := [.long x3.toInt64, .long 0, .long 1]) (rest := []) (fr' := 0) (lo' := 0) (fun _ => va_cwS 3 X.2.2.2.2.1 (lw_S q122 q123 q70 q124) rfl rfl rfl dmS_X0_in ⟨Nat.le_of_ble_eq_true rfl, Nat.le_of_ble_eq_true rfl⟩) dX0_behind_19 rfl rfl (Nat.le_of_ble_eq_true rfl) (fun r u h => kX0_in hex h) (fun r10 t11 => ?_)
      refine g_if_ne (pc := 22) X 27 dX0_behind_22 (by decide) ?_ ?_
      · refine g_aload_n (pc := 27) X 0 dX0_behind_27 rfl rfl ?_
        refine g_iload_n (pc := 28) X 2 dX0_behind_28 rfl rfl ?_
        refine g_bD_v (pc := 29) X (cs := [0]) (As := [.int x2]) (rest := []) (b := h0) (n := 1) dX0_behind_29 rfl rfl (Nat.le_of_ble_eq_true rfl) (fun fl14 ci15 fs16 hs17 hci18 r u h => ?_) (fun r12 t13 => ?_)
        · obtain rfl := List.mem_singleton.mp hci18
          exact ⟨_, _, _, yX0_runs, _, _, _, 20, 425, rfl, kX0_runs hex h, Or.inl (cwV 1 X.2.2.2.2.1 (lw_V q823 q825 qs7 q70 q826) rfl rfl rfl dmV_X0_runs ⟨Nat.le_of_ble_eq_true rfl, Nat.le_of_ble_eq_true rfl⟩)⟩
        refine g_iload_n (pc := 32) X 3 dX0_behind_32 rfl rfl ?_
        refine g_if_ne (pc := 33) X 50 dX0_behind_33 (by decide) ?_ ?_
        · refine g_aload_n (pc := 50) X 0 dX0_behind_50 rfl rfl ?_
          refine cg_getA (pc := 51) X fo_X0_213 dX0_behind_51 (fun v19 => ?_)
          refine g_aload_n (pc := 54) X 0 dX0_behind_54 rfl rfl ?_
          refine cg_getA (pc := 55) X fo_X0_213 dX0_behind_55 (fun v20 => ?_)
          refine g_iload_n (pc := 58) X 1 dX0_behind_58 rfl rfl ?_
          refine g_bD_a (pc := 59) X (cs := [1]) (As := [.int x1]) (rest := [.ref v19]) (b := v20) (n := 1) dX0_behind_59 rfl rfl (Nat.le_of_ble_eq_true rfl) (fun fl23 ci24 fs25 hs26 hci27 r u h => ?_) (fun r21 t22 => ?_)
          · obtain rfl := List.mem_singleton.mp hci27
            exact ⟨_, _, _, yX1_clock, _, _, _, 3, 64, rfl, kX1_clock hex h, Or.inl (cwV 1 X.2.2.2.2.1 (lw_V q373 q374 q375 q71 q376) rfl rfl rfl dmV_X1_clock ⟨Nat.le_of_ble_eq_true rfl, Nat.le_of_ble_eq_true rfl⟩)⟩
          refine g_bD_i (pc := 62) X (cs := [1]) (As := [.ref r21]) (rest := []) (b := v19) (n := 1) dX0_behind_62 rfl rfl (Nat.le_of_ble_eq_true rfl) (fun fl30 ci31 fs32 hs33 hci34 r u h => ?_) (fun r28 t29 => ?_)
          · obtain rfl := List.mem_singleton.mp hci34
            exact ⟨_, _, _, yX1_place, _, _, _, 3, 64, rfl, kX1_place hex h, Or.inl (cwV 1 X.2.2.2.2.1 (lw_V q526 q527 q528 q71 q529) rfl rfl rfl dmV_X1_place ⟨Nat.le_of_ble_eq_true rfl, Nat.le_of_ble_eq_true rfl⟩)⟩
          exact g_iret (pc := 65) X hr dX0_behind_65
        · refine g_aload_n (pc := 36) X 0 dX0_behind_36 rfl rfl ?_
          refine cg_getA (pc := 37) X fo_X0_213 dX0_behind_37 (fun v35 => ?_)
          refine g_iload_n (pc := 40) X 1 dX0_behind_40 rfl rfl ?_
          refine g_bD_a (pc := 41) X (cs := [1]) (As := [.int x1]) (rest := []) (b := v35) (n := 1) dX0_behind_41 rfl rfl (Nat.le_of_ble_eq_true rfl) (fun fl38 ci39 fs40 hs41 hci42 r u h => ?_) (fun r36 t37 => ?_)
          · obtain rfl := List.mem_singleton.mp hci42
            exact ⟨_, _, _, yX1_clock, _, _, _, 3, 64, rfl, kX1_clock hex h, Or.inl (cwV 1 X.2.2.2.2.1 (lw_V q373 q374 q375 q71 q376) rfl rfl rfl dmV_X1_clock ⟨Nat.le_of_ble_eq_true rfl, Nat.le_of_ble_eq_true rfl⟩)⟩
          refine cg_getI (pc := 44) X fo_X0_116 dX0_behind_44 (fun v43 => ?_)
          refine g_goto (pc := 47) X 65 dX0_behind_47 (by decide) ?_
          exact g_iret (pc := 65) X hr dX0_behind_65
      · refine g_iconst (pc := 25) X (-1) dX0_behind_25 rfl ?_
        exact g_iret (pc := 26) X hr dX0_behind_26
theorem kX0_behind {ex : Nat → Option Nat} {z : Nat} {h0 : Nat} {x1 : Int32} {x2 : Int32} {x3 : Int32} {σ : Sg} {r : Int32} {u : St} (hex : ex = Γ.2.2.2.2) (h : fX0_behind ex z h0 x1 x2 x3 (σ, 0, 0) = some (r, u)) : g_C Γ l yX0_behind cX0_behind 4 (some .int) 21 446 [.ref h0, .int x1, .int x2, .int x3] σ z v_i r (g_ι z u) :=
  g_met (ι := g_ι z) (t := (σ, 0, 0)) [.ref h0, .int x1, .int x2, .int x3] (by decide) (Nat.le_of_ble_eq_true rfl) h rfl (fun p e s m args below meth c X hr hn => wX0_behind hex X hr h0 x1 x2 x3 (σ, 0, 0))
end CP
