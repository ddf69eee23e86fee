/-! the component, its methods: (virtual), X0_must, X0_letter, X0_number, X0_digit, X0_ends, X0_readSigns (printed by gen/cmain.py) -/
set_option maxRecDepth 100000
theorem q95 : (Jvm.Cond.initialized "LameClocks$Fault") ∈ lw_all := lw_g (lw_at lw_m1 26 rfl) rfl
theorem q1089 : (Jvm.Cond.classLink "LameClocks" (327 : Nat) "LameClocks$Fault") ∈ lw_all := lw_g (lw_at lw_m5 60 rfl) rfl
theorem q1094 : (Jvm.Cond.code ({ cls := "LameClocks", name := "readSigns", desc := "(Ljava/lang/String;II)I" } : Jvm.MethodName) prog_1_method_60_code (5 : Nat) (Option.some Jvm.ClassFile.FieldType.int)) ∈ lw_all := lw_g (lw_at lw_m5 65 rfl) rfl
theorem q1099 : (Jvm.Cond.methodLink "LameClocks" (343 : Nat) ({ cls := "LameClocks", name := "letter", desc := "(Ljava/lang/String;)I" } : Jvm.MethodName)) ∈ lw_all := lw_g (lw_at lw_m5 70 rfl) rfl
theorem q1101 : (Jvm.Cond.instanceMethod ({ cls := "LameClocks", name := "letter", desc := "(Ljava/lang/String;)I" } : Jvm.MethodName)) ∈ lw_all := lw_g (lw_at lw_m5 72 rfl) rfl
theorem q1102 : (Jvm.Cond.code ({ cls := "LameClocks", name := "letter", desc := "(Ljava/lang/String;)I" } : Jvm.MethodName) prog_1_method_56_code (3 : Nat) (Option.some Jvm.ClassFile.FieldType.int)) ∈ lw_all := lw_g (lw_at lw_m5 73 rfl) rfl
theorem q1103 : (Jvm.Cond.methodLink "LameClocks" (331 : Nat) ({ cls := "java/lang/String", name := "indexOf", desc := "(I)I" } : Jvm.MethodName)) ∈ lw_all := lw_g (lw_at lw_m5 74 rfl) rfl
theorem q1104 : (Jvm.Cond.instanceMethod ({ cls := "java/lang/String", name := "indexOf", desc := "(I)I" } : Jvm.MethodName)) ∈ lw_all := lw_g (lw_at lw_m5 75 rfl) rfl
theorem q1105 : (Jvm.Cond.selects "java/lang/String" ({ cls := "java/lang/String", name := "indexOf", desc := "(I)I" } : Jvm.MethodName) ({ cls := "java/lang/String", name := "indexOf", desc := "(I)I" } : Jvm.MethodName)) ∈ lw_all := lw_g (lw_at lw_m5 76 rfl) rfl
theorem q1185 : (Jvm.Cond.instantiable "LameClocks$Fault" (7 : Nat)) ∈ lw_all := lw_g (lw_at lw_m5 156 rfl) rfl
theorem q1193 : (Jvm.Cond.methodLink "LameClocks" (329 : Nat) ({ cls := "LameClocks$Fault", name := "<init>", desc := "(I)V" } : Jvm.MethodName)) ∈ lw_all := lw_g (lw_at lw_m5 164 rfl) rfl
theorem q1194 : (Jvm.Cond.instanceMethod ({ cls := "LameClocks$Fault", name := "<init>", desc := "(I)V" } : Jvm.MethodName)) ∈ lw_all := lw_g (lw_at lw_m5 165 rfl) rfl
theorem q1208 : (Jvm.Cond.methodLink "LameClocks" (347 : Nat) ({ cls := "LameClocks", name := "ends", desc := "()V" } : Jvm.MethodName)) ∈ lw_all := lw_g (lw_at lw_m5 179 rfl) rfl
theorem q1210 : (Jvm.Cond.instanceMethod ({ cls := "LameClocks", name := "ends", desc := "()V" } : Jvm.MethodName)) ∈ lw_all := lw_g (lw_at lw_m5 181 rfl) rfl
theorem q1211 : (Jvm.Cond.code ({ cls := "LameClocks", name := "ends", desc := "()V" } : Jvm.MethodName) prog_1_method_59_code (1 : Nat) (Option.none : Option Jvm.ClassFile.FieldType)) ∈ lw_all := lw_g (lw_at lw_m5 182 rfl) rfl
theorem q1230 : (Jvm.Cond.code ({ cls := "LameClocks", name := "number", desc := "(II)I" } : Jvm.MethodName) prog_1_method_57_code (5 : Nat) (Option.some Jvm.ClassFile.FieldType.int)) ∈ lw_all := lw_g (lw_at lw_m5 201 rfl) rfl
theorem q1231 : (Jvm.Cond.constantLong "LameClocks" (336 : Nat) (48 : Int64)) ∈ lw_all := lw_g (lw_at lw_m5 202 rfl) rfl
theorem q1232 : (Jvm.Cond.constantLong "LameClocks" (338 : Nat) (57 : Int64)) ∈ lw_all := lw_g (lw_at lw_m5 203 rfl) rfl
theorem q1233 : (Jvm.Cond.methodLink "LameClocks" (324 : Nat) ({ cls := "LameClocks", name := "passes", desc := "(I)Z" } : Jvm.MethodName)) ∈ lw_all := lw_g (lw_at lw_m5 204 rfl) rfl
theorem q1235 : (Jvm.Cond.instanceMethod ({ cls := "LameClocks", name := "passes", desc := "(I)Z" } : Jvm.MethodName)) ∈ lw_all := lw_g (lw_at lw_m5 206 rfl) rfl
theorem q1271 : (Jvm.Cond.code ({ cls := "LameClocks", name := "must", desc := "(I)V" } : Jvm.MethodName) prog_1_method_55_code (2 : Nat) (Option.none : Option Jvm.ClassFile.FieldType)) ∈ lw_all := lw_g (lw_at lw_m6 2 rfl) rfl
theorem q1275 : (Jvm.Cond.code ({ cls := "LameClocks", name := "digit", desc := "(I)I" } : Jvm.MethodName) prog_1_method_58_code (3 : Nat) (Option.some Jvm.ClassFile.FieldType.int)) ∈ lw_all := lw_g (lw_at lw_m6 6 rfl) rfl
noncomputable def fv_Act_does (ex : Nat → Option Nat) (z : Nat) (h0 : Nat) (t : St) : Option (Int32 × St) := ccls t h0 fun ci => if ci = 11 then fX11_does ex z h0 t else if ci = 12 then fX12_does ex z h0 t else if ci = 13 then fX13_does ex z h0 t else if ci = 14 then fX14_does ex z h0 t else none
theorem fv_Act_does_11 {ex : Nat → Option Nat} {z : Nat} {h0 : Nat} {σ : Sg} {fl : Bool} {fs : List Value} (hs : σ h0 = some (fl, .inr (11, fs))) : fv_Act_does ex z h0 (σ, 0, 0) = fX11_does ex z h0 (σ, 0, 0) := by simp [fv_Act_does, ccls, hs]
theorem fv_Act_does_12 {ex : Nat → Option Nat} {z : Nat} {h0 : Nat} {σ : Sg} {fl : Bool} {fs : List Value} (hs : σ h0 = some (fl, .inr (12, fs))) : fv_Act_does ex z h0 (σ, 0, 0) = fX12_does ex z h0 (σ, 0, 0) := by simp [fv_Act_does, ccls, hs]
theorem fv_Act_does_13 {ex : Nat → Option Nat} {z : Nat} {h0 : Nat} {σ : Sg} {fl : Bool} {fs : List Value} (hs : σ h0 = some (fl, .inr (13, fs))) : fv_Act_does ex z h0 (σ, 0, 0) = fX13_does ex z h0 (σ, 0, 0) := by simp [fv_Act_does, ccls, hs]
theorem fv_Act_does_14 {ex : Nat → Option Nat} {z : Nat} {h0 : Nat} {σ : Sg} {fl : Bool} {fs : List Value} (hs : σ h0 = some (fl, .inr (14, fs))) : fv_Act_does ex z h0 (σ, 0, 0) = fX14_does ex z h0 (σ, 0, 0) := by simp [fv_Act_does, ccls, hs]
abbrev cX0_must : ByteArray := prog_1_method_55_code
def yX0_must : MethodName := ⟨RX0, "must", "(I)V"⟩
def dkwX0_must_0 : List UInt8 := [42, 27, 182, 1, 68, 154, 0, 15, 187, 1, 71, 89, 42, 180, 1, 62, 183, 1, 73, 191, 177]
abbrev dktX0_must_0 : List UInt8 := dkwX0_must_0 ++ []
theorem dksX0_must_0 : cX0_must.data.toList.drop 0 = dktX0_must_0 := by decide +kernel
theorem dX0_must_0 : decode cX0_must 0 = .ok (.aload_n 0, 1) := dk_42 (dk_at dksX0_must_0 0 rfl rfl)
theorem dX0_must_1 : decode cX0_must 1 = .ok (.iload_n 1, 1) := dk_27 (dk_at dksX0_must_0 1 rfl rfl)
theorem dX0_must_2 : decode cX0_must 2 = .ok (.invokevirtual 324, 3) := dk_182 1 68 (dk_at dksX0_must_0 2 rfl rfl)
theorem dX0_must_5 : decode cX0_must 5 = .ok (.ifCond .ne 15, 3) := dk_154 0 15 (dk_at dksX0_must_0 5 rfl rfl)
theorem dX0_must_8 : decode cX0_must 8 = .ok (.new 327, 3) := dk_187 1 71 (dk_at dksX0_must_0 8 rfl rfl)
theorem dX0_must_11 : decode cX0_must 11 = .ok (.dup, 1) := dk_89 (dk_at dksX0_must_0 11 rfl rfl)
theorem dX0_must_12 : decode cX0_must 12 = .ok (.aload_n 0, 1) := dk_42 (dk_at dksX0_must_0 12 rfl rfl)
theorem dX0_must_13 : decode cX0_must 13 = .ok (.getfield 318, 3) := dk_180 1 62 (dk_at dksX0_must_0 13 rfl rfl)
theorem dX0_must_16 : decode cX0_must 16 = .ok (.invokespecial 329, 3) := dk_183 1 73 (dk_at dksX0_must_0 16 rfl rfl)
theorem dX0_must_19 : decode cX0_must 19 = .ok (.athrow, 1) := dk_191 (dk_at dksX0_must_0 19 rfl rfl)
theorem dX0_must_20 : decode cX0_must 20 = .ok (.return_, 1) := dk_177 (dk_at dksX0_must_0 20 rfl rfl)
theorem nw_X0_327 : g_nw RX0 327 10 [.null, .null, .null, .null, .null, .int 0, .int 0] 7 := ⟨_, _, _, tyX10, rfl, q1089, q1185, q95, in_X10, tyX10_ok, fun j hj => by
  match j, hj with
  | 0, _ => rfl
  | 1, _ => rfl
  | 2, _ => rfl
  | 3, _ => rfl
  | 4, _ => rfl
  | 5, _ => rfl
  | 6, _ => rfl⟩
theorem dmV_X0_passes : yX0_passes.cls = RX0 ∧ yX0_passes.cls ≠ "java/lang/invoke/MethodHandle" ∧ yX0_passes.cls ≠ "java/lang/invoke/VarHandle" ∧ (parseMethodDescriptor yX0_passes.desc).map (fun d => d.parameters.length) = some 1 := by decide +kernel
theorem dmS_X10_init : yX10_init.cls ≠ "java/lang/invoke/MethodHandle" ∧ yX10_init.cls ≠ "java/lang/invoke/VarHandle" ∧ (parseMethodDescriptor yX10_init.desc).map (fun d => d.parameters.length) = some 1 := by decide +kernel
section CP
variable {Γ : Gc} {p : Program} {l : Launch} {e : Env} {s : State} {m : MethodId} {args : Array Value} {below : List Frame} {meth : Method} {c : Code} {ex : Nat → Option Nat} {z : Nat} {tF : St}
noncomputable def fX0_must (ex : Nat → Option Nat) (z : Nat) (h0 : Nat) (x1 : Int32) (t : St) : Option ((Unit ⊕ Nat) × St) := ccast [0] t h0 (gb (fX0_passes ex (z + t.2.1) h0 x1 (t.1, 0, 0)) t fun r1 t2 => if r1 = 0 then cnew z 10 [.null, .null, .null, .null, .null, .int 0, .int 0] 7 t2 fun a8 t9 => cgI [0] 8 t9 h0 fun v10 => gb (fX10_init ex (z + t9.2.1) a8 v10 (t9.1, 0, 0)) t9 fun _ t12 => some (.inr a8, t12) else some (.inl (), t2))
set_option maxHeartbeats 4000000 in
theorem wX0_must {rF : (Unit ⊕ Nat)} (hex : ex = Γ.2.2.2.2) (hl : l.stackTraces = false) (X : g_X Γ p s m args meth c cX0_must 2 RX0) (hr : meth.sig.returnType = none) (ht : g_T meth []) (h0 : Nat) (x1 : Int32) (t : St) : Wf Γ p l e 4 81 s m args below meth c 2 (g_ι z) t_v rF tF 0 [(0, .ref h0), (1, .int x1)] [] t (fX0_must ex z h0 x1 t) := by
  unfold fX0_must
  refine g_aload_n (pc := 0) X 0 dX0_must_0 rfl rfl ?_
  refine g_iload_n (pc := 1) X 1 dX0_must_1 rfl rfl ?_
  refine g_bD_i (pc := 2) X (cs := [0]) (As := [.int x1]) (rest := []) (b := h0) (n := 1) dX0_must_2 rfl rfl (Nat.le_of_ble_eq_true rfl) (fun fl3 ci4 fs5 hs6 hci7 r u h => ?_) (fun r1 t2 => ?_)
  · obtain rfl := List.mem_singleton.mp hci7
    exact ⟨_, _, _, yX0_passes, _, _, _, 1, 20, rfl, kX0_passes hex h, Or.inl (cwV 1 X.2.2.2.2.1 (lw_V q1233 q1235 qs23 q70 q1236) rfl rfl rfl dmV_X0_passes ⟨Nat.le_of_ble_eq_true rfl, Nat.le_of_ble_eq_true rfl⟩)⟩
  refine g_if_ne (pc := 5) X 20 dX0_must_5 (by decide) ?_ ?_
  · exact g_tvret (pc := 20) X hr dX0_must_20
  · refine cg_new (pc := 8) X nw_X0_327 dX0_must_8 (fun a8 t9 => ?_)
    refine g_dup (pc := 11) X dX0_must_11 rfl ?_
    refine g_aload_n (pc := 12) X 0 dX0_must_12 rfl rfl ?_
    refine cg_getI (pc := 13) X fo_X0_318 dX0_must_13 (fun v10 => ?_)
    refine g_bI_v (pc := 16) X (y := yX10_init) (As := [.int v10]) (rest := [.ref a8]) (b := a8) (fr' := 3) (lo' := 60) (fun _ => cwI 1 X.2.2.2.2.1 (lw_meth q1195) rfl rfl rfl (X.2.2.2.2.1 _ q95) (X.2.2.2.2.1 _ q1193) (X.2.2.2.2.1 _ q1194) rfl dmS_X10_init ⟨Nat.le_of_ble_eq_true rfl, Nat.le_of_ble_eq_true rfl⟩) dX0_must_16 rfl rfl (Nat.le_of_ble_eq_true rfl) (fun r u h => kX10_init hex h) (fun r11 t12 => ?_)
    exact g_athrow (pc := 19) X ht dX0_must_19 rfl rfl
theorem kX0_must {ex : Nat → Option Nat} {z : Nat} {h0 : Nat} {x1 : Int32} {σ : Sg} {r : (Unit ⊕ Nat)} {u : St} (hex : ex = Γ.2.2.2.2) (hl : l.stackTraces = false) (h : fX0_must ex z h0 x1 (σ, 0, 0) = some (r, u)) : g_CT Γ l yX0_must cX0_must 2 none [] 4 81 [.ref h0, .int x1] σ z t_v r (g_ι z u) := by
  exact g_metT (ι := g_ι z) (t := (σ, 0, 0)) [.ref h0, .int x1] (Nat.le_of_ble_eq_true rfl) h rfl (fun p e s m args below meth c X hr hn ht => wX0_must hex hl X hr ht h0 x1 (σ, 0, 0))
end CP
abbrev cX0_letter : ByteArray := prog_1_method_56_code
def yX0_letter : MethodName := ⟨RX0, "letter", "(Ljava/lang/String;)I"⟩
def dkwX0_letter_2 : List UInt8 := [181, 1, 62, 28, 172]
abbrev dktX0_letter_2 : List UInt8 := dkwX0_letter_2 ++ []
def dkwX0_letter_1 : List UInt8 := [156, 0, 15, 187, 1, 71, 89, 42, 180, 1, 62, 183, 1, 73, 191, 42, 89, 180, 1, 62, 4, 96]
abbrev dktX0_letter_1 : List UInt8 := dkwX0_letter_1 ++ dktX0_letter_2
def dkwX0_letter_0 : List UInt8 := [42, 182, 1, 65, 154, 0, 8, 16, 252, 167, 0, 11, 43, 42, 182, 1, 65, 182, 1, 75, 61, 28]
abbrev dktX0_letter_0 : List UInt8 := dkwX0_letter_0 ++ dktX0_letter_1
theorem dksX0_letter_0 : cX0_letter.data.toList.drop 0 = dktX0_letter_0 := by decide +kernel
theorem dksX0_letter_1 : cX0_letter.data.toList.drop 22 = dktX0_letter_1 := dk_seg dksX0_letter_0 22 rfl rfl
theorem dksX0_letter_2 : cX0_letter.data.toList.drop 44 = dktX0_letter_2 := dk_seg dksX0_letter_1 22 rfl rfl
theorem dX0_letter_0 : decode cX0_letter 0 = .ok (.aload_n 0, 1) := dk_42 (dk_at dksX0_letter_0 0 rfl rfl)
theorem dX0_letter_1 : decode cX0_letter 1 = .ok (.invokevirtual 321, 3) := dk_182 1 65 (dk_at dksX0_letter_0 1 rfl rfl)
theorem dX0_letter_4 : decode cX0_letter 4 = .ok (.ifCond .ne 8, 3) := dk_154 0 8 (dk_at dksX0_letter_0 4 rfl rfl)
theorem dX0_letter_7 : decode cX0_letter 7 = .ok (.bipush (-4), 2) := dk_16 252 (dk_at dksX0_letter_0 7 rfl rfl)
theorem dX0_letter_9 : decode cX0_letter 9 = .ok (.goto 11, 3) := dk_167 0 11 (dk_at dksX0_letter_0 9 rfl rfl)
theorem dX0_letter_12 : decode cX0_letter 12 = .ok (.aload_n 1, 1) := dk_43 (dk_at dksX0_letter_0 12 rfl rfl)
theorem dX0_letter_13 : decode cX0_letter 13 = .ok (.aload_n 0, 1) := dk_42 (dk_at dksX0_letter_0 13 rfl rfl)
theorem dX0_letter_14 : decode cX0_letter 14 = .ok (.invokevirtual 321, 3) := dk_182 1 65 (dk_at dksX0_letter_0 14 rfl rfl)
theorem dX0_letter_17 : decode cX0_letter 17 = .ok (.invokevirtual 331, 3) := dk_182 1 75 (dk_at dksX0_letter_0 17 rfl rfl)
theorem dX0_letter_20 : decode cX0_letter 20 = .ok (.istore_n 2, 1) := dk_61 (dk_at dksX0_letter_0 20 rfl rfl)
theorem dX0_letter_21 : decode cX0_letter 21 = .ok (.iload_n 2, 1) := dk_28 (dk_at dksX0_letter_0 21 rfl rfl)
theorem dX0_letter_22 : decode cX0_letter 22 = .ok (.ifCond .ge 15, 3) := dk_156 0 15 (dk_at dksX0_letter_1 0 rfl rfl)
theorem dX0_letter_25 : decode cX0_letter 25 = .ok (.new 327, 3) := dk_187 1 71 (dk_at dksX0_letter_1 3 rfl rfl)
theorem dX0_letter_28 : decode cX0_letter 28 = .ok (.dup, 1) := dk_89 (dk_at dksX0_letter_1 6 rfl rfl)
theorem dX0_letter_29 : decode cX0_letter 29 = .ok (.aload_n 0, 1) := dk_42 (dk_at dksX0_letter_1 7 rfl rfl)
theorem dX0_letter_30 : decode cX0_letter 30 = .ok (.getfield 318, 3) := dk_180 1 62 (dk_at dksX0_letter_1 8 rfl rfl)
theorem dX0_letter_33 : decode cX0_letter 33 = .ok (.invokespecial 329, 3) := dk_183 1 73 (dk_at dksX0_letter_1 11 rfl rfl)
theorem dX0_letter_36 : decode cX0_letter 36 = .ok (.athrow, 1) := dk_191 (dk_at dksX0_letter_1 14 rfl rfl)
theorem dX0_letter_37 : decode cX0_letter 37 = .ok (.aload_n 0, 1) := dk_42 (dk_at dksX0_letter_1 15 rfl rfl)
theorem dX0_letter_38 : decode cX0_letter 38 = .ok (.dup, 1) := dk_89 (dk_at dksX0_letter_1 16 rfl rfl)
theorem dX0_letter_39 : decode cX0_letter 39 = .ok (.getfield 318, 3) := dk_180 1 62 (dk_at dksX0_letter_1 17 rfl rfl)
theorem dX0_letter_42 : decode cX0_letter 42 = .ok (.iconst 1, 1) := dk_4 (dk_at dksX0_letter_1 20 rfl rfl)
theorem dX0_letter_43 : decode cX0_letter 43 = .ok (.iadd, 1) := dk_96 (dk_at dksX0_letter_1 21 rfl rfl)
theorem dX0_letter_44 : decode cX0_letter 44 = .ok (.putfield 318, 3) := dk_181 1 62 (dk_at dksX0_letter_2 0 rfl rfl)
theorem dX0_letter_47 : decode cX0_letter 47 = .ok (.iload_n 2, 1) := dk_28 (dk_at dksX0_letter_2 3 rfl rfl)
theorem dX0_letter_48 : decode cX0_letter 48 = .ok (.ireturn, 1) := dk_172 (dk_at dksX0_letter_2 4 rfl rfl)
theorem dmV_J8_indexOf : yJ8_indexOf.cls = RJ8 ∧ yJ8_indexOf.cls ≠ "java/lang/invoke/MethodHandle" ∧ yJ8_indexOf.cls ≠ "java/lang/invoke/VarHandle" ∧ (parseMethodDescriptor yJ8_indexOf.desc).map (fun d => d.parameters.length) = some 1 := by decide +kernel
section CP
variable {Γ : Gc} {p : Program} {l : Launch} {e : Env} {s : State} {m : MethodId} {args : Array Value} {below : List Frame} {meth : Method} {c : Code} {ex : Nat → Option Nat} {z : Nat} {tF : St}
noncomputable def fX0_letter_20 (ex : Nat → Option Nat) (z : Nat) (h0 : Nat) (s0 : Int32) (t : St) : Option ((Int32 ⊕ Nat) × St) := if 0 ≤ s0 then cgI [0] 8 t h0 fun v1 => cput [0] 8 t h0 (.int (v1 + 1)) fun t2 => some (.inl s0, t2) else cnew z 10 [.null, .null, .null, .null, .null, .int 0, .int 0] 7 t fun a3 t4 => cgI [0] 8 t4 h0 fun v5 => gb (fX10_init ex (z + t4.2.1) a3 v5 (t4.1, 0, 0)) t4 fun _ t7 => some (.inr a3, t7)
set_option maxHeartbeats 4000000 in
theorem wX0_letter_20 {rF : (Int32 ⊕ Nat)} (hex : ex = Γ.2.2.2.2) (hl : l.stackTraces = false) (X : g_X Γ p s m args meth c cX0_letter 3 RX0) (hr : meth.sig.returnType = (some .int)) (ht : g_T meth []) (h0 : Nat) (s0 : Int32) (t : St) : Wf Γ p l e 4 91 s m args below meth c 3 (g_ι z) t_i rF tF 20 [(0, .ref h0)] [.int s0] t (fX0_letter_20 ex z h0 s0 t) := by
  unfold fX0_letter_20
  refine g_istore_n (pc := 20) X (lv' := [(2, .int s0), (0, .ref h0)]) dX0_letter_20 rfl (by decide) rfl ?_
  refine g_iload_n (pc := 21) X 0 dX0_letter_21 rfl rfl ?_
  refine g_if_ge (pc := 22) X 37 dX0_letter_22 (by decide) ?_ ?_
  · refine g_aload_n (pc := 37) X 1 dX0_letter_37 rfl rfl ?_
    refine g_dup (pc := 38) X dX0_letter_38 rfl ?_
    refine cg_getI (pc := 39) X fo_X0_318 dX0_letter_39 (fun v1 => ?_)
    refine g_iconst (pc := 42) X 1 dX0_letter_42 rfl ?_
    refine g_iadd (pc := 43) X dX0_letter_43 ?_
    refine cg_put (pc := 44) X fp_X0_318 dX0_letter_44 (fun h => by cases h) rfl rfl (fun t2 => ?_)
    refine g_iload_n (pc := 47) X 0 dX0_letter_47 rfl rfl ?_
    exact g_tiret (pc := 48) X hr dX0_letter_48
  · refine cg_new (pc := 25) X nw_X0_327 dX0_letter_25 (fun a3 t4 => ?_)
    refine g_dup (pc := 28) X dX0_letter_28 rfl ?_
    refine g_aload_n (pc := 29) X 1 dX0_letter_29 rfl rfl ?_
    refine cg_getI (pc := 30) X fo_X0_318 dX0_letter_30 (fun v5 => ?_)
    refine g_bI_v (pc := 33) X (y := yX10_init) (As := [.int v5]) (rest := [.ref a3]) (b := a3) (fr' := 3) (lo' := 60) (fun _ => cwI 1 X.2.2.2.2.1 (lw_meth q1195) rfl rfl rfl (X.2.2.2.2.1 _ q95) (X.2.2.2.2.1 _ q1193) (X.2.2.2.2.1 _ q1194) rfl dmS_X10_init ⟨Nat.le_of_ble_eq_true rfl, Nat.le_of_ble_eq_true rfl⟩) dX0_letter_33 rfl rfl (Nat.le_of_ble_eq_true rfl) (fun r u h => kX10_init hex h) (fun r6 t7 => ?_)
    exact g_athrow (pc := 36) X ht dX0_letter_36 rfl rfl
noncomputable def fX0_letter (ex : Nat → Option Nat) (z : Nat) (h0 : Nat) (h1 : Nat) (t : St) : Option ((Int32 ⊕ Nat) × St) := ccast [0] t h0 (gb (fX0_here ex (z + t.2.1) h0 (t.1, 0, 0)) t fun r1 t2 => if r1 = 0 then fX0_letter_20 ex z h0 (-4) t2 else ccast [0] t2 h0 (gb (fX0_here ex (z + t2.2.1) h0 (t2.1, 0, 0)) t2 fun r8 t9 => ccast [21] t9 h1 (gb (fJ8_indexOf ex (z + t9.2.1) h1 r8 (t9.1, 0, 0)) t9 fun r15 t16 => fX0_letter_20 ex z h0 r15 t16)))
set_option maxHeartbeats 4000000 in
theorem wX0_letter {rF : (Int32 ⊕ Nat)} (hex : ex = Γ.2.2.2.2) (hl : l.stackTraces = false) (X : g_X Γ p s m args meth c cX0_letter 3 RX0) (hr : meth.sig.returnType = (some .int)) (ht : g_T meth []) (h0 : Nat) (h1 : Nat) (t : St) : Wf Γ p l e 4 91 s m args below meth c 3 (g_ι z) t_i rF tF 0 [(0, .ref h0), (1, .ref h1)] [] t (fX0_letter ex z h0 h1 t) := by
  unfold fX0_letter
  refine g_aload_n (pc := 0) X 0 dX0_letter_0 rfl rfl ?_
  refine g_bD_i (pc := 1) X (cs := [0]) (As := []) (rest := []) (b := h0) (n := 0) dX0_letter_1 rfl rfl (Nat.le_of_ble_eq_true rfl) (fun fl3 ci4 fs5 hs6 hci7 r u h => ?_) (fun r1 t2 => ?_)
  · obtain rfl := List.mem_singleton.mp hci7
    exact ⟨_, _, _, yX0_here, _, _, _, 0, 0, rfl, kX0_here hex h, Or.inl (cwV 0 X.2.2.2.2.1 (lw_V q1095 q1097 qs18 q70 q1098) rfl rfl rfl dmV_X0_here ⟨Nat.le_of_ble_eq_true rfl, Nat.le_of_ble_eq_true rfl⟩)⟩
  refine g_if_ne (pc := 4) X 12 dX0_letter_4 (by decide) ?_ ?_
  · refine g_aload_n (pc := 12) X 1 dX0_letter_12 rfl rfl ?_
    refine g_aload_n (pc := 13) X 0 dX0_letter_13 rfl rfl ?_
    refine g_bD_i (pc := 14) X (cs := [0]) (As := []) (rest := [.ref h1]) (b := h0) (n := 0) dX0_letter_14 rfl rfl (Nat.le_of_ble_eq_true rfl) (fun fl10 ci11 fs12 hs13 hci14 r u h => ?_) (fun r8 t9 => ?_)
    · obtain rfl := List.mem_singleton.mp hci14
      exact ⟨_, _, _, yX0_here, _, _, _, 0, 0, rfl, kX0_here hex h, Or.inl (cwV 0 X.2.2.2.2.1 (lw_V q1095 q1097 qs18 q70 q1098) rfl rfl rfl dmV_X0_here ⟨Nat.le_of_ble_eq_true rfl, Nat.le_of_ble_eq_true rfl⟩)⟩
    refine g_bD_i (pc := 17) X (cs := [21]) (As := [.int r8]) (rest := []) (b := h1) (n := 1) dX0_letter_17 rfl rfl (Nat.le_of_ble_eq_true rfl) (fun fl17 ci18 fs19 hs20 hci21 r u h => ?_) (fun r15 t16 => ?_)
    · obtain rfl := List.mem_singleton.mp hci21
      exact ⟨_, _, _, yJ8_indexOf, _, _, _, 3, 70, rfl, kJ8_indexOf hex h, Or.inl (cwV 1 X.2.2.2.2.1 (lw_V q1103 q1104 q1105 q89 q1106) rfl rfl rfl dmV_J8_indexOf ⟨Nat.le_of_ble_eq_true rfl, Nat.le_of_ble_eq_true rfl⟩)⟩
    exact g_lv (pc := 20) (lv' := [(0, .ref h0)]) [0] rfl (wX0_letter_20 hex hl X hr ht h0 r15 t16)
  · refine g_bipush (pc := 7) X (-4) dX0_letter_7 rfl ?_
    refine g_goto (pc := 9) X 20 dX0_letter_9 (by decide) ?_
    exact g_lv (pc := 20) (lv' := [(0, .ref h0)]) [0] rfl (wX0_letter_20 hex hl X hr ht h0 (-4) t2)
theorem kX0_letter {ex : Nat → Option Nat} {z : Nat} {h0 : Nat} {h1 : Nat} {σ : Sg} {r : (Int32 ⊕ Nat)} {u : St} (hex : ex = Γ.2.2.2.2) (hl : l.stackTraces = false) (h : fX0_letter ex z h0 h1 (σ, 0, 0) = some (r, u)) : g_CT Γ l yX0_letter cX0_letter 3 (some .int) [] 4 91 [.ref h0, .ref h1] σ z t_i r (g_ι z u) := by
  exact g_metT (ι := g_ι z) (t := (σ, 0, 0)) [.ref h0, .ref h1] (Nat.le_of_ble_eq_true rfl) h rfl (fun p e s m args below meth c X hr hn ht => wX0_letter hex hl X hr ht h0 h1 (σ, 0, 0))
end CP
abbrev cX0_number : ByteArray := prog_1_method_57_code
def yX0_number : MethodName := ⟨RX0, "number", "(II)I"⟩
def dkwX0_number_5 : List UInt8 := [133, 184, 0, 48, 154, 0, 12, 187, 1, 71, 89, 29, 183, 1, 73, 191, 21, 4, 172]
abbrev dktX0_number_5 : List UInt8 := dkwX0_number_5 ++ []
def dkwX0_number_4 : List UInt8 := [184, 1, 4, 54, 4, 42, 89, 180, 1, 62, 4, 96, 181, 1, 62, 167, 255, 187, 21, 4, 133, 27, 133, 28]
abbrev dktX0_number_4 : List UInt8 := dkwX0_number_4 ++ dktX0_number_5
def dkwX0_number_3 : List UInt8 := [153, 0, 42, 17, 39, 15, 16, 10, 21, 4, 104, 42, 180, 1, 59, 42, 180, 1, 62, 51, 96, 16, 48, 100]
abbrev dktX0_number_3 : List UInt8 := dkwX0_number_3 ++ dktX0_number_4
def dkwX0_number_2 : List UInt8 := [162, 0, 64, 42, 180, 1, 59, 42, 180, 1, 62, 51, 133, 20, 1, 80, 20, 1, 82, 184, 0, 48]
abbrev dktX0_number_2 : List UInt8 := dkwX0_number_2 ++ dktX0_number_3
def dkwX0_number_1 : List UInt8 := [180, 1, 62, 183, 1, 73, 191, 42, 180, 1, 62, 62, 3, 54, 4, 42, 180, 1, 62, 42, 180, 1, 56]
abbrev dktX0_number_1 : List UInt8 := dkwX0_number_1 ++ dktX0_number_2
def dkwX0_number_0 : List UInt8 := [42, 182, 1, 65, 133, 20, 1, 80, 20, 1, 82, 184, 0, 48, 154, 0, 15, 187, 1, 71, 89, 42]
abbrev dktX0_number_0 : List UInt8 := dkwX0_number_0 ++ dktX0_number_1
theorem dksX0_number_0 : cX0_number.data.toList.drop 0 = dktX0_number_0 := by decide +kernel
theorem dksX0_number_1 : cX0_number.data.toList.drop 22 = dktX0_number_1 := dk_seg dksX0_number_0 22 rfl rfl
theorem dksX0_number_2 : cX0_number.data.toList.drop 45 = dktX0_number_2 := dk_seg dksX0_number_1 23 rfl rfl
theorem dksX0_number_3 : cX0_number.data.toList.drop 67 = dktX0_number_3 := dk_seg dksX0_number_2 22 rfl rfl
theorem dksX0_number_4 : cX0_number.data.toList.drop 91 = dktX0_number_4 := dk_seg dksX0_number_3 24 rfl rfl
theorem dksX0_number_5 : cX0_number.data.toList.drop 115 = dktX0_number_5 := dk_seg dksX0_number_4 24 rfl rfl
theorem dX0_number_0 : decode cX0_number 0 = .ok (.aload_n 0, 1) := dk_42 (dk_at dksX0_number_0 0 rfl rfl)
theorem dX0_number_1 : decode cX0_number 1 = .ok (.invokevirtual 321, 3) := dk_182 1 65 (dk_at dksX0_number_0 1 rfl rfl)
theorem dX0_number_4 : decode cX0_number 4 = .ok (.i2l, 1) := dk_133 (dk_at dksX0_number_0 4 rfl rfl)
theorem dX0_number_5 : decode cX0_number 5 = .ok (.ldc2_w 336, 3) := dk_20 1 80 (dk_at dksX0_number_0 5 rfl rfl)
theorem dX0_number_8 : decode cX0_number 8 = .ok (.ldc2_w 338, 3) := dk_20 1 82 (dk_at dksX0_number_0 8 rfl rfl)
theorem dX0_number_11 : decode cX0_number 11 = .ok (.invokestatic 48, 3) := dk_184 0 48 (dk_at dksX0_number_0 11 rfl rfl)
theorem dX0_number_14 : decode cX0_number 14 = .ok (.ifCond .ne 15, 3) := dk_154 0 15 (dk_at dksX0_number_0 14 rfl rfl)
theorem dX0_number_17 : decode cX0_number 17 = .ok (.new 327, 3) := dk_187 1 71 (dk_at dksX0_number_0 17 rfl rfl)
theorem dX0_number_20 : decode cX0_number 20 = .ok (.dup, 1) := dk_89 (dk_at dksX0_number_0 20 rfl rfl)
theorem dX0_number_21 : decode cX0_number 21 = .ok (.aload_n 0, 1) := dk_42 (dk_at dksX0_number_0 21 rfl rfl)
theorem dX0_number_22 : decode cX0_number 22 = .ok (.getfield 318, 3) := dk_180 1 62 (dk_at dksX0_number_1 0 rfl rfl)
theorem dX0_number_25 : decode cX0_number 25 = .ok (.invokespecial 329, 3) := dk_183 1 73 (dk_at dksX0_number_1 3 rfl rfl)
theorem dX0_number_28 : decode cX0_number 28 = .ok (.athrow, 1) := dk_191 (dk_at dksX0_number_1 6 rfl rfl)
theorem dX0_number_29 : decode cX0_number 29 = .ok (.aload_n 0, 1) := dk_42 (dk_at dksX0_number_1 7 rfl rfl)
theorem dX0_number_30 : decode cX0_number 30 = .ok (.getfield 318, 3) := dk_180 1 62 (dk_at dksX0_number_1 8 rfl rfl)
theorem dX0_number_33 : decode cX0_number 33 = .ok (.istore_n 3, 1) := dk_62 (dk_at dksX0_number_1 11 rfl rfl)
theorem dX0_number_34 : decode cX0_number 34 = .ok (.iconst 0, 1) := dk_3 (dk_at dksX0_number_1 12 rfl rfl)
theorem dX0_number_35 : decode cX0_number 35 = .ok (.istore 4, 2) := dk_54 4 (dk_at dksX0_number_1 13 rfl rfl)
theorem dX0_number_37 : decode cX0_number 37 = .ok (.aload_n 0, 1) := dk_42 (dk_at dksX0_number_1 15 rfl rfl)
theorem dX0_number_38 : decode cX0_number 38 = .ok (.getfield 318, 3) := dk_180 1 62 (dk_at dksX0_number_1 16 rfl rfl)
theorem dX0_number_41 : decode cX0_number 41 = .ok (.aload_n 0, 1) := dk_42 (dk_at dksX0_number_1 19 rfl rfl)
theorem dX0_number_42 : decode cX0_number 42 = .ok (.getfield 312, 3) := dk_180 1 56 (dk_at dksX0_number_1 20 rfl rfl)
theorem dX0_number_45 : decode cX0_number 45 = .ok (.if_icmp .ge 64, 3) := dk_162 0 64 (dk_at dksX0_number_2 0 rfl rfl)
theorem dX0_number_48 : decode cX0_number 48 = .ok (.aload_n 0, 1) := dk_42 (dk_at dksX0_number_2 3 rfl rfl)
theorem dX0_number_49 : decode cX0_number 49 = .ok (.getfield 315, 3) := dk_180 1 59 (dk_at dksX0_number_2 4 rfl rfl)
theorem dX0_number_52 : decode cX0_number 52 = .ok (.aload_n 0, 1) := dk_42 (dk_at dksX0_number_2 7 rfl rfl)
theorem dX0_number_53 : decode cX0_number 53 = .ok (.getfield 318, 3) := dk_180 1 62 (dk_at dksX0_number_2 8 rfl rfl)
theorem dX0_number_56 : decode cX0_number 56 = .ok (.baload, 1) := dk_51 (dk_at dksX0_number_2 11 rfl rfl)
theorem dX0_number_57 : decode cX0_number 57 = .ok (.i2l, 1) := dk_133 (dk_at dksX0_number_2 12 rfl rfl)
theorem dX0_number_58 : decode cX0_number 58 = .ok (.ldc2_w 336, 3) := dk_20 1 80 (dk_at dksX0_number_2 13 rfl rfl)
theorem dX0_number_61 : decode cX0_number 61 = .ok (.ldc2_w 338, 3) := dk_20 1 82 (dk_at dksX0_number_2 16 rfl rfl)
theorem dX0_number_64 : decode cX0_number 64 = .ok (.invokestatic 48, 3) := dk_184 0 48 (dk_at dksX0_number_2 19 rfl rfl)
theorem dX0_number_67 : decode cX0_number 67 = .ok (.ifCond .eq 42, 3) := dk_153 0 42 (dk_at dksX0_number_3 0 rfl rfl)
theorem dX0_number_70 : decode cX0_number 70 = .ok (.sipush 9999, 3) := dk_17 39 15 (dk_at dksX0_number_3 3 rfl rfl)
theorem dX0_number_73 : decode cX0_number 73 = .ok (.bipush 10, 2) := dk_16 10 (dk_at dksX0_number_3 6 rfl rfl)
theorem dX0_number_75 : decode cX0_number 75 = .ok (.iload 4, 2) := dk_21 4 (dk_at dksX0_number_3 8 rfl rfl)
theorem dX0_number_77 : decode cX0_number 77 = .ok (.imul, 1) := dk_104 (dk_at dksX0_number_3 10 rfl rfl)
theorem dX0_number_78 : decode cX0_number 78 = .ok (.aload_n 0, 1) := dk_42 (dk_at dksX0_number_3 11 rfl rfl)
theorem dX0_number_79 : decode cX0_number 79 = .ok (.getfield 315, 3) := dk_180 1 59 (dk_at dksX0_number_3 12 rfl rfl)
theorem dX0_number_82 : decode cX0_number 82 = .ok (.aload_n 0, 1) := dk_42 (dk_at dksX0_number_3 15 rfl rfl)
theorem dX0_number_83 : decode cX0_number 83 = .ok (.getfield 318, 3) := dk_180 1 62 (dk_at dksX0_number_3 16 rfl rfl)
theorem dX0_number_86 : decode cX0_number 86 = .ok (.baload, 1) := dk_51 (dk_at dksX0_number_3 19 rfl rfl)
theorem dX0_number_87 : decode cX0_number 87 = .ok (.iadd, 1) := dk_96 (dk_at dksX0_number_3 20 rfl rfl)
theorem dX0_number_88 : decode cX0_number 88 = .ok (.bipush 48, 2) := dk_16 48 (dk_at dksX0_number_3 21 rfl rfl)
theorem dX0_number_90 : decode cX0_number 90 = .ok (.isub, 1) := dk_100 (dk_at dksX0_number_3 23 rfl rfl)
theorem dX0_number_91 : decode cX0_number 91 = .ok (.invokestatic 260, 3) := dk_184 1 4 (dk_at dksX0_number_4 0 rfl rfl)
theorem dX0_number_94 : decode cX0_number 94 = .ok (.istore 4, 2) := dk_54 4 (dk_at dksX0_number_4 3 rfl rfl)
theorem dX0_number_96 : decode cX0_number 96 = .ok (.aload_n 0, 1) := dk_42 (dk_at dksX0_number_4 5 rfl rfl)
theorem dX0_number_97 : decode cX0_number 97 = .ok (.dup, 1) := dk_89 (dk_at dksX0_number_4 6 rfl rfl)
theorem dX0_number_98 : decode cX0_number 98 = .ok (.getfield 318, 3) := dk_180 1 62 (dk_at dksX0_number_4 7 rfl rfl)
theorem dX0_number_101 : decode cX0_number 101 = .ok (.iconst 1, 1) := dk_4 (dk_at dksX0_number_4 10 rfl rfl)
theorem dX0_number_102 : decode cX0_number 102 = .ok (.iadd, 1) := dk_96 (dk_at dksX0_number_4 11 rfl rfl)
theorem dX0_number_103 : decode cX0_number 103 = .ok (.putfield 318, 3) := dk_181 1 62 (dk_at dksX0_number_4 12 rfl rfl)
theorem dX0_number_106 : decode cX0_number 106 = .ok (.goto (-69), 3) := dk_167 255 187 (dk_at dksX0_number_4 15 rfl rfl)
theorem dX0_number_109 : decode cX0_number 109 = .ok (.iload 4, 2) := dk_21 4 (dk_at dksX0_number_4 18 rfl rfl)
theorem dX0_number_111 : decode cX0_number 111 = .ok (.i2l, 1) := dk_133 (dk_at dksX0_number_4 20 rfl rfl)
theorem dX0_number_112 : decode cX0_number 112 = .ok (.iload_n 1, 1) := dk_27 (dk_at dksX0_number_4 21 rfl rfl)
theorem dX0_number_113 : decode cX0_number 113 = .ok (.i2l, 1) := dk_133 (dk_at dksX0_number_4 22 rfl rfl)
theorem dX0_number_114 : decode cX0_number 114 = .ok (.iload_n 2, 1) := dk_28 (dk_at dksX0_number_4 23 rfl rfl)
theorem dX0_number_115 : decode cX0_number 115 = .ok (.i2l, 1) := dk_133 (dk_at dksX0_number_5 0 rfl rfl)
theorem dX0_number_116 : decode cX0_number 116 = .ok (.invokestatic 48, 3) := dk_184 0 48 (dk_at dksX0_number_5 1 rfl rfl)
theorem dX0_number_119 : decode cX0_number 119 = .ok (.ifCond .ne 12, 3) := dk_154 0 12 (dk_at dksX0_number_5 4 rfl rfl)
theorem dX0_number_122 : decode cX0_number 122 = .ok (.new 327, 3) := dk_187 1 71 (dk_at dksX0_number_5 7 rfl rfl)
theorem dX0_number_125 : decode cX0_number 125 = .ok (.dup, 1) := dk_89 (dk_at dksX0_number_5 10 rfl rfl)
theorem dX0_number_126 : decode cX0_number 126 = .ok (.iload_n 3, 1) := dk_29 (dk_at dksX0_number_5 11 rfl rfl)
theorem dX0_number_127 : decode cX0_number 127 = .ok (.invokespecial 329, 3) := dk_183 1 73 (dk_at dksX0_number_5 12 rfl rfl)
theorem dX0_number_130 : decode cX0_number 130 = .ok (.athrow, 1) := dk_191 (dk_at dksX0_number_5 15 rfl rfl)
theorem dX0_number_131 : decode cX0_number 131 = .ok (.iload 4, 2) := dk_21 4 (dk_at dksX0_number_5 16 rfl rfl)
theorem dX0_number_133 : decode cX0_number 133 = .ok (.ireturn, 1) := dk_172 (dk_at dksX0_number_5 18 rfl rfl)
section CP
variable {Γ : Gc} {p : Program} {l : Launch} {e : Env} {s : State} {m : MethodId} {args : Array Value} {below : List Frame} {meth : Method} {c : Code} {ex : Nat → Option Nat} {z : Nat} {tF : St}
noncomputable def fX0_number_109 (ex : Nat → Option Nat) (z : Nat) (x1 : Int32) (x2 : Int32) (x3 : Int32) (x4 : Int32) (t : St) : Option ((Int32 ⊕ Nat) × St) := gb (fX0_in ex (z + t.2.1) x4.toInt64 x1.toInt64 x2.toInt64 (t.1, 0, 0)) t fun r1 t2 => if r1 = 0 then cnew z 10 [.null, .null, .null, .null, .null, .int 0, .int 0] 7 t2 fun a3 t4 => gb (fX10_init ex (z + t4.2.1) a3 x3 (t4.1, 0, 0)) t4 fun _ t6 => some (.inr a3, t6) else some (.inl x4, t2)
set_option maxHeartbeats 4000000 in
theorem wX0_number_109 {rF : (Int32 ⊕ Nat)} (hex : ex = Γ.2.2.2.2) (hl : l.stackTraces = false) (X : g_X Γ p s m args meth c cX0_number 5 RX0) (hr : meth.sig.returnType = (some .int)) (ht : g_T meth []) (x1 : Int32) (x2 : Int32) (x3 : Int32) (x4 : Int32) (t : St) : Wf Γ p l e 4 81 s m args below meth c 5 (g_ι z) t_i rF tF 109 [(1, .int x1), (2, .int x2), (3, .int x3), (4, .int x4)] [] t (fX0_number_109 ex z x1 x2 x3 x4 t) := by
  unfold fX0_number_109
  refine g_iload (pc := 109) X 3 dX0_number_109 rfl ?_
  refine g_i2l (pc := 111) X dX0_number_111 ?_
  refine g_iload_n (pc := 112) X 0 dX0_number_112 rfl rfl ?_
  refine g_i2l (pc := 113) X dX0_number_113 ?_
  refine g_iload_n (pc := 114) X 1 dX0_number_114 rfl rfl ?_
  refine g_i2l (pc := 115) X dX0_number_115 ?_
  refine g_bS_i (pc := 116) X (y := yX0_in) (As := [.long x4.toInt64, .long x1.toInt64, .long x2.toInt64]) (rest := []) (fr' := 0) (lo' := 0) (fun _ => va_cwS 3 X.2.2.2.2.1 (lw_S q122 q123 q70 q124) rfl rfl rfl dmS_X0_in ⟨Nat.le_of_ble_eq_true rfl, Nat.le_of_ble_eq_true rfl⟩) dX0_number_116 rfl rfl (Nat.le_of_ble_eq_true rfl) (fun r u h => kX0_in hex h) (fun r1 t2 => ?_)
  refine g_if_ne (pc := 119) X 131 dX0_number_119 (by decide) ?_ ?_
  · refine g_iload (pc := 131) X 3 dX0_number_131 rfl ?_
    exact g_tiret (pc := 133) X hr dX0_number_133
  · refine cg_new (pc := 122) X nw_X0_327 dX0_number_122 (fun a3 t4 => ?_)
    refine g_dup (pc := 125) X dX0_number_125 rfl ?_
    refine g_iload_n (pc := 126) X 2 dX0_number_126 rfl rfl ?_
    refine g_bI_v (pc := 127) X (y := yX10_init) (As := [.int x3]) (rest := [.ref a3]) (b := a3) (fr' := 3) (lo' := 60) (fun _ => cwI 1 X.2.2.2.2.1 (lw_meth q1195) rfl rfl rfl (X.2.2.2.2.1 _ q95) (X.2.2.2.2.1 _ q1193) (X.2.2.2.2.1 _ q1194) rfl dmS_X10_init ⟨Nat.le_of_ble_eq_true rfl, Nat.le_of_ble_eq_true rfl⟩) dX0_number_127 rfl rfl (Nat.le_of_ble_eq_true rfl) (fun r u h => kX10_init hex h) (fun r5 t6 => ?_)
    exact g_athrow (pc := 130) X ht dX0_number_130 rfl rfl
noncomputable def fX0_number_37 (ex : Nat → Option Nat) (z : Nat) : Nat → Nat → Int32 → Int32 → Int32 → Int32 → St → Option ((Int32 ⊕ Nat) × St)
  | 0, _, _, _, _, _, _ => none
  | n + 1, h0, x1, x2, x3, x4, t => cgI [0] 8 t h0 fun v1 => cgI [0] 7 t h0 fun v2 => if v2 ≤ v1 then fX0_number_109 ex z x1 x2 x3 x4 t else cgA [0] 6 t h0 fun v3 => cgI [0] 8 t h0 fun v4 => cald 0 t v3 v4 fun v5 => gb (fX0_in ex (z + t.2.1) v5.toInt64 48 57 (t.1, 0, 0)) t fun r6 t7 => if r6 = 0 then fX0_number_109 ex z x1 x2 x3 x4 t7 else cgA [0] 6 t7 h0 fun v8 => cgI [0] 8 t7 h0 fun v9 => cald 0 t7 v8 v9 fun v10 => gb (fJ4_min ex (z + t7.2.1) 9999 (((10 * x4) + v10) - 48) (t7.1, 0, 0)) t7 fun r11 t12 => cgI [0] 8 t12 h0 fun v13 => cput [0] 8 t12 h0 (.int (v13 + 1)) fun t14 => fX0_number_37 ex z n h0 x1 x2 x3 r11 t14
set_option maxHeartbeats 4000000 in
theorem wX0_number_37 {rF : (Int32 ⊕ Nat)} (hex : ex = Γ.2.2.2.2) (hl : l.stackTraces = false) (X : g_X Γ p s m args meth c cX0_number 5 RX0) (hr : meth.sig.returnType = (some .int)) (ht : g_T meth []) (n : Nat) : ∀ (h0 : Nat) (x1 : Int32) (x2 : Int32) (x3 : Int32) (x4 : Int32) (t : St), Wf Γ p l e 4 81 s m args below meth c 5 (g_ι z) t_i rF tF 37 [(0, .ref h0), (1, .int x1), (2, .int x2), (3, .int x3), (4, .int x4)] [] t (fX0_number_37 ex z n h0 x1 x2 x3 x4 t) := by
  induction n with
  | zero => intro h0 x1 x2 x3 x4 t; exact g_none
  | succ n ih =>
    intro h0 x1 x2 x3 x4 t
    rw [fX0_number_37]
    refine g_aload_n (pc := 37) X 0 dX0_number_37 rfl rfl ?_
    refine cg_getI (pc := 38) X fo_X0_318 dX0_number_38 (fun v1 => ?_)
    refine g_aload_n (pc := 41) X 0 dX0_number_41 rfl rfl ?_
    refine cg_getI (pc := 42) X fo_X0_312 dX0_number_42 (fun v2 => ?_)
    refine g_icmp_ge (pc := 45) X 109 dX0_number_45 (by decide) ?_ ?_
    · exact g_lv (pc := 109) (lv' := [(1, .int x1), (2, .int x2), (3, .int x3), (4, .int x4)]) [1, 2, 3, 4] rfl (wX0_number_109 hex hl X hr ht x1 x2 x3 x4 t)
    · refine g_aload_n (pc := 48) X 0 dX0_number_48 rfl rfl ?_
      refine cg_getA (pc := 49) X fo_X0_315 dX0_number_49 (fun v3 => ?_)
      refine g_aload_n (pc := 52) X 0 dX0_number_52 rfl rfl ?_
      refine cg_getI (pc := 53) X fo_X0_318 dX0_number_53 (fun v4 => ?_)
      refine cg_bald (pc := 56) X dX0_number_56 (fun v5 => ?_)
      refine g_i2l (pc := 57) X dX0_number_57 ?_
      refine g_ldc2 (pc := 58) X 48 dX0_number_58 q1231 ?_
      refine g_ldc2 (pc := 61) X 57 dX0_number_61 q1232 ?_
      refine g_bS_i (pc := 64) X (y := yX0_in) (As := [.long v5.toInt64, .long 48, .long 57]) (rest := []) (fr' := 0) (lo' := 0) (fun _ => va_cwS 3 X.2.2.2.2.1 (lw_S q122 q123 q70 q124) rfl rfl rfl dmS_X0_in ⟨Nat.le_of_ble_eq_true rfl, Nat.le_of_ble_eq_true rfl⟩) dX0_number_64 rfl rfl (Nat.le_of_ble_eq_true rfl) (fun r u h => kX0_in hex h) (fun r6 t7 => ?_)
      refine g_if_eq (pc := 67) X 109 dX0_number_67 (by decide) ?_ ?_
      · exact g_lv (pc := 109) (lv' := [(1, .int x1), (2, .int x2), (3, .int x3), (4, .int x4)]) [1, 2, 3, 4] rfl (wX0_number_109 hex hl X hr ht x1 x2 x3 x4 t7)
      · refine g_sipush (pc := 70) X 9999 dX0_number_70 rfl ?_
        refine g_bipush (pc := 73) X 10 dX0_number_73 rfl ?_
        refine g_iload (pc := 75) X 4 dX0_number_75 rfl ?_
        refine g_imul (pc := 77) X dX0_number_77 ?_
        refine g_aload_n (pc := 78) X 0 dX0_number_78 rfl rfl ?_
        refine cg_getA (pc := 79) X fo_X0_315 dX0_number_79 (fun v8 => ?_)
        refine g_aload_n (pc := 82) X 0 dX0_number_82 rfl rfl ?_
        refine cg_getI (pc := 83) X fo_X0_318 dX0_number_83 (fun v9 => ?_)
        refine cg_bald (pc := 86) X dX0_number_86 (fun v10 => ?_)
        refine g_iadd (pc := 87) X dX0_number_87 ?_
        refine g_bipush (pc := 88) X 48 dX0_number_88 rfl ?_
        refine g_isub (pc := 90) X dX0_number_90 ?_
        refine g_bS_i (pc := 91) X (y := yJ4_min) (As := [.int 9999, .int (((10 * x4) + v10) - 48)]) (rest := []) (fr' := 0) (lo' := 0) (fun _ => va_cwS 2 X.2.2.2.2.1 (lw_S q927 q324 q84 q325) rfl rfl rfl dmS_J4_min ⟨Nat.le_of_ble_eq_true rfl, Nat.le_of_ble_eq_true rfl⟩) dX0_number_91 rfl rfl (Nat.le_of_ble_eq_true rfl) (fun r u h => kJ4_min hex h) (fun r11 t12 => ?_)
        refine g_istore (pc := 94) X (lv' := [(4, .int r11), (0, .ref h0), (1, .int x1), (2, .int x2), (3, .int x3)]) dX0_number_94 (by decide) rfl ?_
        refine g_aload_n (pc := 96) X 1 dX0_number_96 rfl rfl ?_
        refine g_dup (pc := 97) X dX0_number_97 rfl ?_
        refine cg_getI (pc := 98) X fo_X0_318 dX0_number_98 (fun v13 => ?_)
        refine g_iconst (pc := 101) X 1 dX0_number_101 rfl ?_
        refine g_iadd (pc := 102) X dX0_number_102 ?_
        refine cg_put (pc := 103) X fp_X0_318 dX0_number_103 (fun h => by cases h) rfl rfl (fun t14 => ?_)
        refine g_goto (pc := 106) X 37 dX0_number_106 (by decide) ?_
        exact g_lv (pc := 37) (lv' := [(0, .ref h0), (1, .int x1), (2, .int x2), (3, .int x3), (4, .int r11)]) [1, 2, 3, 4, 0] rfl (ih h0 x1 x2 x3 r11 t14)
noncomputable def fX0_number (ex : Nat → Option Nat) (z : Nat) (h0 : Nat) (x1 : Int32) (x2 : Int32) (t : St) : Option ((Int32 ⊕ Nat) × St) := ccast [0] t h0 (gb (fX0_here ex (z + t.2.1) h0 (t.1, 0, 0)) t fun r1 t2 => gb (fX0_in ex (z + t2.2.1) r1.toInt64 48 57 (t2.1, 0, 0)) t2 fun r8 t9 => if r8 = 0 then cnew z 10 [.null, .null, .null, .null, .null, .int 0, .int 0] 7 t9 fun a11 t12 => cgI [0] 8 t12 h0 fun v13 => gb (fX10_init ex (z + t12.2.1) a11 v13 (t12.1, 0, 0)) t12 fun _ t15 => some (.inr a11, t15) else cgI [0] 8 t9 h0 fun v10 => fX0_number_37 ex z 1000 h0 x1 x2 v10 0 t9)
set_option maxHeartbeats 4000000 in
theorem wX0_number {rF : (Int32 ⊕ Nat)} (hex : ex = Γ.2.2.2.2) (hl : l.stackTraces = false) (X : g_X Γ p s m args meth c cX0_number 5 RX0) (hr : meth.sig.returnType = (some .int)) (ht : g_T meth []) (h0 : Nat) (x1 : Int32) (x2 : Int32) (t : St) : Wf Γ p l e 4 81 s m args below meth c 5 (g_ι z) t_i rF tF 0 [(0, .ref h0), (1, .int x1), (2, .int x2)] [] t (fX0_number ex z h0 x1 x2 t) := by
  unfold fX0_number
  refine g_aload_n (pc := 0) X 0 dX0_number_0 rfl rfl ?_
  refine g_bD_i (pc := 1) X (cs := [0]) (As := []) (rest := []) (b := h0) (n := 0) dX0_number_1 rfl rfl (Nat.le_of_ble_eq_true rfl) (fun fl3 ci4 fs5 hs6 hci7 r u h => ?_) (fun r1 t2 => ?_)
  · obtain rfl := List.mem_singleton.mp hci7
    exact ⟨_, _, _, yX0_here, _, _, _, 0, 0, rfl, kX0_here hex h, Or.inl (cwV 0 X.2.2.2.2.1 (lw_V q1095 q1097 qs18 q70 q1098) rfl rfl rfl dmV_X0_here ⟨Nat.le_of_ble_eq_true rfl, Nat.le_of_ble_eq_true rfl⟩)⟩
  refine g_i2l (pc := 4) X dX0_number_4 ?_
  refine g_ldc2 (pc := 5) X 48 dX0_number_5 q1231 ?_
  refine g_ldc2 (pc := 8) X 57 dX0_number_8 q1232 ?_
  refine g_bS_i (pc := 11) X (y := yX0_in) (As := [.long r1.toInt64, .long 48, .long 57]) (rest := []) (fr' := 0) (lo' := 0) (fun _ => va_cwS 3 X.2.2.2.2.1 (lw_S q122 q123 q70 q124) rfl rfl rfl dmS_X0_in ⟨Nat.le_of_ble_eq_true rfl, Nat.le_of_ble_eq_true rfl⟩) dX0_number_11 rfl rfl (Nat.le_of_ble_eq_true rfl) (fun r u h => kX0_in hex h) (fun r8 t9 => ?_)
  refine g_if_ne (pc := 14) X 29 dX0_number_14 (by decide) ?_ ?_
  · refine g_aload_n (pc := 29) X 0 dX0_number_29 rfl rfl ?_
    refine cg_getI (pc := 30) X fo_X0_318 dX0_number_30 (fun v10 => ?_)
    refine g_istore_n (pc := 33) X (lv' := [(3, .int v10), (0, .ref h0), (1, .int x1), (2, .int x2)]) dX0_number_33 rfl (by decide) rfl ?_
    refine g_iconst (pc := 34) X 0 dX0_number_34 rfl ?_
    refine g_istore (pc := 35) X (lv' := [(4, .int 0), (3, .int v10), (0, .ref h0), (1, .int x1), (2, .int x2)]) dX0_number_35 (by decide) rfl ?_
    exact g_lv (pc := 37) (lv' := [(0, .ref h0), (1, .int x1), (2, .int x2), (3, .int v10), (4, .int 0)]) [2, 3, 4, 1, 0] rfl (wX0_number_37 hex hl X hr ht 1000 h0 x1 x2 v10 0 t9)
  · refine cg_new (pc := 17) X nw_X0_327 dX0_number_17 (fun a11 t12 => ?_)
    refine g_dup (pc := 20) X dX0_number_20 rfl ?_
    refine g_aload_n (pc := 21) X 0 dX0_number_21 rfl rfl ?_
    refine cg_getI (pc := 22) X fo_X0_318 dX0_number_22 (fun v13 => ?_)
    refine g_bI_v (pc := 25) X (y := yX10_init) (As := [.int v13]) (rest := [.ref a11]) (b := a11) (fr' := 3) (lo' := 60) (fun _ => cwI 1 X.2.2.2.2.1 (lw_meth q1195) rfl rfl rfl (X.2.2.2.2.1 _ q95) (X.2.2.2.2.1 _ q1193) (X.2.2.2.2.1 _ q1194) rfl dmS_X10_init ⟨Nat.le_of_ble_eq_true rfl, Nat.le_of_ble_eq_true rfl⟩) dX0_number_25 rfl rfl (Nat.le_of_ble_eq_true rfl) (fun r u h => kX10_init hex h) (fun r14 t15 => ?_)
    exact g_athrow (pc := 28) X ht dX0_number_28 rfl rfl
theorem kX0_number {ex : Nat → Option Nat} {z : Nat} {h0 : Nat} {x1 : Int32} {x2 : Int32} {σ : Sg} {r : (Int32 ⊕ Nat)} {u : St} (hex : ex = Γ.2.2.2.2) (hl : l.stackTraces = false) (h : fX0_number ex z h0 x1 x2 (σ, 0, 0) = some (r, u)) : g_CT Γ l yX0_number cX0_number 5 (some .int) [] 4 81 [.ref h0, .int x1, .int x2] σ z t_i r (g_ι z u) := by
  exact g_metT (ι := g_ι z) (t := (σ, 0, 0)) [.ref h0, .int x1, .int x2] (Nat.le_of_ble_eq_true rfl) h rfl (fun p e s m args below meth c X hr hn ht => wX0_number hex hl X hr ht h0 x1 x2 (σ, 0, 0))
end CP
abbrev cX0_digit : ByteArray := prog_1_method_58_code
def yX0_digit : MethodName := ⟨RX0, "digit", "(I)I"⟩
def dkwX0_digit_1 : List UInt8 := [89, 42, 180, 1, 62, 183, 1, 73, 191, 42, 89, 180, 1, 62, 4, 96, 181, 1, 62, 28, 16, 48, 100, 172]
abbrev dktX0_digit_1 : List UInt8 := dkwX0_digit_1 ++ []
def dkwX0_digit_0 : List UInt8 := [42, 182, 1, 65, 61, 28, 133, 20, 1, 80, 16, 48, 27, 96, 133, 184, 0, 48, 154, 0, 15, 187, 1, 71]
abbrev dktX0_digit_0 : List UInt8 := dkwX0_digit_0 ++ dktX0_digit_1
theorem dksX0_digit_0 : cX0_digit.data.toList.drop 0 = dktX0_digit_0 := by decide +kernel
theorem dksX0_digit_1 : cX0_digit.data.toList.drop 24 = dktX0_digit_1 := dk_seg dksX0_digit_0 24 rfl rfl
theorem dX0_digit_0 : decode cX0_digit 0 = .ok (.aload_n 0, 1) := dk_42 (dk_at dksX0_digit_0 0 rfl rfl)
theorem dX0_digit_1 : decode cX0_digit 1 = .ok (.invokevirtual 321, 3) := dk_182 1 65 (dk_at dksX0_digit_0 1 rfl rfl)
theorem dX0_digit_4 : decode cX0_digit 4 = .ok (.istore_n 2, 1) := dk_61 (dk_at dksX0_digit_0 4 rfl rfl)
theorem dX0_digit_5 : decode cX0_digit 5 = .ok (.iload_n 2, 1) := dk_28 (dk_at dksX0_digit_0 5 rfl rfl)
theorem dX0_digit_6 : decode cX0_digit 6 = .ok (.i2l, 1) := dk_133 (dk_at dksX0_digit_0 6 rfl rfl)
theorem dX0_digit_7 : decode cX0_digit 7 = .ok (.ldc2_w 336, 3) := dk_20 1 80 (dk_at dksX0_digit_0 7 rfl rfl)
theorem dX0_digit_10 : decode cX0_digit 10 = .ok (.bipush 48, 2) := dk_16 48 (dk_at dksX0_digit_0 10 rfl rfl)
theorem dX0_digit_12 : decode cX0_digit 12 = .ok (.iload_n 1, 1) := dk_27 (dk_at dksX0_digit_0 12 rfl rfl)
theorem dX0_digit_13 : decode cX0_digit 13 = .ok (.iadd, 1) := dk_96 (dk_at dksX0_digit_0 13 rfl rfl)
theorem dX0_digit_14 : decode cX0_digit 14 = .ok (.i2l, 1) := dk_133 (dk_at dksX0_digit_0 14 rfl rfl)
theorem dX0_digit_15 : decode cX0_digit 15 = .ok (.invokestatic 48, 3) := dk_184 0 48 (dk_at dksX0_digit_0 15 rfl rfl)
theorem dX0_digit_18 : decode cX0_digit 18 = .ok (.ifCond .ne 15, 3) := dk_154 0 15 (dk_at dksX0_digit_0 18 rfl rfl)
theorem dX0_digit_21 : decode cX0_digit 21 = .ok (.new 327, 3) := dk_187 1 71 (dk_at dksX0_digit_0 21 rfl rfl)
theorem dX0_digit_24 : decode cX0_digit 24 = .ok (.dup, 1) := dk_89 (dk_at dksX0_digit_1 0 rfl rfl)
theorem dX0_digit_25 : decode cX0_digit 25 = .ok (.aload_n 0, 1) := dk_42 (dk_at dksX0_digit_1 1 rfl rfl)
theorem dX0_digit_26 : decode cX0_digit 26 = .ok (.getfield 318, 3) := dk_180 1 62 (dk_at dksX0_digit_1 2 rfl rfl)
theorem dX0_digit_29 : decode cX0_digit 29 = .ok (.invokespecial 329, 3) := dk_183 1 73 (dk_at dksX0_digit_1 5 rfl rfl)
theorem dX0_digit_32 : decode cX0_digit 32 = .ok (.athrow, 1) := dk_191 (dk_at dksX0_digit_1 8 rfl rfl)
theorem dX0_digit_33 : decode cX0_digit 33 = .ok (.aload_n 0, 1) := dk_42 (dk_at dksX0_digit_1 9 rfl rfl)
theorem dX0_digit_34 : decode cX0_digit 34 = .ok (.dup, 1) := dk_89 (dk_at dksX0_digit_1 10 rfl rfl)
theorem dX0_digit_35 : decode cX0_digit 35 = .ok (.getfield 318, 3) := dk_180 1 62 (dk_at dksX0_digit_1 11 rfl rfl)
theorem dX0_digit_38 : decode cX0_digit 38 = .ok (.iconst 1, 1) := dk_4 (dk_at dksX0_digit_1 14 rfl rfl)
theorem dX0_digit_39 : decode cX0_digit 39 = .ok (.iadd, 1) := dk_96 (dk_at dksX0_digit_1 15 rfl rfl)
theorem dX0_digit_40 : decode cX0_digit 40 = .ok (.putfield 318, 3) := dk_181 1 62 (dk_at dksX0_digit_1 16 rfl rfl)
theorem dX0_digit_43 : decode cX0_digit 43 = .ok (.iload_n 2, 1) := dk_28 (dk_at dksX0_digit_1 19 rfl rfl)
theorem dX0_digit_44 : decode cX0_digit 44 = .ok (.bipush 48, 2) := dk_16 48 (dk_at dksX0_digit_1 20 rfl rfl)
theorem dX0_digit_46 : decode cX0_digit 46 = .ok (.isub, 1) := dk_100 (dk_at dksX0_digit_1 22 rfl rfl)
theorem dX0_digit_47 : decode cX0_digit 47 = .ok (.ireturn, 1) := dk_172 (dk_at dksX0_digit_1 23 rfl rfl)
section CP
variable {Γ : Gc} {p : Program} {l : Launch} {e : Env} {s : State} {m : MethodId} {args : Array Value} {below : List Frame} {meth : Method} {c : Code} {ex : Nat → Option Nat} {z : Nat} {tF : St}
noncomputable def fX0_digit (ex : Nat → Option Nat) (z : Nat) (h0 : Nat) (x1 : Int32) (t : St) : Option ((Int32 ⊕ Nat) × St) := ccast [0] t h0 (gb (fX0_here ex (z + t.2.1) h0 (t.1, 0, 0)) t fun r1 t2 => gb (fX0_in ex (z + t2.2.1) r1.toInt64 48 ((48 + x1).toInt64) (t2.1, 0, 0)) t2 fun r8 t9 => if r8 = 0 then cnew z 10 [.null, .null, .null, .null, .null, .int 0, .int 0] 7 t9 fun a12 t13 => cgI [0] 8 t13 h0 fun v14 => gb (fX10_init ex (z + t13.2.1) a12 v14 (t13.1, 0, 0)) t13 fun _ t16 => some (.inr a12, t16) else cgI [0] 8 t9 h0 fun v10 => cput [0] 8 t9 h0 (.int (v10 + 1)) fun t11 => some (.inl (r1 - 48), t11))
set_option maxHeartbeats 4000000 in
theorem wX0_digit {rF : (Int32 ⊕ Nat)} (hex : ex = Γ.2.2.2.2) (hl : l.stackTraces = false) (X : g_X Γ p s m args meth c cX0_digit 3 RX0) (hr : meth.sig.returnType = (some .int)) (ht : g_T meth []) (h0 : Nat) (x1 : Int32) (t : St) : Wf Γ p l e 4 81 s m args below meth c 3 (g_ι z) t_i rF tF 0 [(0, .ref h0), (1, .int x1)] [] t (fX0_digit ex z h0 x1 t) := by
  unfold fX0_digit
  refine g_aload_n (pc := 0) X 0 dX0_digit_0 rfl rfl ?_
  refine g_bD_i (pc := 1) X (cs := [0]) (As := []) (rest := []) (b := h0) (n := 0) dX0_digit_1 rfl rfl (Nat.le_of_ble_eq_true rfl) (fun fl3 ci4 fs5 hs6 hci7 r u h => ?_) (fun r1 t2 => ?_)
  · obtain rfl := List.mem_singleton.mp hci7
    exact ⟨_, _, _, yX0_here, _, _, _, 0, 0, rfl, kX0_here hex h, Or.inl (cwV 0 X.2.2.2.2.1 (lw_V q1095 q1097 qs18 q70 q1098) rfl rfl rfl dmV_X0_here ⟨Nat.le_of_ble_eq_true rfl, Nat.le_of_ble_eq_true rfl⟩)⟩
  refine g_istore_n (pc := 4) X (lv' := [(2, .int r1), (0, .ref h0), (1, .int x1)]) dX0_digit_4 rfl (by decide) rfl ?_
  refine g_iload_n (pc := 5) X 0 dX0_digit_5 rfl rfl ?_
  refine g_i2l (pc := 6) X dX0_digit_6 ?_
  refine g_ldc2 (pc := 7) X 48 dX0_digit_7 q1231 ?_
  refine g_bipush (pc := 10) X 48 dX0_digit_10 rfl ?_
  refine g_iload_n (pc := 12) X 2 dX0_digit_12 rfl rfl ?_
  refine g_iadd (pc := 13) X dX0_digit_13 ?_
  refine g_i2l (pc := 14) X dX0_digit_14 ?_
  refine g_bS_i (pc := 15) X (y := yX0_in) (As := [.long r1.toInt64, .long 48, .long ((48 + x1).toInt64)]) (rest := []) (fr' := 0) (lo' := 0) (fun _ => va_cwS 3 X.2.2.2.2.1 (lw_S q122 q123 q70 q124) rfl rfl rfl dmS_X0_in ⟨Nat.le_of_ble_eq_true rfl, Nat.le_of_ble_eq_true rfl⟩) dX0_digit_15 rfl rfl (Nat.le_of_ble_eq_true rfl) (fun r u h => kX0_in hex h) (fun r8 t9 => ?_)
  refine g_if_ne (pc := 18) X 33 dX0_digit_18 (by decide) ?_ ?_
  · refine g_aload_n (pc := 33) X 1 dX0_digit_33 rfl rfl ?_
    refine g_dup (pc := 34) X dX0_digit_34 rfl ?_
    refine cg_getI (pc := 35) X fo_X0_318 dX0_digit_35 (fun v10 => ?_)
    refine g_iconst (pc := 38) X 1 dX0_digit_38 rfl ?_
    refine g_iadd (pc := 39) X dX0_digit_39 ?_
    refine cg_put (pc := 40) X fp_X0_318 dX0_digit_40 (fun h => by cases h) rfl rfl (fun t11 => ?_)
    refine g_iload_n (pc := 43) X 0 dX0_digit_43 rfl rfl ?_
    refine g_bipush (pc := 44) X 48 dX0_digit_44 rfl ?_
    refine g_isub (pc := 46) X dX0_digit_46 ?_
    exact g_tiret (pc := 47) X hr dX0_digit_47
  · refine cg_new (pc := 21) X nw_X0_327 dX0_digit_21 (fun a12 t13 => ?_)
    refine g_dup (pc := 24) X dX0_digit_24 rfl ?_
    refine g_aload_n (pc := 25) X 1 dX0_digit_25 rfl rfl ?_
    refine cg_getI (pc := 26) X fo_X0_318 dX0_digit_26 (fun v14 => ?_)
    refine g_bI_v (pc := 29) X (y := yX10_init) (As := [.int v14]) (rest := [.ref a12]) (b := a12) (fr' := 3) (lo' := 60) (fun _ => cwI 1 X.2.2.2.2.1 (lw_meth q1195) rfl rfl rfl (X.2.2.2.2.1 _ q95) (X.2.2.2.2.1 _ q1193) (X.2.2.2.2.1 _ q1194) rfl dmS_X10_init ⟨Nat.le_of_ble_eq_true rfl, Nat.le_of_ble_eq_true rfl⟩) dX0_digit_29 rfl rfl (Nat.le_of_ble_eq_true rfl) (fun r u h => kX10_init hex h) (fun r15 t16 => ?_)
    exact g_athrow (pc := 32) X ht dX0_digit_32 rfl rfl
theorem kX0_digit {ex : Nat → Option Nat} {z : Nat} {h0 : Nat} {x1 : Int32} {σ : Sg} {r : (Int32 ⊕ Nat)} {u : St} (hex : ex = Γ.2.2.2.2) (hl : l.stackTraces = false) (h : fX0_digit ex z h0 x1 (σ, 0, 0) = some (r, u)) : g_CT Γ l yX0_digit cX0_digit 3 (some .int) [] 4 81 [.ref h0, .int x1] σ z t_i r (g_ι z u) := by
  exact g_metT (ι := g_ι z) (t := (σ, 0, 0)) [.ref h0, .int x1] (Nat.le_of_ble_eq_true rfl) h rfl (fun p e s m args below meth c X hr hn ht => wX0_digit hex hl X hr ht h0 x1 (σ, 0, 0))
end CP
abbrev cX0_ends : ByteArray := prog_1_method_59_code
def yX0_ends : MethodName := ⟨RX0, "ends", "()V"⟩
def dkwX0_ends_0 : List UInt8 := [42, 182, 1, 65, 153, 0, 15, 187, 1, 71, 89, 42, 180, 1, 62, 183, 1, 73, 191, 177]
abbrev dktX0_ends_0 : List UInt8 := dkwX0_ends_0 ++ []
theorem dksX0_ends_0 : cX0_ends.data.toList.drop 0 = dktX0_ends_0 := by decide +kernel
theorem dX0_ends_0 : decode cX0_ends 0 = .ok (.aload_n 0, 1) := dk_42 (dk_at dksX0_ends_0 0 rfl rfl)
theorem dX0_ends_1 : decode cX0_ends 1 = .ok (.invokevirtual 321, 3) := dk_182 1 65 (dk_at dksX0_ends_0 1 rfl rfl)
theorem dX0_ends_4 : decode cX0_ends 4 = .ok (.ifCond .eq 15, 3) := dk_153 0 15 (dk_at dksX0_ends_0 4 rfl rfl)
theorem dX0_ends_7 : decode cX0_ends 7 = .ok (.new 327, 3) := dk_187 1 71 (dk_at dksX0_ends_0 7 rfl rfl)
theorem dX0_ends_10 : decode cX0_ends 10 = .ok (.dup, 1) := dk_89 (dk_at dksX0_ends_0 10 rfl rfl)
theorem dX0_ends_11 : decode cX0_ends 11 = .ok (.aload_n 0, 1) := dk_42 (dk_at dksX0_ends_0 11 rfl rfl)
theorem dX0_ends_12 : decode cX0_ends 12 = .ok (.getfield 318, 3) := dk_180 1 62 (dk_at dksX0_ends_0 12 rfl rfl)
theorem dX0_ends_15 : decode cX0_ends 15 = .ok (.invokespecial 329, 3) := dk_183 1 73 (dk_at dksX0_ends_0 15 rfl rfl)
theorem dX0_ends_18 : decode cX0_ends 18 = .ok (.athrow, 1) := dk_191 (dk_at dksX0_ends_0 18 rfl rfl)
theorem dX0_ends_19 : decode cX0_ends 19 = .ok (.return_, 1) := dk_177 (dk_at dksX0_ends_0 19 rfl rfl)
section CP
variable {Γ : Gc} {p : Program} {l : Launch} {e : Env} {s : State} {m : MethodId} {args : Array Value} {below : List Frame} {meth : Method} {c : Code} {ex : Nat → Option Nat} {z : Nat} {tF : St}
noncomputable def fX0_ends (ex : Nat → Option Nat) (z : Nat) (h0 : Nat) (t : St) : Option ((Unit ⊕ Nat) × St) := ccast [0] t h0 (gb (fX0_here ex (z + t.2.1) h0 (t.1, 0, 0)) t fun r1 t2 => if r1 = 0 then some (.inl (), t2) else cnew z 10 [.null, .null, .null, .null, .null, .int 0, .int 0] 7 t2 fun a8 t9 => cgI [0] 8 t9 h0 fun v10 => gb (fX10_init ex (z + t9.2.1) a8 v10 (t9.1, 0, 0)) t9 fun _ t12 => some (.inr a8, t12))
set_option maxHeartbeats 4000000 in
theorem wX0_ends {rF : (Unit ⊕ Nat)} (hex : ex = Γ.2.2.2.2) (hl : l.stackTraces = false) (X : g_X Γ p s m args meth c cX0_ends 1 RX0) (hr : meth.sig.returnType = none) (ht : g_T meth []) (h0 : Nat) (t : St) : Wf Γ p l e 4 81 s m args below meth c 1 (g_ι z) t_v rF tF 0 [(0, .ref h0)] [] t (fX0_ends ex z h0 t) := by
  unfold fX0_ends
  refine g_aload_n (pc := 0) X 0 dX0_ends_0 rfl rfl ?_
  refine g_bD_i (pc := 1) X (cs := [0]) (As := []) (rest := []) (b := h0) (n := 0) dX0_ends_1 rfl rfl (Nat.le_of_ble_eq_true rfl) (fun fl3 ci4 fs5 hs6 hci7 r u h => ?_) (fun r1 t2 => ?_)
  · obtain rfl := List.mem_singleton.mp hci7
    exact ⟨_, _, _, yX0_here, _, _, _, 0, 0, rfl, kX0_here hex h, Or.inl (cwV 0 X.2.2.2.2.1 (lw_V q1095 q1097 qs18 q70 q1098) rfl rfl rfl dmV_X0_here ⟨Nat.le_of_ble_eq_true rfl, Nat.le_of_ble_eq_true rfl⟩)⟩
  refine g_if_eq (pc := 4) X 19 dX0_ends_4 (by decide) ?_ ?_
  · exact g_tvret (pc := 19) X hr dX0_ends_19
  · refine cg_new (pc := 7) X nw_X0_327 dX0_ends_7 (fun a8 t9 => ?_)
    refine g_dup (pc := 10) X dX0_ends_10 rfl ?_
    refine g_aload_n (pc := 11) X 0 dX0_ends_11 rfl rfl ?_
    refine cg_getI (pc := 12) X fo_X0_318 dX0_ends_12 (fun v10 => ?_)
    refine g_bI_v (pc := 15) X (y := yX10_init) (As := [.int v10]) (rest := [.ref a8]) (b := a8) (fr' := 3) (lo' := 60) (fun _ => cwI 1 X.2.2.2.2.1 (lw_meth q1195) rfl rfl rfl (X.2.2.2.2.1 _ q95) (X.2.2.2.2.1 _ q1193) (X.2.2.2.2.1 _ q1194) rfl dmS_X10_init ⟨Nat.le_of_ble_eq_true rfl, Nat.le_of_ble_eq_true rfl⟩) dX0_ends_15 rfl rfl (Nat.le_of_ble_eq_true rfl) (fun r u h => kX10_init hex h) (fun r11 t12 => ?_)
    exact g_athrow (pc := 18) X ht dX0_ends_18 rfl rfl
theorem kX0_ends {ex : Nat → Option Nat} {z : Nat} {h0 : Nat} {σ : Sg} {r : (Unit ⊕ Nat)} {u : St} (hex : ex = Γ.2.2.2.2) (hl : l.stackTraces = false) (h : fX0_ends ex z h0 (σ, 0, 0) = some (r, u)) : g_CT Γ l yX0_ends cX0_ends 1 none [] 4 81 [.ref h0] σ z t_v r (g_ι z u) := by
  exact g_metT (ι := g_ι z) (t := (σ, 0, 0)) [.ref h0] (Nat.le_of_ble_eq_true rfl) h rfl (fun p e s m args below meth c X hr hn ht => wX0_ends hex hl X hr ht h0 (σ, 0, 0))
end CP
abbrev cX0_readSigns : ByteArray := prog_1_method_60_code
def yX0_readSigns : MethodName := ⟨RX0, "readSigns", "(Ljava/lang/String;II)I"⟩
def dkwX0_readSigns_2 : List UInt8 := [172]
abbrev dktX0_readSigns_2 : List UInt8 := dkwX0_readSigns_2 ++ []
def dkwX0_readSigns_1 : List UInt8 := [180, 1, 84, 21, 4, 42, 43, 182, 1, 87, 145, 84, 132, 4, 1, 167, 255, 221, 42, 182, 1, 91, 21, 4]
abbrev dktX0_readSigns_1 : List UInt8 := dkwX0_readSigns_1 ++ dktX0_readSigns_2
def dkwX0_readSigns_0 : List UInt8 := [3, 54, 4, 21, 4, 29, 162, 0, 35, 21, 4, 28, 161, 0, 10, 42, 182, 1, 65, 153, 0, 22, 42]
abbrev dktX0_readSigns_0 : List UInt8 := dkwX0_readSigns_0 ++ dktX0_readSigns_1
theorem dksX0_readSigns_0 : cX0_readSigns.data.toList.drop 0 = dktX0_readSigns_0 := by decide +kernel
theorem dksX0_readSigns_1 : cX0_readSigns.data.toList.drop 23 = dktX0_readSigns_1 := dk_seg dksX0_readSigns_0 23 rfl rfl
theorem dksX0_readSigns_2 : cX0_readSigns.data.toList.drop 47 = dktX0_readSigns_2 := dk_seg dksX0_readSigns_1 24 rfl rfl
theorem dX0_readSigns_0 : decode cX0_readSigns 0 = .ok (.iconst 0, 1) := dk_3 (dk_at dksX0_readSigns_0 0 rfl rfl)
theorem dX0_readSigns_1 : decode cX0_readSigns 1 = .ok (.istore 4, 2) := dk_54 4 (dk_at dksX0_readSigns_0 1 rfl rfl)
theorem dX0_readSigns_3 : decode cX0_readSigns 3 = .ok (.iload 4, 2) := dk_21 4 (dk_at dksX0_readSigns_0 3 rfl rfl)
theorem dX0_readSigns_5 : decode cX0_readSigns 5 = .ok (.iload_n 3, 1) := dk_29 (dk_at dksX0_readSigns_0 5 rfl rfl)
theorem dX0_readSigns_6 : decode cX0_readSigns 6 = .ok (.if_icmp .ge 35, 3) := dk_162 0 35 (dk_at dksX0_readSigns_0 6 rfl rfl)
theorem dX0_readSigns_9 : decode cX0_readSigns 9 = .ok (.iload 4, 2) := dk_21 4 (dk_at dksX0_readSigns_0 9 rfl rfl)
theorem dX0_readSigns_11 : decode cX0_readSigns 11 = .ok (.iload_n 2, 1) := dk_28 (dk_at dksX0_readSigns_0 11 rfl rfl)
theorem dX0_readSigns_12 : decode cX0_readSigns 12 = .ok (.if_icmp .lt 10, 3) := dk_161 0 10 (dk_at dksX0_readSigns_0 12 rfl rfl)
theorem dX0_readSigns_15 : decode cX0_readSigns 15 = .ok (.aload_n 0, 1) := dk_42 (dk_at dksX0_readSigns_0 15 rfl rfl)
theorem dX0_readSigns_16 : decode cX0_readSigns 16 = .ok (.invokevirtual 321, 3) := dk_182 1 65 (dk_at dksX0_readSigns_0 16 rfl rfl)
theorem dX0_readSigns_19 : decode cX0_readSigns 19 = .ok (.ifCond .eq 22, 3) := dk_153 0 22 (dk_at dksX0_readSigns_0 19 rfl rfl)
theorem dX0_readSigns_22 : decode cX0_readSigns 22 = .ok (.aload_n 0, 1) := dk_42 (dk_at dksX0_readSigns_0 22 rfl rfl)
theorem dX0_readSigns_23 : decode cX0_readSigns 23 = .ok (.getfield 340, 3) := dk_180 1 84 (dk_at dksX0_readSigns_1 0 rfl rfl)
theorem dX0_readSigns_26 : decode cX0_readSigns 26 = .ok (.iload 4, 2) := dk_21 4 (dk_at dksX0_readSigns_1 3 rfl rfl)
theorem dX0_readSigns_28 : decode cX0_readSigns 28 = .ok (.aload_n 0, 1) := dk_42 (dk_at dksX0_readSigns_1 5 rfl rfl)
theorem dX0_readSigns_29 : decode cX0_readSigns 29 = .ok (.aload_n 1, 1) := dk_43 (dk_at dksX0_readSigns_1 6 rfl rfl)
theorem dX0_readSigns_30 : decode cX0_readSigns 30 = .ok (.invokevirtual 343, 3) := dk_182 1 87 (dk_at dksX0_readSigns_1 7 rfl rfl)
theorem dX0_readSigns_33 : decode cX0_readSigns 33 = .ok (.i2b, 1) := dk_145 (dk_at dksX0_readSigns_1 10 rfl rfl)
theorem dX0_readSigns_34 : decode cX0_readSigns 34 = .ok (.bastore, 1) := dk_84 (dk_at dksX0_readSigns_1 11 rfl rfl)
theorem dX0_readSigns_35 : decode cX0_readSigns 35 = .ok (.iinc 4 1, 3) := dk_132 4 1 (dk_at dksX0_readSigns_1 12 rfl rfl)
theorem dX0_readSigns_38 : decode cX0_readSigns 38 = .ok (.goto (-35), 3) := dk_167 255 221 (dk_at dksX0_readSigns_1 15 rfl rfl)
theorem dX0_readSigns_41 : decode cX0_readSigns 41 = .ok (.aload_n 0, 1) := dk_42 (dk_at dksX0_readSigns_1 18 rfl rfl)
theorem dX0_readSigns_42 : decode cX0_readSigns 42 = .ok (.invokevirtual 347, 3) := dk_182 1 91 (dk_at dksX0_readSigns_1 19 rfl rfl)
theorem dX0_readSigns_45 : decode cX0_readSigns 45 = .ok (.iload 4, 2) := dk_21 4 (dk_at dksX0_readSigns_1 22 rfl rfl)
theorem dX0_readSigns_47 : decode cX0_readSigns 47 = .ok (.ireturn, 1) := dk_172 (dk_at dksX0_readSigns_2 0 rfl rfl)
theorem fo_X0_340 : g_fo RX0 340 [0] 9 := ⟨_, _, _, Or.inl q1625, fun ci h => by
  simp only [List.mem_cons, List.not_mem_nil, or_false] at h; rcases h with rfl
  · exact ⟨_, _, _, rfl, by decide, rfl, rfl, Or.inl rfl, in_X0⟩⟩
theorem dy_X0_letter : (yX0_letter.cls ≠ "java/lang/invoke/MethodHandle" ∧ yX0_letter.cls ≠ "java/lang/invoke/VarHandle") ∧ (parseMethodDescriptor yX0_letter.desc).map (fun d => d.parameters.length) = some 1 := by decide +kernel
theorem dy_X0_ends : (yX0_ends.cls ≠ "java/lang/invoke/MethodHandle" ∧ yX0_ends.cls ≠ "java/lang/invoke/VarHandle") ∧ (parseMethodDescriptor yX0_ends.desc).map (fun d => d.parameters.length) = some 0 := by decide +kernel
section CP
variable {Γ : Gc} {p : Program} {l : Launch} {e : Env} {s : State} {m : MethodId} {args : Array Value} {below : List Frame} {meth : Method} {c : Code} {ex : Nat → Option Nat} {z : Nat} {tF : St}
noncomputable def fX0_readSigns_22 (ex : Nat → Option Nat) (z : Nat) (kc3 : Nat → Nat → Int32 → Int32 → Int32 → St → Option ((Int32 ⊕ Nat) × St)) (h0 : Nat) (h1 : Nat) (x2 : Int32) (x3 : Int32) (x4 : Int32) (t : St) : Option ((Int32 ⊕ Nat) × St) := cgA [0] 9 t h0 fun v1 => ccast [0] t h0 (gbT (fX0_letter ex (z + t.2.1) h0 h1 (t.1, 0, 0)) t (fun r2 t3 => cast_ 0 (vp_nar .byte) t3 v1 x4 r2.toInt8.toInt32 fun t6 => kc3 h0 h1 x2 x3 (x4 + 1) t6) (fun a5 t4 => some (.inr a5, t4)))
set_option maxHeartbeats 4000000 in
theorem wX0_readSigns_22 {rF : (Int32 ⊕ Nat)} (hex : ex = Γ.2.2.2.2) (hl : l.stackTraces = false) (X : g_X Γ p s m args meth c cX0_readSigns 5 RX0) (hr : meth.sig.returnType = (some .int)) (ht : g_T meth []) {kc3 : Nat → Nat → Int32 → Int32 → Int32 → St → Option ((Int32 ⊕ Nat) × St)} (hk3 : ∀ (h0 : Nat) (h1 : Nat) (x2 : Int32) (x3 : Int32) (x4 : Int32) (t : St), Wf Γ p l e 5 113 s m args below meth c 5 (g_ι z) t_i rF tF 3 [(0, .ref h0), (1, .ref h1), (2, .int x2), (3, .int x3), (4, .int x4)] [] t (kc3 h0 h1 x2 x3 x4 t)) (h0 : Nat) (h1 : Nat) (x2 : Int32) (x3 : Int32) (x4 : Int32) (t : St) : Wf Γ p l e 5 113 s m args below meth c 5 (g_ι z) t_i rF tF 22 [(0, .ref h0), (1, .ref h1), (2, .int x2), (3, .int x3), (4, .int x4)] [] t (fX0_readSigns_22 ex z kc3 h0 h1 x2 x3 x4 t) := by
  unfold fX0_readSigns_22
  refine g_aload_n (pc := 22) X 0 dX0_readSigns_22 rfl rfl ?_
  refine cg_getA (pc := 23) X fo_X0_340 dX0_readSigns_23 (fun v1 => ?_)
  refine g_iload (pc := 26) X 4 dX0_readSigns_26 rfl ?_
  refine g_aload_n (pc := 28) X 0 dX0_readSigns_28 rfl rfl ?_
  refine g_aload_n (pc := 29) X 1 dX0_readSigns_29 rfl rfl ?_
  refine t_bV_i (pc := 30) X (ci := 0) (C := RX0) (b := h0) (y := yX0_letter) (As := [.ref h1]) (rest := [.int x4, .ref v1]) (n := 1) (fr' := 4) (lo' := 91) ⟨_, _, rfl⟩ dX0_readSigns_30 rfl rfl (Nat.le_of_ble_eq_true rfl) (plainFor_of_name (by decide)) (Or.inl ⟨q1102, rfl⟩) ⟨Nat.le_of_ble_eq_true rfl, Nat.le_of_ble_eq_true rfl⟩ q1101 q1099 qs19 dy_X0_letter.1 dy_X0_letter.2 (fun r u h => kX0_letter hex hl h) (fun r2 t3 => ?_) (fun a5 t4 => x_leave X ht rfl rfl)
  refine g_i2b (pc := 33) X dX0_readSigns_33 ?_
  refine cg_bast (pc := 34) X dX0_readSigns_34 (fun t6 => ?_)
  refine g_iinc (pc := 35) X 1 4 (lv' := [(4, .int (x4 + 1)), (0, .ref h0), (1, .ref h1), (2, .int x2), (3, .int x3)]) dX0_readSigns_35 rfl rfl (by decide) rfl ?_
  refine g_goto (pc := 38) X 3 dX0_readSigns_38 (by decide) ?_
  exact g_lv (pc := 3) (lv' := [(0, .ref h0), (1, .ref h1), (2, .int x2), (3, .int x3), (4, .int (x4 + 1))]) [1, 2, 3, 4, 0] rfl (hk3 h0 h1 x2 x3 (x4 + 1) t6)
noncomputable def fX0_readSigns_3 (ex : Nat → Option Nat) (z : Nat) : Nat → Nat → Nat → Int32 → Int32 → Int32 → St → Option ((Int32 ⊕ Nat) × St)
  | 0, _, _, _, _, _, _ => none
  | n + 1, h0, h1, x2, x3, x4, t => if x3 ≤ x4 then ccast [0] t h0 (gbT (fX0_ends ex (z + t.2.1) h0 (t.1, 0, 0)) t (fun _ t2 => some (.inl x4, t2)) (fun a4 t3 => some (.inr a4, t3))) else if x4 < x2 then fX0_readSigns_22 ex z (fun a0 a1 a2 a3 a4 a5 => fX0_readSigns_3 ex z n a0 a1 a2 a3 a4 a5) h0 h1 x2 x3 x4 t else ccast [0] t h0 (gb (fX0_here ex (z + t.2.1) h0 (t.1, 0, 0)) t fun r5 t6 => if r5 = 0 then ccast [0] t6 h0 (gbT (fX0_ends ex (z + t6.2.1) h0 (t6.1, 0, 0)) t6 (fun _ t13 => some (.inl x4, t13)) (fun a15 t14 => some (.inr a15, t14))) else fX0_readSigns_22 ex z (fun a0 a1 a2 a3 a4 a5 => fX0_readSigns_3 ex z n a0 a1 a2 a3 a4 a5) h0 h1 x2 x3 x4 t6)
set_option maxHeartbeats 4000000 in
theorem wX0_readSigns_3 {rF : (Int32 ⊕ Nat)} (hex : ex = Γ.2.2.2.2) (hl : l.stackTraces = false) (X : g_X Γ p s m args meth c cX0_readSigns 5 RX0) (hr : meth.sig.returnType = (some .int)) (ht : g_T meth []) (n : Nat) : ∀ (h0 : Nat) (h1 : Nat) (x2 : Int32) (x3 : Int32) (x4 : Int32) (t : St), Wf Γ p l e 5 113 s m args below meth c 5 (g_ι z) t_i rF tF 3 [(0, .ref h0), (1, .ref h1), (2, .int x2), (3, .int x3), (4, .int x4)] [] t (fX0_readSigns_3 ex z n h0 h1 x2 x3 x4 t) := by
  induction n with
  | zero => intro h0 h1 x2 x3 x4 t; exact g_none
  | succ n ih =>
    intro h0 h1 x2 x3 x4 t
    rw [fX0_readSigns_3]
    refine g_iload (pc := 3) X 4 dX0_readSigns_3 rfl ?_
    refine g_iload_n (pc := 5) X 3 dX0_readSigns_5 rfl rfl ?_
    refine g_icmp_ge (pc := 6) X 41 dX0_readSigns_6 (by decide) ?_ ?_
    · refine g_aload_n (pc := 41) X 0 dX0_readSigns_41 rfl rfl ?_
      refine t_bV_v (pc := 42) X (ci := 0) (C := RX0) (b := h0) (y := yX0_ends) (As := []) (rest := []) (n := 0) (fr' := 4) (lo' := 81) ⟨_, _, rfl⟩ dX0_readSigns_42 rfl rfl (Nat.le_of_ble_eq_true rfl) (plainFor_of_name (by decide)) (Or.inl ⟨q1211, rfl⟩) ⟨Nat.le_of_ble_eq_true rfl, Nat.le_of_ble_eq_true rfl⟩ q1210 q1208 qs20 dy_X0_ends.1 dy_X0_ends.2 (fun r u h => kX0_ends hex hl h) (fun r1 t2 => ?_) (fun a4 t3 => x_leave X ht rfl rfl)
      refine g_iload (pc := 45) X 4 dX0_readSigns_45 rfl ?_
      exact g_tiret (pc := 47) X hr dX0_readSigns_47
    · refine g_iload (pc := 9) X 4 dX0_readSigns_9 rfl ?_
      refine g_iload_n (pc := 11) X 2 dX0_readSigns_11 rfl rfl ?_
      refine g_icmp_lt (pc := 12) X 22 dX0_readSigns_12 (by decide) ?_ ?_
      · exact g_lv (pc := 22) (lv' := [(0, .ref h0), (1, .ref h1), (2, .int x2), (3, .int x3), (4, .int x4)]) [0, 1, 2, 3, 4] rfl (wX0_readSigns_22 hex hl X hr ht (fun a0 a1 a2 a3 a4 a5 => ih a0 a1 a2 a3 a4 a5) h0 h1 x2 x3 x4 t)
      · refine g_aload_n (pc := 15) X 0 dX0_readSigns_15 rfl rfl ?_
        refine g_bD_i (pc := 16) X (cs := [0]) (As := []) (rest := []) (b := h0) (n := 0) dX0_readSigns_16 rfl rfl (Nat.le_of_ble_eq_true rfl) (fun fl7 ci8 fs9 hs10 hci11 r u h => ?_) (fun r5 t6 => ?_)
        · obtain rfl := List.mem_singleton.mp hci11
          exact ⟨_, _, _, yX0_here, _, _, _, 0, 0, rfl, kX0_here hex h, Or.inl (cwV 0 X.2.2.2.2.1 (lw_V q1095 q1097 qs18 q70 q1098) rfl rfl rfl dmV_X0_here ⟨Nat.le_of_ble_eq_true rfl, Nat.le_of_ble_eq_true rfl⟩)⟩
        refine g_if_eq (pc := 19) X 41 dX0_readSigns_19 (by decide) ?_ ?_
        · refine g_aload_n (pc := 41) X 0 dX0_readSigns_41 rfl rfl ?_
          refine t_bV_v (pc := 42) X (ci := 0) (C := RX0) (b := h0) (y := yX0_ends) (As := []) (rest := []) (n := 0) (fr' := 4) (lo' := 81) ⟨_, _, rfl⟩ dX0_readSigns_42 rfl rfl (Nat.le_of_ble_eq_true rfl) (plainFor_of_name (by decide)) (Or.inl ⟨q1211, rfl⟩) ⟨Nat.le_of_ble_eq_true rfl, Nat.le_of_ble_eq_true rfl⟩ q1210 q1208 qs20 dy_X0_ends.1 dy_X0_ends.2 (fun r u h => kX0_ends hex hl h) (fun r12 t13 => ?_) (fun a15 t14 => x_leave X ht rfl rfl)
          refine g_iload (pc := 45) X 4 dX0_readSigns_45 rfl ?_
          exact g_tiret (pc := 47) X hr dX0_readSigns_47
        · exact g_lv (pc := 22) (lv' := [(0, .ref h0), (1, .ref h1), (2, .int x2), (3, .int x3), (4, .int x4)]) [0, 1, 2, 3, 4] rfl (wX0_readSigns_22 hex hl X hr ht (fun a0 a1 a2 a3 a4 a5 => ih a0 a1 a2 a3 a4 a5) h0 h1 x2 x3 x4 t6)
noncomputable def fX0_readSigns (ex : Nat → Option Nat) (z : Nat) (h0 : Nat) (h1 : Nat) (x2 : Int32) (x3 : Int32) (t : St) : Option ((Int32 ⊕ Nat) × St) := fX0_readSigns_3 ex z 1000 h0 h1 x2 x3 0 t
set_option maxHeartbeats 4000000 in
theorem wX0_readSigns {rF : (Int32 ⊕ Nat)} (hex : ex = Γ.2.2.2.2) (hl : l.stackTraces = false) (X : g_X Γ p s m args meth c cX0_readSigns 5 RX0) (hr : meth.sig.returnType = (some .int)) (ht : g_T meth []) (h0 : Nat) (h1 : Nat) (x2 : Int32) (x3 : Int32) (t : St) : Wf Γ p l e 5 113 s m args below meth c 5 (g_ι z) t_i rF tF 0 [(0, .ref h0), (1, .ref h1), (2, .int x2), (3, .int x3)] [] t (fX0_readSigns ex z h0 h1 x2 x3 t) := by
  unfold fX0_readSigns
  refine g_iconst (pc := 0) X 0 dX0_readSigns_0 rfl ?_
  refine g_istore (pc := 1) X (lv' := [(4, .int 0), (0, .ref h0), (1, .ref h1), (2, .int x2), (3, .int x3)]) dX0_readSigns_1 (by decide) rfl ?_
  exact g_lv (pc := 3) (lv' := [(0, .ref h0), (1, .ref h1), (2, .int x2), (3, .int x3), (4, .int 0)]) [1, 2, 3, 4, 0] rfl (wX0_readSigns_3 hex hl X hr ht 1000 h0 h1 x2 x3 0 t)
theorem kX0_readSigns {ex : Nat → Option Nat} {z : Nat} {h0 : Nat} {h1 : Nat} {x2 : Int32} {x3 : Int32} {σ : Sg} {r : (Int32 ⊕ Nat)} {u : St} (hex : ex = Γ.2.2.2.2) (hl : l.stackTraces = false) (h : fX0_readSigns ex z h0 h1 x2 x3 (σ, 0, 0) = some (r, u)) : g_CT Γ l yX0_readSigns cX0_readSigns 5 (some .int) [] 5 113 [.ref h0, .ref h1, .int x2, .int x3] σ z t_i r (g_ι z u) := by
  exact g_metT (ι := g_ι z) (t := (σ, 0, 0)) [.ref h0, .ref h1, .int x2, .int x3] (Nat.le_of_ble_eq_true rfl) h rfl (fun p e s m args below meth c X hr hn ht => wX0_readSigns hex hl X hr ht h0 h1 x2 x3 (σ, 0, 0))
end CP
