/-! the component, its methods: X0_readClock, X0_readAct, X0_laidT, X0_sizeOf, X0_itemOf, X0_laneOf (printed by gen/cmain.py) -/
set_option maxRecDepth 100000
theorem q96 : (Jvm.Cond.initialized "LameClocks$Passing") ∈ lw_all := lw_g (lw_at lw_m1 27 rfl) rfl
theorem q97 : (Jvm.Cond.initialized "LameClocks$Breathing") ∈ lw_all := lw_g (lw_at lw_m1 28 rfl) rfl
theorem q98 : (Jvm.Cond.initialized "LameClocks$Winding") ∈ lw_all := lw_g (lw_at lw_m1 29 rfl) rfl
theorem q99 : (Jvm.Cond.initialized "LameClocks$Turning") ∈ lw_all := lw_g (lw_at lw_m1 30 rfl) rfl
theorem q1225 : (Jvm.Cond.code ({ cls := "LameClocks", name := "readClock", desc := "()LLameClocks$Plain;" } : Jvm.MethodName) prog_1_method_63_code (4 : Nat) (Option.some (Jvm.ClassFile.FieldType.object "LameClocks$Plain"))) ∈ lw_all := lw_g (lw_at lw_m5 196 rfl) rfl
theorem q1226 : (Jvm.Cond.stringRef "LameClocks" (366 : Nat) "pcodtm") ∈ lw_tbl := lw_at lw_m5 197 rfl
theorem q1227 : (Jvm.Cond.methodLink "LameClocks" (368 : Nat) ({ cls := "LameClocks", name := "number", desc := "(II)I" } : Jvm.MethodName)) ∈ lw_all := lw_g (lw_at lw_m5 198 rfl) rfl
theorem q1229 : (Jvm.Cond.instanceMethod ({ cls := "LameClocks", name := "number", desc := "(II)I" } : Jvm.MethodName)) ∈ lw_all := lw_g (lw_at lw_m5 200 rfl) rfl
theorem q1244 : (Jvm.Cond.code ({ cls := "LameClocks", name := "readAct", desc := "()LLameClocks$Act;" } : Jvm.MethodName) prog_1_method_65_code (3 : Nat) (Option.some (Jvm.ClassFile.FieldType.object "LameClocks$Act"))) ∈ lw_all := lw_g (lw_at lw_m5 215 rfl) rfl
theorem q1245 : (Jvm.Cond.classLink "LameClocks" (378 : Nat) "LameClocks$Passing") ∈ lw_all := lw_g (lw_at lw_m5 216 rfl) rfl
theorem q1246 : (Jvm.Cond.instantiable "LameClocks$Passing" (1 : Nat)) ∈ lw_all := lw_g (lw_at lw_m5 217 rfl) rfl
theorem q1247 : (Jvm.Cond.methodLinkNest "LameClocks" (380 : Nat) ({ cls := "LameClocks$Passing", name := "<init>", desc := "(LLameClocks;)V" } : Jvm.MethodName) "LameClocks") ∈ lw_tbl := lw_at lw_m5 218 rfl
theorem q1248 : (Jvm.Cond.instanceMethod ({ cls := "LameClocks$Passing", name := "<init>", desc := "(LLameClocks;)V" } : Jvm.MethodName)) ∈ lw_all := lw_g (lw_at lw_m5 219 rfl) rfl
theorem q1255 : (Jvm.Cond.classLink "LameClocks" (383 : Nat) "LameClocks$Breathing") ∈ lw_all := lw_g (lw_at lw_m5 226 rfl) rfl
theorem q1256 : (Jvm.Cond.instantiable "LameClocks$Breathing" (2 : Nat)) ∈ lw_all := lw_g (lw_at lw_m5 227 rfl) rfl
theorem q1257 : (Jvm.Cond.methodLink "LameClocks" (385 : Nat) ({ cls := "LameClocks$Breathing", name := "<init>", desc := "(LLameClocks;I)V" } : Jvm.MethodName)) ∈ lw_all := lw_g (lw_at lw_m5 228 rfl) rfl
theorem q1258 : (Jvm.Cond.instanceMethod ({ cls := "LameClocks$Breathing", name := "<init>", desc := "(LLameClocks;I)V" } : Jvm.MethodName)) ∈ lw_all := lw_g (lw_at lw_m5 229 rfl) rfl
theorem q1268 : (Jvm.Cond.methodLink "LameClocks" (386 : Nat) ({ cls := "LameClocks", name := "must", desc := "(I)V" } : Jvm.MethodName)) ∈ lw_all := lw_g (lw_at lw_m5 239 rfl) rfl
theorem q1270 : (Jvm.Cond.instanceMethod ({ cls := "LameClocks", name := "must", desc := "(I)V" } : Jvm.MethodName)) ∈ lw_all := lw_g (lw_at lw_m6 1 rfl) rfl
theorem q1272 : (Jvm.Cond.methodLink "LameClocks" (389 : Nat) ({ cls := "LameClocks", name := "digit", desc := "(I)I" } : Jvm.MethodName)) ∈ lw_all := lw_g (lw_at lw_m6 3 rfl) rfl
theorem q1274 : (Jvm.Cond.instanceMethod ({ cls := "LameClocks", name := "digit", desc := "(I)I" } : Jvm.MethodName)) ∈ lw_all := lw_g (lw_at lw_m6 5 rfl) rfl
theorem q1276 : (Jvm.Cond.classLink "LameClocks" (392 : Nat) "LameClocks$Winding") ∈ lw_all := lw_g (lw_at lw_m6 7 rfl) rfl
theorem q1277 : (Jvm.Cond.instantiable "LameClocks$Winding" (3 : Nat)) ∈ lw_all := lw_g (lw_at lw_m6 8 rfl) rfl
theorem q1278 : (Jvm.Cond.methodLink "LameClocks" (394 : Nat) ({ cls := "LameClocks$Winding", name := "<init>", desc := "(LLameClocks;II)V" } : Jvm.MethodName)) ∈ lw_all := lw_g (lw_at lw_m6 9 rfl) rfl
theorem q1279 : (Jvm.Cond.instanceMethod ({ cls := "LameClocks$Winding", name := "<init>", desc := "(LLameClocks;II)V" } : Jvm.MethodName)) ∈ lw_all := lw_g (lw_at lw_m6 10 rfl) rfl
theorem q1292 : (Jvm.Cond.classLink "LameClocks" (397 : Nat) "LameClocks$Turning") ∈ lw_all := lw_g (lw_at lw_m6 23 rfl) rfl
theorem q1293 : (Jvm.Cond.instantiable "LameClocks$Turning" (3 : Nat)) ∈ lw_all := lw_g (lw_at lw_m6 24 rfl) rfl
theorem q1294 : (Jvm.Cond.methodLink "LameClocks" (399 : Nat) ({ cls := "LameClocks$Turning", name := "<init>", desc := "(LLameClocks;II)V" } : Jvm.MethodName)) ∈ lw_all := lw_g (lw_at lw_m6 25 rfl) rfl
theorem q1295 : (Jvm.Cond.instanceMethod ({ cls := "LameClocks$Turning", name := "<init>", desc := "(LLameClocks;II)V" } : Jvm.MethodName)) ∈ lw_all := lw_g (lw_at lw_m6 26 rfl) rfl
theorem q1400 : (Jvm.Cond.code ({ cls := "LameClocks", name := "laneOf", desc := "(Ljava/lang/Object;)I" } : Jvm.MethodName) prog_1_method_74_code (1 : Nat) (Option.some Jvm.ClassFile.FieldType.int)) ∈ lw_all := lw_g (lw_at lw_m6 131 rfl) rfl
theorem q1401 : (Jvm.Cond.classLink "LameClocks" (434 : Nat) "[B") ∈ lw_all := lw_g (lw_at lw_m6 132 rfl) rfl
theorem q1402 : (Jvm.Cond.classLink "LameClocks" (435 : Nat) "[S") ∈ lw_all := lw_g (lw_at lw_m6 133 rfl) rfl
theorem q1403 : (Jvm.Cond.classLink "LameClocks" (437 : Nat) "[I") ∈ lw_all := lw_g (lw_at lw_m6 134 rfl) rfl
theorem q1406 : (Jvm.Cond.code ({ cls := "LameClocks", name := "sizeOf", desc := "(Ljava/lang/Object;I)I" } : Jvm.MethodName) prog_1_method_72_code (2 : Nat) (Option.some Jvm.ClassFile.FieldType.int)) ∈ lw_all := lw_g (lw_at lw_m6 137 rfl) rfl
theorem q1407 : (Jvm.Cond.classLink "LameClocks" (439 : Nat) "[J") ∈ lw_all := lw_g (lw_at lw_m6 138 rfl) rfl
theorem q1494 : (Jvm.Cond.code ({ cls := "LameClocks", name := "itemOf", desc := "(Ljava/lang/Object;II)J" } : Jvm.MethodName) prog_1_method_73_code (3 : Nat) (Option.some Jvm.ClassFile.FieldType.long)) ∈ lw_all := lw_g (lw_at lw_m6 225 rfl) rfl
abbrev cX0_readClock : ByteArray := prog_1_method_63_code
def yX0_readClock : MethodName := ⟨RX0, "readClock", "()LLameClocks$Plain;"⟩
def dkwX0_readClock_3 : List UInt8 := [3, 16, 99, 182, 1, 112, 167, 0, 4, 3, 184, 0, 69, 176]
abbrev dktX0_readClock_3 : List UInt8 := dkwX0_readClock_3 ++ []
def dkwX0_readClock_2 : List UInt8 := [16, 30, 182, 1, 112, 116, 167, 0, 4, 3, 62, 27, 28, 29, 42, 16, 42, 182, 1, 68, 153, 0, 13, 42]
abbrev dktX0_readClock_2 : List UInt8 := dkwX0_readClock_2 ++ dktX0_readClock_3
def dkwX0_readClock_1 : List UInt8 := [153, 0, 13, 42, 3, 16, 30, 182, 1, 112, 167, 0, 24, 42, 16, 45, 182, 1, 68, 153, 0, 14, 42, 3]
abbrev dktX0_readClock_1 : List UInt8 := dkwX0_readClock_1 ++ dktX0_readClock_2
def dkwX0_readClock_0 : List UInt8 := [42, 19, 1, 110, 182, 1, 87, 60, 42, 3, 17, 2, 207, 182, 1, 112, 61, 42, 16, 43, 182, 1, 68]
abbrev dktX0_readClock_0 : List UInt8 := dkwX0_readClock_0 ++ dktX0_readClock_1
theorem dksX0_readClock_0 : cX0_readClock.data.toList.drop 0 = dktX0_readClock_0 := by decide +kernel
theorem dksX0_readClock_1 : cX0_readClock.data.toList.drop 23 = dktX0_readClock_1 := dk_seg dksX0_readClock_0 23 rfl rfl
theorem dksX0_readClock_2 : cX0_readClock.data.toList.drop 47 = dktX0_readClock_2 := dk_seg dksX0_readClock_1 24 rfl rfl
theorem dksX0_readClock_3 : cX0_readClock.data.toList.drop 71 = dktX0_readClock_3 := dk_seg dksX0_readClock_2 24 rfl rfl
theorem dX0_readClock_0 : decode cX0_readClock 0 = .ok (.aload_n 0, 1) := dk_42 (dk_at dksX0_readClock_0 0 rfl rfl)
theorem dX0_readClock_1 : decode cX0_readClock 1 = .ok (.ldc_w 366, 3) := dk_19 1 110 (dk_at dksX0_readClock_0 1 rfl rfl)
theorem dX0_readClock_4 : decode cX0_readClock 4 = .ok (.invokevirtual 343, 3) := dk_182 1 87 (dk_at dksX0_readClock_0 4 rfl rfl)
theorem dX0_readClock_7 : decode cX0_readClock 7 = .ok (.istore_n 1, 1) := dk_60 (dk_at dksX0_readClock_0 7 rfl rfl)
theorem dX0_readClock_8 : decode cX0_readClock 8 = .ok (.aload_n 0, 1) := dk_42 (dk_at dksX0_readClock_0 8 rfl rfl)
theorem dX0_readClock_9 : decode cX0_readClock 9 = .ok (.iconst 0, 1) := dk_3 (dk_at dksX0_readClock_0 9 rfl rfl)
theorem dX0_readClock_10 : decode cX0_readClock 10 = .ok (.sipush 719, 3) := dk_17 2 207 (dk_at dksX0_readClock_0 10 rfl rfl)
theorem dX0_readClock_13 : decode cX0_readClock 13 = .ok (.invokevirtual 368, 3) := dk_182 1 112 (dk_at dksX0_readClock_0 13 rfl rfl)
theorem dX0_readClock_16 : decode cX0_readClock 16 = .ok (.istore_n 2, 1) := dk_61 (dk_at dksX0_readClock_0 16 rfl rfl)
theorem dX0_readClock_17 : decode cX0_readClock 17 = .ok (.aload_n 0, 1) := dk_42 (dk_at dksX0_readClock_0 17 rfl rfl)
theorem dX0_readClock_18 : decode cX0_readClock 18 = .ok (.bipush 43, 2) := dk_16 43 (dk_at dksX0_readClock_0 18 rfl rfl)
theorem dX0_readClock_20 : decode cX0_readClock 20 = .ok (.invokevirtual 324, 3) := dk_182 1 68 (dk_at dksX0_readClock_0 20 rfl rfl)
theorem dX0_readClock_23 : decode cX0_readClock 23 = .ok (.ifCond .eq 13, 3) := dk_153 0 13 (dk_at dksX0_readClock_1 0 rfl rfl)
theorem dX0_readClock_26 : decode cX0_readClock 26 = .ok (.aload_n 0, 1) := dk_42 (dk_at dksX0_readClock_1 3 rfl rfl)
theorem dX0_readClock_27 : decode cX0_readClock 27 = .ok (.iconst 0, 1) := dk_3 (dk_at dksX0_readClock_1 4 rfl rfl)
theorem dX0_readClock_28 : decode cX0_readClock 28 = .ok (.bipush 30, 2) := dk_16 30 (dk_at dksX0_readClock_1 5 rfl rfl)
theorem dX0_readClock_30 : decode cX0_readClock 30 = .ok (.invokevirtual 368, 3) := dk_182 1 112 (dk_at dksX0_readClock_1 7 rfl rfl)
theorem dX0_readClock_33 : decode cX0_readClock 33 = .ok (.goto 24, 3) := dk_167 0 24 (dk_at dksX0_readClock_1 10 rfl rfl)
theorem dX0_readClock_36 : decode cX0_readClock 36 = .ok (.aload_n 0, 1) := dk_42 (dk_at dksX0_readClock_1 13 rfl rfl)
theorem dX0_readClock_37 : decode cX0_readClock 37 = .ok (.bipush 45, 2) := dk_16 45 (dk_at dksX0_readClock_1 14 rfl rfl)
theorem dX0_readClock_39 : decode cX0_readClock 39 = .ok (.invokevirtual 324, 3) := dk_182 1 68 (dk_at dksX0_readClock_1 16 rfl rfl)
theorem dX0_readClock_42 : decode cX0_readClock 42 = .ok (.ifCond .eq 14, 3) := dk_153 0 14 (dk_at dksX0_readClock_1 19 rfl rfl)
theorem dX0_readClock_45 : decode cX0_readClock 45 = .ok (.aload_n 0, 1) := dk_42 (dk_at dksX0_readClock_1 22 rfl rfl)
theorem dX0_readClock_46 : decode cX0_readClock 46 = .ok (.iconst 0, 1) := dk_3 (dk_at dksX0_readClock_1 23 rfl rfl)
theorem dX0_readClock_47 : decode cX0_readClock 47 = .ok (.bipush 30, 2) := dk_16 30 (dk_at dksX0_readClock_2 0 rfl rfl)
theorem dX0_readClock_49 : decode cX0_readClock 49 = .ok (.invokevirtual 368, 3) := dk_182 1 112 (dk_at dksX0_readClock_2 2 rfl rfl)
theorem dX0_readClock_52 : decode cX0_readClock 52 = .ok (.ineg, 1) := dk_116 (dk_at dksX0_readClock_2 5 rfl rfl)
theorem dX0_readClock_53 : decode cX0_readClock 53 = .ok (.goto 4, 3) := dk_167 0 4 (dk_at dksX0_readClock_2 6 rfl rfl)
theorem dX0_readClock_56 : decode cX0_readClock 56 = .ok (.iconst 0, 1) := dk_3 (dk_at dksX0_readClock_2 9 rfl rfl)
theorem dX0_readClock_57 : decode cX0_readClock 57 = .ok (.istore_n 3, 1) := dk_62 (dk_at dksX0_readClock_2 10 rfl rfl)
theorem dX0_readClock_58 : decode cX0_readClock 58 = .ok (.iload_n 1, 1) := dk_27 (dk_at dksX0_readClock_2 11 rfl rfl)
theorem dX0_readClock_59 : decode cX0_readClock 59 = .ok (.iload_n 2, 1) := dk_28 (dk_at dksX0_readClock_2 12 rfl rfl)
theorem dX0_readClock_60 : decode cX0_readClock 60 = .ok (.iload_n 3, 1) := dk_29 (dk_at dksX0_readClock_2 13 rfl rfl)
theorem dX0_readClock_61 : decode cX0_readClock 61 = .ok (.aload_n 0, 1) := dk_42 (dk_at dksX0_readClock_2 14 rfl rfl)
theorem dX0_readClock_62 : decode cX0_readClock 62 = .ok (.bipush 42, 2) := dk_16 42 (dk_at dksX0_readClock_2 15 rfl rfl)
theorem dX0_readClock_64 : decode cX0_readClock 64 = .ok (.invokevirtual 324, 3) := dk_182 1 68 (dk_at dksX0_readClock_2 17 rfl rfl)
theorem dX0_readClock_67 : decode cX0_readClock 67 = .ok (.ifCond .eq 13, 3) := dk_153 0 13 (dk_at dksX0_readClock_2 20 rfl rfl)
theorem dX0_readClock_70 : decode cX0_readClock 70 = .ok (.aload_n 0, 1) := dk_42 (dk_at dksX0_readClock_2 23 rfl rfl)
theorem dX0_readClock_71 : decode cX0_readClock 71 = .ok (.iconst 0, 1) := dk_3 (dk_at dksX0_readClock_3 0 rfl rfl)
theorem dX0_readClock_72 : decode cX0_readClock 72 = .ok (.bipush 99, 2) := dk_16 99 (dk_at dksX0_readClock_3 1 rfl rfl)
theorem dX0_readClock_74 : decode cX0_readClock 74 = .ok (.invokevirtual 368, 3) := dk_182 1 112 (dk_at dksX0_readClock_3 3 rfl rfl)
theorem dX0_readClock_77 : decode cX0_readClock 77 = .ok (.goto 4, 3) := dk_167 0 4 (dk_at dksX0_readClock_3 6 rfl rfl)
theorem dX0_readClock_80 : decode cX0_readClock 80 = .ok (.iconst 0, 1) := dk_3 (dk_at dksX0_readClock_3 9 rfl rfl)
theorem dX0_readClock_81 : decode cX0_readClock 81 = .ok (.invokestatic 69, 3) := dk_184 0 69 (dk_at dksX0_readClock_3 10 rfl rfl)
theorem dX0_readClock_84 : decode cX0_readClock 84 = .ok (.areturn, 1) := dk_176 (dk_at dksX0_readClock_3 13 rfl rfl)
theorem dy_X0_number : (yX0_number.cls ≠ "java/lang/invoke/MethodHandle" ∧ yX0_number.cls ≠ "java/lang/invoke/VarHandle") ∧ (parseMethodDescriptor yX0_number.desc).map (fun d => d.parameters.length) = some 2 := by decide +kernel
section CP
variable {Γ : Gc} {p : Program} {l : Launch} {e : Env} {s : State} {m : MethodId} {args : Array Value} {below : List Frame} {meth : Method} {c : Code} {ex : Nat → Option Nat} {z : Nat} {tF : St}
noncomputable def fX0_readClock_57 (ex : Nat → Option Nat) (z : Nat) (h0 : Nat) (x1 : Int32) (x2 : Int32) (s0 : Int32) (t : St) : Option ((Nat ⊕ Nat) × St) := ccast [0] t h0 (gb (fX0_passes ex (z + t.2.1) h0 42 (t.1, 0, 0)) t fun r1 t2 => if r1 = 0 then gb (fX0_made ex (z + t2.2.1) x1 x2 s0 0 (t2.1, 0, 0)) t2 fun r8 t9 => some (.inl r8, t9) else ccast [0] t2 h0 (gbT (fX0_number ex (z + t2.2.1) h0 0 99 (t2.1, 0, 0)) t2 (fun r10 t11 => gb (fX0_made ex (z + t11.2.1) x1 x2 s0 r10 (t11.1, 0, 0)) t11 fun r14 t15 => some (.inl r14, t15)) (fun a13 t12 => some (.inr a13, t12))))
set_option maxHeartbeats 4000000 in
theorem wX0_readClock_57 {rF : (Nat ⊕ Nat)} (hex : ex = Γ.2.2.2.2) (hl : l.stackTraces = false) (X : g_X Γ p s m args meth c cX0_readClock 4 RX0) (hr : meth.sig.returnType = (some (.object "LameClocks$Plain"))) (ht : g_T meth []) (h0 : Nat) (x1 : Int32) (x2 : Int32) (s0 : Int32) (t : St) : Wf Γ p l e 6 116 s m args below meth c 4 (g_ι z) t_a rF tF 57 [(0, .ref h0), (1, .int x1), (2, .int x2)] [.int s0] t (fX0_readClock_57 ex z h0 x1 x2 s0 t) := by
  unfold fX0_readClock_57
  refine g_istore_n (pc := 57) X (lv' := [(3, .int s0), (0, .ref h0), (1, .int x1), (2, .int x2)]) dX0_readClock_57 rfl (by decide) rfl ?_
  refine g_iload_n (pc := 58) X 2 dX0_readClock_58 rfl rfl ?_
  refine g_iload_n (pc := 59) X 3 dX0_readClock_59 rfl rfl ?_
  refine g_iload_n (pc := 60) X 0 dX0_readClock_60 rfl rfl ?_
  refine g_aload_n (pc := 61) X 1 dX0_readClock_61 rfl rfl ?_
  refine g_bipush (pc := 62) X 42 dX0_readClock_62 rfl ?_
  refine g_bD_i (pc := 64) X (cs := [0]) (As := [.int 42]) (rest := [.int s0, .int x2, .int x1]) (b := h0) (n := 1) dX0_readClock_64 rfl rfl (Nat.le_of_ble_eq_true rfl) (fun fl3 ci4 fs5 hs6 hci7 r u h => ?_) (fun r1 t2 => ?_)
  · obtain rfl := List.mem_singleton.mp hci7
    exact ⟨_, _, _, yX0_passes, _, _, _, 1, 20, rfl, kX0_passes hex h, Or.inl (cwV 1 X.2.2.2.2.1 (lw_V q1233 q1235 qs23 q70 q1236) rfl rfl rfl dmV_X0_passes ⟨Nat.le_of_ble_eq_true rfl, Nat.le_of_ble_eq_true rfl⟩)⟩
  refine g_if_eq (pc := 67) X 80 dX0_readClock_67 (by decide) ?_ ?_
  · refine g_iconst (pc := 80) X 0 dX0_readClock_80 rfl ?_
    refine g_bS_a (pc := 81) X (y := yX0_made) (As := [.int x1, .int x2, .int s0, .int 0]) (rest := []) (fr' := 5) (lo' := 92) (fun _ => va_cwS 4 X.2.2.2.2.1 (lw_S q137 q138 q70 q139) rfl rfl rfl dmS_X0_made ⟨Nat.le_of_ble_eq_true rfl, Nat.le_of_ble_eq_true rfl⟩) dX0_readClock_81 rfl rfl (Nat.le_of_ble_eq_true rfl) (fun r u h => kX0_made hex h) (fun r8 t9 => ?_)
    exact g_taret (pc := 84) X hr (Or.inl ⟨_, rfl⟩) dX0_readClock_84
  · refine g_aload_n (pc := 70) X 1 dX0_readClock_70 rfl rfl ?_
    refine g_iconst (pc := 71) X 0 dX0_readClock_71 rfl ?_
    refine g_bipush (pc := 72) X 99 dX0_readClock_72 rfl ?_
    refine t_bV_i (pc := 74) X (ci := 0) (C := RX0) (b := h0) (y := yX0_number) (As := [.int 0, .int 99]) (rest := [.int s0, .int x2, .int x1]) (n := 2) (fr' := 4) (lo' := 81) ⟨_, _, rfl⟩ dX0_readClock_74 rfl rfl (Nat.le_of_ble_eq_true rfl) (plainFor_of_name (by decide)) (Or.inl ⟨q1230, rfl⟩) ⟨Nat.le_of_ble_eq_true rfl, Nat.le_of_ble_eq_true rfl⟩ q1229 q1227 qs22 dy_X0_number.1 dy_X0_number.2 (fun r u h => kX0_number hex hl h) (fun r10 t11 => ?_) (fun a13 t12 => x_leave X ht rfl rfl)
    refine g_goto (pc := 77) X 81 dX0_readClock_77 (by decide) ?_
    refine g_bS_a (pc := 81) X (y := yX0_made) (As := [.int x1, .int x2, .int s0, .int r10]) (rest := []) (fr' := 5) (lo' := 92) (fun _ => va_cwS 4 X.2.2.2.2.1 (lw_S q137 q138 q70 q139) rfl rfl rfl dmS_X0_made ⟨Nat.le_of_ble_eq_true rfl, Nat.le_of_ble_eq_true rfl⟩) dX0_readClock_81 rfl rfl (Nat.le_of_ble_eq_true rfl) (fun r u h => kX0_made hex h) (fun r14 t15 => ?_)
    exact g_taret (pc := 84) X hr (Or.inl ⟨_, rfl⟩) dX0_readClock_84
noncomputable def fX0_readClock (ex : Nat → Option Nat) (z : Nat) (h0 : Nat) (t : St) : Option ((Nat ⊕ Nat) × St) := cex (ex 3) fun a1 => ccast [0] t h0 (gbT (fX0_letter ex (z + t.2.1) h0 a1 (t.1, 0, 0)) t (fun r2 t3 => ccast [0] t3 h0 (gbT (fX0_number ex (z + t3.2.1) h0 0 719 (t3.1, 0, 0)) t3 (fun r6 t7 => ccast [0] t7 h0 (gb (fX0_passes ex (z + t7.2.1) h0 43 (t7.1, 0, 0)) t7 fun r10 t11 => if r10 = 0 then ccast [0] t11 h0 (gb (fX0_passes ex (z + t11.2.1) h0 45 (t11.1, 0, 0)) t11 fun r17 t18 => if r17 = 0 then fX0_readClock_57 ex z h0 r2 r6 0 t18 else ccast [0] t18 h0 (gbT (fX0_number ex (z + t18.2.1) h0 0 30 (t18.1, 0, 0)) t18 (fun r24 t25 => fX0_readClock_57 ex z h0 r2 r6 (-r24) t25) (fun a27 t26 => some (.inr a27, t26)))) else ccast [0] t11 h0 (gbT (fX0_number ex (z + t11.2.1) h0 0 30 (t11.1, 0, 0)) t11 (fun r28 t29 => fX0_readClock_57 ex z h0 r2 r6 r28 t29) (fun a31 t30 => some (.inr a31, t30))))) (fun a9 t8 => some (.inr a9, t8)))) (fun a5 t4 => some (.inr a5, t4)))
set_option maxHeartbeats 4000000 in
theorem wX0_readClock {rF : (Nat ⊕ Nat)} (hex : ex = Γ.2.2.2.2) (hl : l.stackTraces = false) (X : g_X Γ p s m args meth c cX0_readClock 4 RX0) (hr : meth.sig.returnType = (some (.object "LameClocks$Plain"))) (ht : g_T meth []) (h0 : Nat) (t : St) : Wf Γ p l e 6 116 s m args below meth c 4 (g_ι z) t_a rF tF 0 [(0, .ref h0)] [] t (fX0_readClock ex z h0 t) := by
  unfold fX0_readClock
  refine g_aload_n (pc := 0) X 0 dX0_readClock_0 rfl rfl ?_
  refine cx_ldcS (pc := 1) X hex 3 rfl q1226 dX0_readClock_1 (fun a1 => ?_)
  refine t_bV_i (pc := 4) X (ci := 0) (C := RX0) (b := h0) (y := yX0_letter) (As := [.ref a1]) (rest := []) (n := 1) (fr' := 4) (lo' := 91) ⟨_, _, rfl⟩ dX0_readClock_4 rfl rfl (Nat.le_of_ble_eq_true rfl) (plainFor_of_name (by decide)) (Or.inl ⟨q1102, rfl⟩) ⟨Nat.le_of_ble_eq_true rfl, Nat.le_of_ble_eq_true rfl⟩ q1101 q1099 qs19 dy_X0_letter.1 dy_X0_letter.2 (fun r u h => kX0_letter hex hl h) (fun r2 t3 => ?_) (fun a5 t4 => x_leave X ht rfl rfl)
  refine g_istore_n (pc := 7) X (lv' := [(1, .int r2), (0, .ref h0)]) dX0_readClock_7 rfl (by decide) rfl ?_
  refine g_aload_n (pc := 8) X 1 dX0_readClock_8 rfl rfl ?_
  refine g_iconst (pc := 9) X 0 dX0_readClock_9 rfl ?_
  refine g_sipush (pc := 10) X 719 dX0_readClock_10 rfl ?_
  refine t_bV_i (pc := 13) X (ci := 0) (C := RX0) (b := h0) (y := yX0_number) (As := [.int 0, .int 719]) (rest := []) (n := 2) (fr' := 4) (lo' := 81) ⟨_, _, rfl⟩ dX0_readClock_13 rfl rfl (Nat.le_of_ble_eq_true rfl) (plainFor_of_name (by decide)) (Or.inl ⟨q1230, rfl⟩) ⟨Nat.le_of_ble_eq_true rfl, Nat.le_of_ble_eq_true rfl⟩ q1229 q1227 qs22 dy_X0_number.1 dy_X0_number.2 (fun r u h => kX0_number hex hl h) (fun r6 t7 => ?_) (fun a9 t8 => x_leave X ht rfl rfl)
  refine g_istore_n (pc := 16) X (lv' := [(2, .int r6), (1, .int r2), (0, .ref h0)]) dX0_readClock_16 rfl (by decide) rfl ?_
  refine g_aload_n (pc := 17) X 2 dX0_readClock_17 rfl rfl ?_
  refine g_bipush (pc := 18) X 43 dX0_readClock_18 rfl ?_
  refine g_bD_i (pc := 20) X (cs := [0]) (As := [.int 43]) (rest := []) (b := h0) (n := 1) dX0_readClock_20 rfl rfl (Nat.le_of_ble_eq_true rfl) (fun fl12 ci13 fs14 hs15 hci16 r u h => ?_) (fun r10 t11 => ?_)
  · obtain rfl := List.mem_singleton.mp hci16
    exact ⟨_, _, _, yX0_passes, _, _, _, 1, 20, rfl, kX0_passes hex h, Or.inl (cwV 1 X.2.2.2.2.1 (lw_V q1233 q1235 qs23 q70 q1236) rfl rfl rfl dmV_X0_passes ⟨Nat.le_of_ble_eq_true rfl, Nat.le_of_ble_eq_true rfl⟩)⟩
  refine g_if_eq (pc := 23) X 36 dX0_readClock_23 (by decide) ?_ ?_
  · refine g_aload_n (pc := 36) X 2 dX0_readClock_36 rfl rfl ?_
    refine g_bipush (pc := 37) X 45 dX0_readClock_37 rfl ?_
    refine g_bD_i (pc := 39) X (cs := [0]) (As := [.int 45]) (rest := []) (b := h0) (n := 1) dX0_readClock_39 rfl rfl (Nat.le_of_ble_eq_true rfl) (fun fl19 ci20 fs21 hs22 hci23 r u h => ?_) (fun r17 t18 => ?_)
    · obtain rfl := List.mem_singleton.mp hci23
      exact ⟨_, _, _, yX0_passes, _, _, _, 1, 20, rfl, kX0_passes hex h, Or.inl (cwV 1 X.2.2.2.2.1 (lw_V q1233 q1235 qs23 q70 q1236) rfl rfl rfl dmV_X0_passes ⟨Nat.le_of_ble_eq_true rfl, Nat.le_of_ble_eq_true rfl⟩)⟩
    refine g_if_eq (pc := 42) X 56 dX0_readClock_42 (by decide) ?_ ?_
    · refine g_iconst (pc := 56) X 0 dX0_readClock_56 rfl ?_
      exact g_lv (pc := 57) (lv' := [(0, .ref h0), (1, .int r2), (2, .int r6)]) [2, 1, 0] rfl (wX0_readClock_57 hex hl X hr ht h0 r2 r6 0 t18)
    · refine g_aload_n (pc := 45) X 2 dX0_readClock_45 rfl rfl ?_
      refine g_iconst (pc := 46) X 0 dX0_readClock_46 rfl ?_
      refine g_bipush (pc := 47) X 30 dX0_readClock_47 rfl ?_
      refine t_bV_i (pc := 49) X (ci := 0) (C := RX0) (b := h0) (y := yX0_number) (As := [.int 0, .int 30]) (rest := []) (n := 2) (fr' := 4) (lo' := 81) ⟨_, _, rfl⟩ dX0_readClock_49 rfl rfl (Nat.le_of_ble_eq_true rfl) (plainFor_of_name (by decide)) (Or.inl ⟨q1230, rfl⟩) ⟨Nat.le_of_ble_eq_true rfl, Nat.le_of_ble_eq_true rfl⟩ q1229 q1227 qs22 dy_X0_number.1 dy_X0_number.2 (fun r u h => kX0_number hex hl h) (fun r24 t25 => ?_) (fun a27 t26 => x_leave X ht rfl rfl)
      refine g_ineg (pc := 52) X dX0_readClock_52 ?_
      refine g_goto (pc := 53) X 57 dX0_readClock_53 (by decide) ?_
      exact g_lv (pc := 57) (lv' := [(0, .ref h0), (1, .int r2), (2, .int r6)]) [2, 1, 0] rfl (wX0_readClock_57 hex hl X hr ht h0 r2 r6 (-r24) t25)
  · refine g_aload_n (pc := 26) X 2 dX0_readClock_26 rfl rfl ?_
    refine g_iconst (pc := 27) X 0 dX0_readClock_27 rfl ?_
    refine g_bipush (pc := 28) X 30 dX0_readClock_28 rfl ?_
    refine t_bV_i (pc := 30) X (ci := 0) (C := RX0) (b := h0) (y := yX0_number) (As := [.int 0, .int 30]) (rest := []) (n := 2) (fr' := 4) (lo' := 81) ⟨_, _, rfl⟩ dX0_readClock_30 rfl rfl (Nat.le_of_ble_eq_true rfl) (plainFor_of_name (by decide)) (Or.inl ⟨q1230, rfl⟩) ⟨Nat.le_of_ble_eq_true rfl, Nat.le_of_ble_eq_true rfl⟩ q1229 q1227 qs22 dy_X0_number.1 dy_X0_number.2 (fun r u h => kX0_number hex hl h) (fun r28 t29 => ?_) (fun a31 t30 => x_leave X ht rfl rfl)
    refine g_goto (pc := 33) X 57 dX0_readClock_33 (by decide) ?_
    exact g_lv (pc := 57) (lv' := [(0, .ref h0), (1, .int r2), (2, .int r6)]) [2, 1, 0] rfl (wX0_readClock_57 hex hl X hr ht h0 r2 r6 r28 t29)
theorem kX0_readClock {ex : Nat → Option Nat} {z : Nat} {h0 : Nat} {σ : Sg} {r : (Nat ⊕ Nat)} {u : St} (hex : ex = Γ.2.2.2.2) (hl : l.stackTraces = false) (h : fX0_readClock ex z h0 (σ, 0, 0) = some (r, u)) : g_CT Γ l yX0_readClock cX0_readClock 4 (some (.object "LameClocks$Plain")) [] 6 116 [.ref h0] σ z t_a r (g_ι z u) := by
  exact g_metT (ι := g_ι z) (t := (σ, 0, 0)) [.ref h0] (Nat.le_of_ble_eq_true rfl) h rfl (fun p e s m args below meth c X hr hn ht => wX0_readClock hex hl X hr ht h0 (σ, 0, 0))
end CP
abbrev cX0_readAct : ByteArray := prog_1_method_65_code
def yX0_readAct : MethodName := ⟨RX0, "readAct", "()LLameClocks$Act;"⟩
def dkwX0_readAct_5 : List UInt8 := [17, 2, 207, 182, 1, 112, 183, 1, 143, 176]
abbrev dktX0_readAct_5 : List UInt8 := dkwX0_readAct_5 ++ []
def dkwX0_readAct_4 : List UInt8 := [28, 42, 4, 16, 99, 182, 1, 112, 183, 1, 138, 167, 0, 20, 187, 1, 141, 89, 42, 28, 42, 4]
abbrev dktX0_readAct_4 : List UInt8 := dkwX0_readAct_4 ++ dktX0_readAct_5
def dkwX0_readAct_3 : List UInt8 := [182, 0, 42, 4, 100, 182, 1, 133, 61, 42, 16, 43, 182, 1, 130, 27, 153, 0, 22, 187, 1, 136, 89, 42]
abbrev dktX0_readAct_3 : List UInt8 := dkwX0_readAct_3 ++ dktX0_readAct_4
def dkwX0_readAct_2 : List UInt8 := [42, 16, 119, 182, 1, 68, 60, 27, 154, 0, 9, 42, 16, 116, 182, 1, 130, 42, 42, 180, 0, 38]
abbrev dktX0_readAct_2 : List UInt8 := dkwX0_readAct_2 ++ dktX0_readAct_3
def dkwX0_readAct_1 : List UInt8 := [153, 0, 24, 187, 1, 127, 89, 42, 42, 3, 42, 180, 0, 38, 182, 0, 52, 182, 1, 112, 183, 1, 129, 176]
abbrev dktX0_readAct_1 : List UInt8 := dkwX0_readAct_1 ++ dktX0_readAct_2
def dkwX0_readAct_0 : List UInt8 := [42, 16, 104, 182, 1, 68, 153, 0, 12, 187, 1, 122, 89, 42, 183, 1, 124, 176, 42, 16, 98, 182, 1, 68]
abbrev dktX0_readAct_0 : List UInt8 := dkwX0_readAct_0 ++ dktX0_readAct_1
theorem dksX0_readAct_0 : cX0_readAct.data.toList.drop 0 = dktX0_readAct_0 := by decide +kernel
theorem dksX0_readAct_1 : cX0_readAct.data.toList.drop 24 = dktX0_readAct_1 := dk_seg dksX0_readAct_0 24 rfl rfl
theorem dksX0_readAct_2 : cX0_readAct.data.toList.drop 48 = dktX0_readAct_2 := dk_seg dksX0_readAct_1 24 rfl rfl
theorem dksX0_readAct_3 : cX0_readAct.data.toList.drop 70 = dktX0_readAct_3 := dk_seg dksX0_readAct_2 22 rfl rfl
theorem dksX0_readAct_4 : cX0_readAct.data.toList.drop 94 = dktX0_readAct_4 := dk_seg dksX0_readAct_3 24 rfl rfl
theorem dksX0_readAct_5 : cX0_readAct.data.toList.drop 116 = dktX0_readAct_5 := dk_seg dksX0_readAct_4 22 rfl rfl
theorem dX0_readAct_0 : decode cX0_readAct 0 = .ok (.aload_n 0, 1) := dk_42 (dk_at dksX0_readAct_0 0 rfl rfl)
theorem dX0_readAct_1 : decode cX0_readAct 1 = .ok (.bipush 104, 2) := dk_16 104 (dk_at dksX0_readAct_0 1 rfl rfl)
theorem dX0_readAct_3 : decode cX0_readAct 3 = .ok (.invokevirtual 324, 3) := dk_182 1 68 (dk_at dksX0_readAct_0 3 rfl rfl)
theorem dX0_readAct_6 : decode cX0_readAct 6 = .ok (.ifCond .eq 12, 3) := dk_153 0 12 (dk_at dksX0_readAct_0 6 rfl rfl)
theorem dX0_readAct_9 : decode cX0_readAct 9 = .ok (.new 378, 3) := dk_187 1 122 (dk_at dksX0_readAct_0 9 rfl rfl)
theorem dX0_readAct_12 : decode cX0_readAct 12 = .ok (.dup, 1) := dk_89 (dk_at dksX0_readAct_0 12 rfl rfl)
theorem dX0_readAct_13 : decode cX0_readAct 13 = .ok (.aload_n 0, 1) := dk_42 (dk_at dksX0_readAct_0 13 rfl rfl)
theorem dX0_readAct_14 : decode cX0_readAct 14 = .ok (.invokespecial 380, 3) := dk_183 1 124 (dk_at dksX0_readAct_0 14 rfl rfl)
theorem dX0_readAct_17 : decode cX0_readAct 17 = .ok (.areturn, 1) := dk_176 (dk_at dksX0_readAct_0 17 rfl rfl)
theorem dX0_readAct_18 : decode cX0_readAct 18 = .ok (.aload_n 0, 1) := dk_42 (dk_at dksX0_readAct_0 18 rfl rfl)
theorem dX0_readAct_19 : decode cX0_readAct 19 = .ok (.bipush 98, 2) := dk_16 98 (dk_at dksX0_readAct_0 19 rfl rfl)
theorem dX0_readAct_21 : decode cX0_readAct 21 = .ok (.invokevirtual 324, 3) := dk_182 1 68 (dk_at dksX0_readAct_0 21 rfl rfl)
theorem dX0_readAct_24 : decode cX0_readAct 24 = .ok (.ifCond .eq 24, 3) := dk_153 0 24 (dk_at dksX0_readAct_1 0 rfl rfl)
theorem dX0_readAct_27 : decode cX0_readAct 27 = .ok (.new 383, 3) := dk_187 1 127 (dk_at dksX0_readAct_1 3 rfl rfl)
theorem dX0_readAct_30 : decode cX0_readAct 30 = .ok (.dup, 1) := dk_89 (dk_at dksX0_readAct_1 6 rfl rfl)
theorem dX0_readAct_31 : decode cX0_readAct 31 = .ok (.aload_n 0, 1) := dk_42 (dk_at dksX0_readAct_1 7 rfl rfl)
theorem dX0_readAct_32 : decode cX0_readAct 32 = .ok (.aload_n 0, 1) := dk_42 (dk_at dksX0_readAct_1 8 rfl rfl)
theorem dX0_readAct_33 : decode cX0_readAct 33 = .ok (.iconst 0, 1) := dk_3 (dk_at dksX0_readAct_1 9 rfl rfl)
theorem dX0_readAct_34 : decode cX0_readAct 34 = .ok (.aload_n 0, 1) := dk_42 (dk_at dksX0_readAct_1 10 rfl rfl)
theorem dX0_readAct_35 : decode cX0_readAct 35 = .ok (.getfield 38, 3) := dk_180 0 38 (dk_at dksX0_readAct_1 11 rfl rfl)
theorem dX0_readAct_38 : decode cX0_readAct 38 = .ok (.invokevirtual 52, 3) := dk_182 0 52 (dk_at dksX0_readAct_1 14 rfl rfl)
theorem dX0_readAct_41 : decode cX0_readAct 41 = .ok (.invokevirtual 368, 3) := dk_182 1 112 (dk_at dksX0_readAct_1 17 rfl rfl)
theorem dX0_readAct_44 : decode cX0_readAct 44 = .ok (.invokespecial 385, 3) := dk_183 1 129 (dk_at dksX0_readAct_1 20 rfl rfl)
theorem dX0_readAct_47 : decode cX0_readAct 47 = .ok (.areturn, 1) := dk_176 (dk_at dksX0_readAct_1 23 rfl rfl)
theorem dX0_readAct_48 : decode cX0_readAct 48 = .ok (.aload_n 0, 1) := dk_42 (dk_at dksX0_readAct_2 0 rfl rfl)
theorem dX0_readAct_49 : decode cX0_readAct 49 = .ok (.bipush 119, 2) := dk_16 119 (dk_at dksX0_readAct_2 1 rfl rfl)
theorem dX0_readAct_51 : decode cX0_readAct 51 = .ok (.invokevirtual 324, 3) := dk_182 1 68 (dk_at dksX0_readAct_2 3 rfl rfl)
theorem dX0_readAct_54 : decode cX0_readAct 54 = .ok (.istore_n 1, 1) := dk_60 (dk_at dksX0_readAct_2 6 rfl rfl)
theorem dX0_readAct_55 : decode cX0_readAct 55 = .ok (.iload_n 1, 1) := dk_27 (dk_at dksX0_readAct_2 7 rfl rfl)
theorem dX0_readAct_56 : decode cX0_readAct 56 = .ok (.ifCond .ne 9, 3) := dk_154 0 9 (dk_at dksX0_readAct_2 8 rfl rfl)
theorem dX0_readAct_59 : decode cX0_readAct 59 = .ok (.aload_n 0, 1) := dk_42 (dk_at dksX0_readAct_2 11 rfl rfl)
theorem dX0_readAct_60 : decode cX0_readAct 60 = .ok (.bipush 116, 2) := dk_16 116 (dk_at dksX0_readAct_2 12 rfl rfl)
theorem dX0_readAct_62 : decode cX0_readAct 62 = .ok (.invokevirtual 386, 3) := dk_182 1 130 (dk_at dksX0_readAct_2 14 rfl rfl)
theorem dX0_readAct_65 : decode cX0_readAct 65 = .ok (.aload_n 0, 1) := dk_42 (dk_at dksX0_readAct_2 17 rfl rfl)
theorem dX0_readAct_66 : decode cX0_readAct 66 = .ok (.aload_n 0, 1) := dk_42 (dk_at dksX0_readAct_2 18 rfl rfl)
theorem dX0_readAct_67 : decode cX0_readAct 67 = .ok (.getfield 38, 3) := dk_180 0 38 (dk_at dksX0_readAct_2 19 rfl rfl)
theorem dX0_readAct_70 : decode cX0_readAct 70 = .ok (.invokevirtual 42, 3) := dk_182 0 42 (dk_at dksX0_readAct_3 0 rfl rfl)
theorem dX0_readAct_73 : decode cX0_readAct 73 = .ok (.iconst 1, 1) := dk_4 (dk_at dksX0_readAct_3 3 rfl rfl)
theorem dX0_readAct_74 : decode cX0_readAct 74 = .ok (.isub, 1) := dk_100 (dk_at dksX0_readAct_3 4 rfl rfl)
theorem dX0_readAct_75 : decode cX0_readAct 75 = .ok (.invokevirtual 389, 3) := dk_182 1 133 (dk_at dksX0_readAct_3 5 rfl rfl)
theorem dX0_readAct_78 : decode cX0_readAct 78 = .ok (.istore_n 2, 1) := dk_61 (dk_at dksX0_readAct_3 8 rfl rfl)
theorem dX0_readAct_79 : decode cX0_readAct 79 = .ok (.aload_n 0, 1) := dk_42 (dk_at dksX0_readAct_3 9 rfl rfl)
theorem dX0_readAct_80 : decode cX0_readAct 80 = .ok (.bipush 43, 2) := dk_16 43 (dk_at dksX0_readAct_3 10 rfl rfl)
theorem dX0_readAct_82 : decode cX0_readAct 82 = .ok (.invokevirtual 386, 3) := dk_182 1 130 (dk_at dksX0_readAct_3 12 rfl rfl)
theorem dX0_readAct_85 : decode cX0_readAct 85 = .ok (.iload_n 1, 1) := dk_27 (dk_at dksX0_readAct_3 15 rfl rfl)
theorem dX0_readAct_86 : decode cX0_readAct 86 = .ok (.ifCond .eq 22, 3) := dk_153 0 22 (dk_at dksX0_readAct_3 16 rfl rfl)
theorem dX0_readAct_89 : decode cX0_readAct 89 = .ok (.new 392, 3) := dk_187 1 136 (dk_at dksX0_readAct_3 19 rfl rfl)
theorem dX0_readAct_92 : decode cX0_readAct 92 = .ok (.dup, 1) := dk_89 (dk_at dksX0_readAct_3 22 rfl rfl)
theorem dX0_readAct_93 : decode cX0_readAct 93 = .ok (.aload_n 0, 1) := dk_42 (dk_at dksX0_readAct_3 23 rfl rfl)
theorem dX0_readAct_94 : decode cX0_readAct 94 = .ok (.iload_n 2, 1) := dk_28 (dk_at dksX0_readAct_4 0 rfl rfl)
theorem dX0_readAct_95 : decode cX0_readAct 95 = .ok (.aload_n 0, 1) := dk_42 (dk_at dksX0_readAct_4 1 rfl rfl)
theorem dX0_readAct_96 : decode cX0_readAct 96 = .ok (.iconst 1, 1) := dk_4 (dk_at dksX0_readAct_4 2 rfl rfl)
theorem dX0_readAct_97 : decode cX0_readAct 97 = .ok (.bipush 99, 2) := dk_16 99 (dk_at dksX0_readAct_4 3 rfl rfl)
theorem dX0_readAct_99 : decode cX0_readAct 99 = .ok (.invokevirtual 368, 3) := dk_182 1 112 (dk_at dksX0_readAct_4 5 rfl rfl)
theorem dX0_readAct_102 : decode cX0_readAct 102 = .ok (.invokespecial 394, 3) := dk_183 1 138 (dk_at dksX0_readAct_4 8 rfl rfl)
theorem dX0_readAct_105 : decode cX0_readAct 105 = .ok (.goto 20, 3) := dk_167 0 20 (dk_at dksX0_readAct_4 11 rfl rfl)
theorem dX0_readAct_108 : decode cX0_readAct 108 = .ok (.new 397, 3) := dk_187 1 141 (dk_at dksX0_readAct_4 14 rfl rfl)
theorem dX0_readAct_111 : decode cX0_readAct 111 = .ok (.dup, 1) := dk_89 (dk_at dksX0_readAct_4 17 rfl rfl)
theorem dX0_readAct_112 : decode cX0_readAct 112 = .ok (.aload_n 0, 1) := dk_42 (dk_at dksX0_readAct_4 18 rfl rfl)
theorem dX0_readAct_113 : decode cX0_readAct 113 = .ok (.iload_n 2, 1) := dk_28 (dk_at dksX0_readAct_4 19 rfl rfl)
theorem dX0_readAct_114 : decode cX0_readAct 114 = .ok (.aload_n 0, 1) := dk_42 (dk_at dksX0_readAct_4 20 rfl rfl)
theorem dX0_readAct_115 : decode cX0_readAct 115 = .ok (.iconst 1, 1) := dk_4 (dk_at dksX0_readAct_4 21 rfl rfl)
theorem dX0_readAct_116 : decode cX0_readAct 116 = .ok (.sipush 719, 3) := dk_17 2 207 (dk_at dksX0_readAct_5 0 rfl rfl)
theorem dX0_readAct_119 : decode cX0_readAct 119 = .ok (.invokevirtual 368, 3) := dk_182 1 112 (dk_at dksX0_readAct_5 3 rfl rfl)
theorem dX0_readAct_122 : decode cX0_readAct 122 = .ok (.invokespecial 399, 3) := dk_183 1 143 (dk_at dksX0_readAct_5 6 rfl rfl)
theorem dX0_readAct_125 : decode cX0_readAct 125 = .ok (.areturn, 1) := dk_176 (dk_at dksX0_readAct_5 9 rfl rfl)
theorem nw_X0_383 : g_nw RX0 383 12 [.int 0, .null] 2 := ⟨_, _, _, tyX12, rfl, q1255, q1256, q97, in_X12, tyX12_ok, fun j hj => by
  match j, hj with
  | 0, _ => rfl
  | 1, _ => rfl⟩
theorem nw_X0_378 : g_nw RX0 378 11 [.null] 1 := ⟨_, _, _, tyX11, rfl, q1245, q1246, q96, in_X11, tyX11_ok, fun j hj => by
  match j, hj with
  | 0, _ => rfl⟩
theorem nw_X0_397 : g_nw RX0 397 14 [.int 0, .int 0, .null] 3 := ⟨_, _, _, tyX14, rfl, q1292, q1293, q99, in_X14, tyX14_ok, fun j hj => by
  match j, hj with
  | 0, _ => rfl
  | 1, _ => rfl
  | 2, _ => rfl⟩
theorem nw_X0_392 : g_nw RX0 392 13 [.int 0, .int 0, .null] 3 := ⟨_, _, _, tyX13, rfl, q1276, q1277, q98, in_X13, tyX13_ok, fun j hj => by
  match j, hj with
  | 0, _ => rfl
  | 1, _ => rfl
  | 2, _ => rfl⟩
theorem dy_X0_digit : (yX0_digit.cls ≠ "java/lang/invoke/MethodHandle" ∧ yX0_digit.cls ≠ "java/lang/invoke/VarHandle") ∧ (parseMethodDescriptor yX0_digit.desc).map (fun d => d.parameters.length) = some 1 := by decide +kernel
theorem dy_X0_must : (yX0_must.cls ≠ "java/lang/invoke/MethodHandle" ∧ yX0_must.cls ≠ "java/lang/invoke/VarHandle") ∧ (parseMethodDescriptor yX0_must.desc).map (fun d => d.parameters.length) = some 1 := by decide +kernel
theorem dmS_X14_init : yX14_init.cls ≠ "java/lang/invoke/MethodHandle" ∧ yX14_init.cls ≠ "java/lang/invoke/VarHandle" ∧ (parseMethodDescriptor yX14_init.desc).map (fun d => d.parameters.length) = some 3 := by decide +kernel
theorem dmS_X13_init : yX13_init.cls ≠ "java/lang/invoke/MethodHandle" ∧ yX13_init.cls ≠ "java/lang/invoke/VarHandle" ∧ (parseMethodDescriptor yX13_init.desc).map (fun d => d.parameters.length) = some 3 := by decide +kernel
theorem dmS_X12_init : yX12_init.cls ≠ "java/lang/invoke/MethodHandle" ∧ yX12_init.cls ≠ "java/lang/invoke/VarHandle" ∧ (parseMethodDescriptor yX12_init.desc).map (fun d => d.parameters.length) = some 2 := by decide +kernel
theorem dmS_X11_init : yX11_init.cls ≠ "java/lang/invoke/MethodHandle" ∧ yX11_init.cls ≠ "java/lang/invoke/VarHandle" ∧ (parseMethodDescriptor yX11_init.desc).map (fun d => d.parameters.length) = some 1 := by decide +kernel
section CP
variable {Γ : Gc} {p : Program} {l : Launch} {e : Env} {s : State} {m : MethodId} {args : Array Value} {below : List Frame} {meth : Method} {c : Code} {ex : Nat → Option Nat} {z : Nat} {tF : St}
noncomputable def fX0_readAct_65 (ex : Nat → Option Nat) (z : Nat) (h0 : Nat) (x1 : Int32) (t : St) : Option ((Nat ⊕ Nat) × St) := cgA [0] 0 t h0 fun v1 => ccast [1] t v1 (gb (fX1_size ex (z + t.2.1) v1 (t.1, 0, 0)) t fun r2 t3 => ccast [0] t3 h0 (gbT (fX0_digit ex (z + t3.2.1) h0 (r2 - 1) (t3.1, 0, 0)) t3 (fun r9 t10 => ccast [0] t10 h0 (gbT (fX0_must ex (z + t10.2.1) h0 43 (t10.1, 0, 0)) t10 (fun _ t14 => if x1 = 0 then cnew z 14 [.int 0, .int 0, .null] 3 t14 fun a17 t18 => ccast [0] t18 h0 (gbT (fX0_number ex (z + t18.2.1) h0 1 719 (t18.1, 0, 0)) t18 (fun r19 t20 => gb (fX14_init ex (z + t20.2.1) a17 h0 r9 r19 (t20.1, 0, 0)) t20 fun _ t24 => some (.inl a17, t24)) (fun a22 t21 => some (.inr a22, t21))) else cnew z 13 [.int 0, .int 0, .null] 3 t14 fun a25 t26 => ccast [0] t26 h0 (gbT (fX0_number ex (z + t26.2.1) h0 1 99 (t26.1, 0, 0)) t26 (fun r27 t28 => gb (fX13_init ex (z + t28.2.1) a25 h0 r9 r27 (t28.1, 0, 0)) t28 fun _ t32 => some (.inl a25, t32)) (fun a30 t29 => some (.inr a30, t29)))) (fun a16 t15 => some (.inr a16, t15)))) (fun a12 t11 => some (.inr a12, t11))))
set_option maxHeartbeats 4000000 in
theorem wX0_readAct_65 {rF : (Nat ⊕ Nat)} (hex : ex = Γ.2.2.2.2) (hl : l.stackTraces = false) (X : g_X Γ p s m args meth c cX0_readAct 3 RX0) (hr : meth.sig.returnType = (some (.object "LameClocks$Act"))) (ht : g_T meth []) (h0 : Nat) (x1 : Int32) (t : St) : Wf Γ p l e 5 105 s m args below meth c 3 (g_ι z) t_a rF tF 65 [(0, .ref h0), (1, .int x1)] [] t (fX0_readAct_65 ex z h0 x1 t) := by
  unfold fX0_readAct_65
  refine g_aload_n (pc := 65) X 0 dX0_readAct_65 rfl rfl ?_
  refine g_aload_n (pc := 66) X 0 dX0_readAct_66 rfl rfl ?_
  refine cg_getA (pc := 67) X fo_X0_38 dX0_readAct_67 (fun v1 => ?_)
  refine g_bD_i (pc := 70) X (cs := [1]) (As := []) (rest := [.ref h0]) (b := v1) (n := 0) dX0_readAct_70 rfl rfl (Nat.le_of_ble_eq_true rfl) (fun fl4 ci5 fs6 hs7 hci8 r u h => ?_) (fun r2 t3 => ?_)
  · obtain rfl := List.mem_singleton.mp hci8
    exact ⟨_, _, _, yX1_size, _, _, _, 1, 20, rfl, kX1_size hex h, Or.inl (cwV 0 X.2.2.2.2.1 (lw_V q129 q130 q131 q71 q132) rfl rfl rfl dmV_X1_size ⟨Nat.le_of_ble_eq_true rfl, Nat.le_of_ble_eq_true rfl⟩)⟩
  refine g_iconst (pc := 73) X 1 dX0_readAct_73 rfl ?_
  refine g_isub (pc := 74) X dX0_readAct_74 ?_
  refine t_bV_i (pc := 75) X (ci := 0) (C := RX0) (b := h0) (y := yX0_digit) (As := [.int (r2 - 1)]) (rest := []) (n := 1) (fr' := 4) (lo' := 81) ⟨_, _, rfl⟩ dX0_readAct_75 rfl rfl (Nat.le_of_ble_eq_true rfl) (plainFor_of_name (by decide)) (Or.inl ⟨q1275, rfl⟩) ⟨Nat.le_of_ble_eq_true rfl, Nat.le_of_ble_eq_true rfl⟩ q1274 q1272 qs26 dy_X0_digit.1 dy_X0_digit.2 (fun r u h => kX0_digit hex hl h) (fun r9 t10 => ?_) (fun a12 t11 => x_leave X ht rfl rfl)
  refine g_istore_n (pc := 78) X (lv' := [(2, .int r9), (0, .ref h0), (1, .int x1)]) dX0_readAct_78 rfl (by decide) rfl ?_
  refine g_aload_n (pc := 79) X 1 dX0_readAct_79 rfl rfl ?_
  refine g_bipush (pc := 80) X 43 dX0_readAct_80 rfl ?_
  refine t_bV_v (pc := 82) X (ci := 0) (C := RX0) (b := h0) (y := yX0_must) (As := [.int 43]) (rest := []) (n := 1) (fr' := 4) (lo' := 81) ⟨_, _, rfl⟩ dX0_readAct_82 rfl rfl (Nat.le_of_ble_eq_true rfl) (plainFor_of_name (by decide)) (Or.inl ⟨q1271, rfl⟩) ⟨Nat.le_of_ble_eq_true rfl, Nat.le_of_ble_eq_true rfl⟩ q1270 q1268 qs25 dy_X0_must.1 dy_X0_must.2 (fun r u h => kX0_must hex hl h) (fun r13 t14 => ?_) (fun a16 t15 => x_leave X ht rfl rfl)
  refine g_iload_n (pc := 85) X 2 dX0_readAct_85 rfl rfl ?_
  refine g_if_eq (pc := 86) X 108 dX0_readAct_86 (by decide) ?_ ?_
  · refine cg_new (pc := 108) X nw_X0_397 dX0_readAct_108 (fun a17 t18 => ?_)
    refine g_dup (pc := 111) X dX0_readAct_111 rfl ?_
    refine g_aload_n (pc := 112) X 1 dX0_readAct_112 rfl rfl ?_
    refine g_iload_n (pc := 113) X 0 dX0_readAct_113 rfl rfl ?_
    refine g_aload_n (pc := 114) X 1 dX0_readAct_114 rfl rfl ?_
    refine g_iconst (pc := 115) X 1 dX0_readAct_115 rfl ?_
    refine g_sipush (pc := 116) X 719 dX0_readAct_116 rfl ?_
    refine t_bV_i (pc := 119) X (ci := 0) (C := RX0) (b := h0) (y := yX0_number) (As := [.int 1, .int 719]) (rest := [.int r9, .ref h0, .ref a17, .ref a17]) (n := 2) (fr' := 4) (lo' := 81) ⟨_, _, rfl⟩ dX0_readAct_119 rfl rfl (Nat.le_of_ble_eq_true rfl) (plainFor_of_name (by decide)) (Or.inl ⟨q1230, rfl⟩) ⟨Nat.le_of_ble_eq_true rfl, Nat.le_of_ble_eq_true rfl⟩ q1229 q1227 qs22 dy_X0_number.1 dy_X0_number.2 (fun r u h => kX0_number hex hl h) (fun r19 t20 => ?_) (fun a22 t21 => x_leave X ht rfl rfl)
    refine g_bI_v (pc := 122) X (y := yX14_init) (As := [.ref h0, .int r9, .int r19]) (rest := [.ref a17]) (b := a17) (fr' := 1) (lo' := 12) (fun _ => cwI 3 X.2.2.2.2.1 (lw_meth q1296) rfl rfl rfl (X.2.2.2.2.1 _ q99) (X.2.2.2.2.1 _ q1294) (X.2.2.2.2.1 _ q1295) rfl dmS_X14_init ⟨Nat.le_of_ble_eq_true rfl, Nat.le_of_ble_eq_true rfl⟩) dX0_readAct_122 rfl rfl (Nat.le_of_ble_eq_true rfl) (fun r u h => kX14_init hex h) (fun r23 t24 => ?_)
    exact g_taret (pc := 125) X hr (Or.inl ⟨_, rfl⟩) dX0_readAct_125
  · refine cg_new (pc := 89) X nw_X0_392 dX0_readAct_89 (fun a25 t26 => ?_)
    refine g_dup (pc := 92) X dX0_readAct_92 rfl ?_
    refine g_aload_n (pc := 93) X 1 dX0_readAct_93 rfl rfl ?_
    refine g_iload_n (pc := 94) X 0 dX0_readAct_94 rfl rfl ?_
    refine g_aload_n (pc := 95) X 1 dX0_readAct_95 rfl rfl ?_
    refine g_iconst (pc := 96) X 1 dX0_readAct_96 rfl ?_
    refine g_bipush (pc := 97) X 99 dX0_readAct_97 rfl ?_
    refine t_bV_i (pc := 99) X (ci := 0) (C := RX0) (b := h0) (y := yX0_number) (As := [.int 1, .int 99]) (rest := [.int r9, .ref h0, .ref a25, .ref a25]) (n := 2) (fr' := 4) (lo' := 81) ⟨_, _, rfl⟩ dX0_readAct_99 rfl rfl (Nat.le_of_ble_eq_true rfl) (plainFor_of_name (by decide)) (Or.inl ⟨q1230, rfl⟩) ⟨Nat.le_of_ble_eq_true rfl, Nat.le_of_ble_eq_true rfl⟩ q1229 q1227 qs22 dy_X0_number.1 dy_X0_number.2 (fun r u h => kX0_number hex hl h) (fun r27 t28 => ?_) (fun a30 t29 => x_leave X ht rfl rfl)
    refine g_bI_v (pc := 102) X (y := yX13_init) (As := [.ref h0, .int r9, .int r27]) (rest := [.ref a25]) (b := a25) (fr' := 1) (lo' := 12) (fun _ => cwI 3 X.2.2.2.2.1 (lw_meth q1280) rfl rfl rfl (X.2.2.2.2.1 _ q98) (X.2.2.2.2.1 _ q1278) (X.2.2.2.2.1 _ q1279) rfl dmS_X13_init ⟨Nat.le_of_ble_eq_true rfl, Nat.le_of_ble_eq_true rfl⟩) dX0_readAct_102 rfl rfl (Nat.le_of_ble_eq_true rfl) (fun r u h => kX13_init hex h) (fun r31 t32 => ?_)
    refine g_goto (pc := 105) X 125 dX0_readAct_105 (by decide) ?_
    exact g_taret (pc := 125) X hr (Or.inl ⟨_, rfl⟩) dX0_readAct_125
noncomputable def fX0_readAct (ex : Nat → Option Nat) (z : Nat) (h0 : Nat) (t : St) : Option ((Nat ⊕ Nat) × St) := ccast [0] t h0 (gb (fX0_passes ex (z + t.2.1) h0 104 (t.1, 0, 0)) t fun r1 t2 => if r1 = 0 then ccast [0] t2 h0 (gb (fX0_passes ex (z + t2.2.1) h0 98 (t2.1, 0, 0)) t2 fun r8 t9 => if r8 = 0 then ccast [0] t9 h0 (gb (fX0_passes ex (z + t9.2.1) h0 119 (t9.1, 0, 0)) t9 fun r15 t16 => if r15 = 0 then ccast [0] t16 h0 (gbT (fX0_must ex (z + t16.2.1) h0 116 (t16.1, 0, 0)) t16 (fun _ t23 => fX0_readAct_65 ex z h0 r15 t23) (fun a25 t24 => some (.inr a25, t24))) else fX0_readAct_65 ex z h0 r15 t16) else cnew z 12 [.int 0, .null] 2 t9 fun a26 t27 => cgA [0] 0 t27 h0 fun v28 => ccast [1] t27 v28 (gb (fX1_home ex (z + t27.2.1) v28 (t27.1, 0, 0)) t27 fun r29 t30 => ccast [0] t30 h0 (gbT (fX0_number ex (z + t30.2.1) h0 0 r29 (t30.1, 0, 0)) t30 (fun r36 t37 => gb (fX12_init ex (z + t37.2.1) a26 h0 r36 (t37.1, 0, 0)) t37 fun _ t41 => some (.inl a26, t41)) (fun a39 t38 => some (.inr a39, t38))))) else cnew z 11 [.null] 1 t2 fun a42 t43 => gb (fX11_init ex (z + t43.2.1) a42 h0 (t43.1, 0, 0)) t43 fun _ t45 => some (.inl a42, t45))
set_option maxHeartbeats 4000000 in
theorem wX0_readAct {rF : (Nat ⊕ Nat)} (hex : ex = Γ.2.2.2.2) (hl : l.stackTraces = false) (X : g_X Γ p s m args meth c cX0_readAct 3 RX0) (hr : meth.sig.returnType = (some (.object "LameClocks$Act"))) (ht : g_T meth []) (h0 : Nat) (t : St) : Wf Γ p l e 5 105 s m args below meth c 3 (g_ι z) t_a rF tF 0 [(0, .ref h0)] [] t (fX0_readAct ex z h0 t) := by
  unfold fX0_readAct
  refine g_aload_n (pc := 0) X 0 dX0_readAct_0 rfl rfl ?_
  refine g_bipush (pc := 1) X 104 dX0_readAct_1 rfl ?_
  refine g_bD_i (pc := 3) X (cs := [0]) (As := [.int 104]) (rest := []) (b := h0) (n := 1) dX0_readAct_3 rfl rfl (Nat.le_of_ble_eq_true rfl) (fun fl3 ci4 fs5 hs6 hci7 r u h => ?_) (fun r1 t2 => ?_)
  · obtain rfl := List.mem_singleton.mp hci7
    exact ⟨_, _, _, yX0_passes, _, _, _, 1, 20, rfl, kX0_passes hex h, Or.inl (cwV 1 X.2.2.2.2.1 (lw_V q1233 q1235 qs23 q70 q1236) rfl rfl rfl dmV_X0_passes ⟨Nat.le_of_ble_eq_true rfl, Nat.le_of_ble_eq_true rfl⟩)⟩
  refine g_if_eq (pc := 6) X 18 dX0_readAct_6 (by decide) ?_ ?_
  · refine g_aload_n (pc := 18) X 0 dX0_readAct_18 rfl rfl ?_
    refine g_bipush (pc := 19) X 98 dX0_readAct_19 rfl ?_
    refine g_bD_i (pc := 21) X (cs := [0]) (As := [.int 98]) (rest := []) (b := h0) (n := 1) dX0_readAct_21 rfl rfl (Nat.le_of_ble_eq_true rfl) (fun fl10 ci11 fs12 hs13 hci14 r u h => ?_) (fun r8 t9 => ?_)
    · obtain rfl := List.mem_singleton.mp hci14
      exact ⟨_, _, _, yX0_passes, _, _, _, 1, 20, rfl, kX0_passes hex h, Or.inl (cwV 1 X.2.2.2.2.1 (lw_V q1233 q1235 qs23 q70 q1236) rfl rfl rfl dmV_X0_passes ⟨Nat.le_of_ble_eq_true rfl, Nat.le_of_ble_eq_true rfl⟩)⟩
    refine g_if_eq (pc := 24) X 48 dX0_readAct_24 (by decide) ?_ ?_
    · refine g_aload_n (pc := 48) X 0 dX0_readAct_48 rfl rfl ?_
      refine g_bipush (pc := 49) X 119 dX0_readAct_49 rfl ?_
      refine g_bD_i (pc := 51) X (cs := [0]) (As := [.int 119]) (rest := []) (b := h0) (n := 1) dX0_readAct_51 rfl rfl (Nat.le_of_ble_eq_true rfl) (fun fl17 ci18 fs19 hs20 hci21 r u h => ?_) (fun r15 t16 => ?_)
      · obtain rfl := List.mem_singleton.mp hci21
        exact ⟨_, _, _, yX0_passes, _, _, _, 1, 20, rfl, kX0_passes hex h, Or.inl (cwV 1 X.2.2.2.2.1 (lw_V q1233 q1235 qs23 q70 q1236) rfl rfl rfl dmV_X0_passes ⟨Nat.le_of_ble_eq_true rfl, Nat.le_of_ble_eq_true rfl⟩)⟩
      refine g_istore_n (pc := 54) X (lv' := [(1, .int r15), (0, .ref h0)]) dX0_readAct_54 rfl (by decide) rfl ?_
      refine g_iload_n (pc := 55) X 0 dX0_readAct_55 rfl rfl ?_
      refine g_if_ne (pc := 56) X 65 dX0_readAct_56 (by decide) ?_ ?_
      · exact g_lv (pc := 65) (lv' := [(0, .ref h0), (1, .int r15)]) [1, 0] rfl (wX0_readAct_65 hex hl X hr ht h0 r15 t16)
      · refine g_aload_n (pc := 59) X 1 dX0_readAct_59 rfl rfl ?_
        refine g_bipush (pc := 60) X 116 dX0_readAct_60 rfl ?_
        refine t_bV_v (pc := 62) X (ci := 0) (C := RX0) (b := h0) (y := yX0_must) (As := [.int 116]) (rest := []) (n := 1) (fr' := 4) (lo' := 81) ⟨_, _, rfl⟩ dX0_readAct_62 rfl rfl (Nat.le_of_ble_eq_true rfl) (plainFor_of_name (by decide)) (Or.inl ⟨q1271, rfl⟩) ⟨Nat.le_of_ble_eq_true rfl, Nat.le_of_ble_eq_true rfl⟩ q1270 q1268 qs25 dy_X0_must.1 dy_X0_must.2 (fun r u h => kX0_must hex hl h) (fun r22 t23 => ?_) (fun a25 t24 => x_leave X ht rfl rfl)
        exact g_lv (pc := 65) (lv' := [(0, .ref h0), (1, .int r15)]) [1, 0] rfl (wX0_readAct_65 hex hl X hr ht h0 r15 t23)
    · refine cg_new (pc := 27) X nw_X0_383 dX0_readAct_27 (fun a26 t27 => ?_)
      refine g_dup (pc := 30) X dX0_readAct_30 rfl ?_
      refine g_aload_n (pc := 31) X 0 dX0_readAct_31 rfl rfl ?_
      refine g_aload_n (pc := 32) X 0 dX0_readAct_32 rfl rfl ?_
      refine g_iconst (pc := 33) X 0 dX0_readAct_33 rfl ?_
      refine g_aload_n (pc := 34) X 0 dX0_readAct_34 rfl rfl ?_
      refine cg_getA (pc := 35) X fo_X0_38 dX0_readAct_35 (fun v28 => ?_)
      refine g_bD_i (pc := 38) X (cs := [1]) (As := []) (rest := [.int 0, .ref h0, .ref h0, .ref a26, .ref a26]) (b := v28) (n := 0) dX0_readAct_38 rfl rfl (Nat.le_of_ble_eq_true rfl) (fun fl31 ci32 fs33 hs34 hci35 r u h => ?_) (fun r29 t30 => ?_)
      · obtain rfl := List.mem_singleton.mp hci35
        exact ⟨_, _, _, yX1_home, _, _, _, 0, 0, rfl, kX1_home hex h, Or.inl (cwV 0 X.2.2.2.2.1 (lw_V q467 q468 q469 q71 q470) rfl rfl rfl dmV_X1_home ⟨Nat.le_of_ble_eq_true rfl, Nat.le_of_ble_eq_true rfl⟩)⟩
      refine t_bV_i (pc := 41) X (ci := 0) (C := RX0) (b := h0) (y := yX0_number) (As := [.int 0, .int r29]) (rest := [.ref h0, .ref a26, .ref a26]) (n := 2) (fr' := 4) (lo' := 81) ⟨_, _, rfl⟩ dX0_readAct_41 rfl rfl (Nat.le_of_ble_eq_true rfl) (plainFor_of_name (by decide)) (Or.inl ⟨q1230, rfl⟩) ⟨Nat.le_of_ble_eq_true rfl, Nat.le_of_ble_eq_true rfl⟩ q1229 q1227 qs22 dy_X0_number.1 dy_X0_number.2 (fun r u h => kX0_number hex hl h) (fun r36 t37 => ?_) (fun a39 t38 => x_leave X ht rfl rfl)
      refine g_bI_v (pc := 44) X (y := yX12_init) (As := [.ref h0, .int r36]) (rest := [.ref a26]) (b := a26) (fr' := 1) (lo' := 12) (fun _ => cwI 2 X.2.2.2.2.1 (lw_meth q1259) rfl rfl rfl (X.2.2.2.2.1 _ q97) (X.2.2.2.2.1 _ q1257) (X.2.2.2.2.1 _ q1258) rfl dmS_X12_init ⟨Nat.le_of_ble_eq_true rfl, Nat.le_of_ble_eq_true rfl⟩) dX0_readAct_44 rfl rfl (Nat.le_of_ble_eq_true rfl) (fun r u h => kX12_init hex h) (fun r40 t41 => ?_)
      exact g_taret (pc := 47) X hr (Or.inl ⟨_, rfl⟩) dX0_readAct_47
  · refine cg_new (pc := 9) X nw_X0_378 dX0_readAct_9 (fun a42 t43 => ?_)
    refine g_dup (pc := 12) X dX0_readAct_12 rfl ?_
    refine g_aload_n (pc := 13) X 0 dX0_readAct_13 rfl rfl ?_
    refine g_bIN_v (pc := 14) X (y := yX11_init) (As := [.ref h0]) (rest := [.ref a42]) (b := a42) (fr' := 1) (lo' := 12) (fun _ => ⟨va_cnB 1 X.2.2.2.2.1 (lw_meth q1249) rfl rfl rfl (X.2.2.2.2.2.2.1.nestM q1247) (X.2.2.2.2.1 _ q96) dmS_X11_init ⟨Nat.le_of_ble_eq_true rfl, Nat.le_of_ble_eq_true rfl⟩, rfl, X.2.2.2.2.1 _ q1248⟩) dX0_readAct_14 rfl rfl (Nat.le_of_ble_eq_true rfl) (fun r u h => kX11_init hex h) (fun r44 t45 => ?_)
    exact g_taret (pc := 17) X hr (Or.inl ⟨_, rfl⟩) dX0_readAct_17
theorem kX0_readAct {ex : Nat → Option Nat} {z : Nat} {h0 : Nat} {σ : Sg} {r : (Nat ⊕ Nat)} {u : St} (hex : ex = Γ.2.2.2.2) (hl : l.stackTraces = false) (h : fX0_readAct ex z h0 (σ, 0, 0) = some (r, u)) : g_CT Γ l yX0_readAct cX0_readAct 3 (some (.object "LameClocks$Act")) [] 5 105 [.ref h0] σ z t_a r (g_ι z u) := by
  exact g_metT (ι := g_ι z) (t := (σ, 0, 0)) [.ref h0] (Nat.le_of_ble_eq_true rfl) h rfl (fun p e s m args below meth c X hr hn ht => wX0_readAct hex hl X hr ht h0 (σ, 0, 0))
end CP
section CP
variable {Γ : Gc} {p : Program} {l : Launch} {e : Env} {s : State} {m : MethodId} {args : Array Value} {below : List Frame} {meth : Method} {c : Code} {ex : Nat → Option Nat} {z : Nat} {tF : St}
noncomputable def fX0_laidT (ex : Nat → Option Nat) (z : Nat) (x0 : Int32) (x1 : Int32) (t : St) : Option ((Nat ⊕ Nat) × St) := if x0 = 0 then if x1 < 0 then some (.inr (z + t.2.1 + 2), xNew z 2 30 t) else cnewa z 0 x1 t fun a3 t4 => some (.inl a3, t4) else if x0 = 1 then if x1 < 0 then some (.inr (z + t.2.1 + 2), xNew z 2 30 t) else cnewa z 1 x1 t fun a7 t8 => some (.inl a7, t8) else if x0 = 2 then if x1 < 0 then some (.inr (z + t.2.1 + 2), xNew z 2 30 t) else cnewa z 2 x1 t fun a11 t12 => some (.inl a11, t12) else if x1 < 0 then some (.inr (z + t.2.1 + 2), xNew z 2 30 t) else cnewa z 3 x1 t fun a14 t15 => some (.inl a14, t15)
set_option maxHeartbeats 4000000 in
theorem wX0_laidT {rF : (Nat ⊕ Nat)} (hex : ex = Γ.2.2.2.2) (hl : l.stackTraces = false) (X : g_X Γ p s m args meth c cX0_laid 2 RX0) (hr : meth.sig.returnType = (some (.object "java/lang/Object"))) (ht : g_T meth []) (x0 : Int32) (x1 : Int32) (t : St) : Wf Γ p l e 9 10260 s m args below meth c 2 (g_ι z) t_a rF tF 0 [(0, .int x0), (1, .int x1)] [] t (fX0_laidT ex z x0 x1 t) := by
  unfold fX0_laidT
  refine g_iload_n (pc := 0) X 0 dX0_laid_0 rfl rfl ?_
  refine g_by (pc := 1) (fun hc1 => ?_) (fun hc1 => ?_)
  · refine g_tswI (pc := 1) X 0 28 dX0_laid_1 hc1 (by decide) (by decide) rfl (by decide) ?_
    refine g_iload_n (pc := 28) X 1 dX0_laid_28 rfl rfl ?_
    refine g_by (pc := 29) (fun hn2 => ?_) (fun hn2 => ?_)
    · exact cx_newa (pc := 29) X hl hn2 dX0_laid_29 (Nat.le_of_ble_eq_true rfl) (Nat.le_of_ble_eq_true rfl) (x_leave X ht rfl rfl)
    refine cg_newa (pc := 29) X (j := 0) dX0_laid_29 (by decide) rfl rfl (fun _ _ => rfl) (by decide) q1054 (fun a3 t4 => ?_)
    exact g_taret (pc := 31) X hr (Or.inl ⟨_, rfl⟩) dX0_laid_31
  refine g_by (pc := 1) (fun hc5 => ?_) (fun hc5 => ?_)
  · refine g_tswI (pc := 1) X 1 32 dX0_laid_1 hc5 (by decide) (by decide) rfl (by decide) ?_
    refine g_iload_n (pc := 32) X 1 dX0_laid_32 rfl rfl ?_
    refine g_by (pc := 33) (fun hn6 => ?_) (fun hn6 => ?_)
    · exact cx_newa (pc := 33) X hl hn6 dX0_laid_33 (Nat.le_of_ble_eq_true rfl) (Nat.le_of_ble_eq_true rfl) (x_leave X ht rfl rfl)
    refine cg_newa (pc := 33) X (j := 1) dX0_laid_33 (by decide) rfl rfl (fun _ _ => rfl) (by decide) q1391 (fun a7 t8 => ?_)
    exact g_taret (pc := 35) X hr (Or.inl ⟨_, rfl⟩) dX0_laid_35
  refine g_by (pc := 1) (fun hc9 => ?_) (fun hc9 => ?_)
  · refine g_tswI (pc := 1) X 2 36 dX0_laid_1 hc9 (by decide) (by decide) rfl (by decide) ?_
    refine g_iload_n (pc := 36) X 1 dX0_laid_36 rfl rfl ?_
    refine g_by (pc := 37) (fun hn10 => ?_) (fun hn10 => ?_)
    · exact cx_newa (pc := 37) X hl hn10 dX0_laid_37 (Nat.le_of_ble_eq_true rfl) (Nat.le_of_ble_eq_true rfl) (x_leave X ht rfl rfl)
    refine cg_newa (pc := 37) X (j := 2) dX0_laid_37 (by decide) rfl rfl (fun _ _ => rfl) (by decide) q1392 (fun a11 t12 => ?_)
    exact g_taret (pc := 39) X hr (Or.inl ⟨_, rfl⟩) dX0_laid_39
  refine g_tswO (pc := 1) X 3 40 dX0_laid_1 (fun j hj => by match j, hj with | 0, _ => exact hc1 | 1, _ => exact hc5 | 2, _ => exact hc9) (by decide) (by decide) (by decide) ?_
  refine g_iload_n (pc := 40) X 1 dX0_laid_40 rfl rfl ?_
  refine g_by (pc := 41) (fun hn13 => ?_) (fun hn13 => ?_)
  · exact cx_newa (pc := 41) X hl hn13 dX0_laid_41 (Nat.le_of_ble_eq_true rfl) (Nat.le_of_ble_eq_true rfl) (x_leave X ht rfl rfl)
  refine cg_newa (pc := 41) X (j := 3) dX0_laid_41 (by decide) rfl rfl (fun _ _ => rfl) (by decide) q1393 (fun a14 t15 => ?_)
  exact g_taret (pc := 43) X hr (Or.inl ⟨_, rfl⟩) dX0_laid_43
theorem kX0_laidT {ex : Nat → Option Nat} {z : Nat} {x0 : Int32} {x1 : Int32} {σ : Sg} {r : (Nat ⊕ Nat)} {u : St} (hex : ex = Γ.2.2.2.2) (hl : l.stackTraces = false) (h : fX0_laidT ex z x0 x1 (σ, 0, 0) = some (r, u)) : g_CT Γ l yX0_laid cX0_laid 2 (some (.object "java/lang/Object")) [] 9 10260 [.int x0, .int x1] σ z t_a r (g_ι z u) := by
  exact g_metT (ι := g_ι z) (t := (σ, 0, 0)) [.int x0, .int x1] (Nat.le_of_ble_eq_true rfl) h rfl (fun p e s m args below meth c X hr hn ht => wX0_laidT hex hl X hr ht x0 x1 (σ, 0, 0))
end CP
abbrev cX0_sizeOf : ByteArray := prog_1_method_72_code
def yX0_sizeOf : MethodName := ⟨RX0, "sizeOf", "(Ljava/lang/Object;I)I"⟩
def dkwX0_sizeOf_2 : List UInt8 := [42, 192, 1, 178, 190, 172, 42, 192, 1, 179, 190, 172, 42, 192, 1, 181, 190, 172, 42, 192, 1, 183, 190, 172]
abbrev dktX0_sizeOf_2 : List UInt8 := dkwX0_sizeOf_2 ++ []
def dkwX0_sizeOf_1 : List UInt8 := [170, 0, 0, 0, 0, 0, 45, 0, 0, 0, 0, 0, 0, 0, 2, 0, 0, 0, 27, 0, 0, 0, 33, 0, 0, 0, 39]
abbrev dktX0_sizeOf_1 : List UInt8 := dkwX0_sizeOf_1 ++ dktX0_sizeOf_2
def dkwX0_sizeOf_0 : List UInt8 := [27]
abbrev dktX0_sizeOf_0 : List UInt8 := dkwX0_sizeOf_0 ++ dktX0_sizeOf_1
theorem dksX0_sizeOf_0 : cX0_sizeOf.data.toList.drop 0 = dktX0_sizeOf_0 := by decide +kernel
theorem dksX0_sizeOf_1 : cX0_sizeOf.data.toList.drop 1 = dktX0_sizeOf_1 := dk_seg dksX0_sizeOf_0 1 rfl rfl
theorem dksX0_sizeOf_2 : cX0_sizeOf.data.toList.drop 28 = dktX0_sizeOf_2 := dk_seg dksX0_sizeOf_1 27 rfl rfl
theorem dX0_sizeOf_0 : decode cX0_sizeOf 0 = .ok (.iload_n 1, 1) := dk_27 (dk_at dksX0_sizeOf_0 0 rfl rfl)
theorem dX0_sizeOf_1 : decode cX0_sizeOf 1 = .ok (.tableswitch 45 0 2 #[27, 33, 39], 27) := by decide +kernel
theorem dX0_sizeOf_28 : decode cX0_sizeOf 28 = .ok (.aload_n 0, 1) := dk_42 (dk_at dksX0_sizeOf_2 0 rfl rfl)
theorem dX0_sizeOf_29 : decode cX0_sizeOf 29 = .ok (.checkcast 434, 3) := dk_192 1 178 (dk_at dksX0_sizeOf_2 1 rfl rfl)
theorem dX0_sizeOf_32 : decode cX0_sizeOf 32 = .ok (.arraylength, 1) := dk_190 (dk_at dksX0_sizeOf_2 4 rfl rfl)
theorem dX0_sizeOf_33 : decode cX0_sizeOf 33 = .ok (.ireturn, 1) := dk_172 (dk_at dksX0_sizeOf_2 5 rfl rfl)
theorem dX0_sizeOf_34 : decode cX0_sizeOf 34 = .ok (.aload_n 0, 1) := dk_42 (dk_at dksX0_sizeOf_2 6 rfl rfl)
theorem dX0_sizeOf_35 : decode cX0_sizeOf 35 = .ok (.checkcast 435, 3) := dk_192 1 179 (dk_at dksX0_sizeOf_2 7 rfl rfl)
theorem dX0_sizeOf_38 : decode cX0_sizeOf 38 = .ok (.arraylength, 1) := dk_190 (dk_at dksX0_sizeOf_2 10 rfl rfl)
theorem dX0_sizeOf_39 : decode cX0_sizeOf 39 = .ok (.ireturn, 1) := dk_172 (dk_at dksX0_sizeOf_2 11 rfl rfl)
theorem dX0_sizeOf_40 : decode cX0_sizeOf 40 = .ok (.aload_n 0, 1) := dk_42 (dk_at dksX0_sizeOf_2 12 rfl rfl)
theorem dX0_sizeOf_41 : decode cX0_sizeOf 41 = .ok (.checkcast 437, 3) := dk_192 1 181 (dk_at dksX0_sizeOf_2 13 rfl rfl)
theorem dX0_sizeOf_44 : decode cX0_sizeOf 44 = .ok (.arraylength, 1) := dk_190 (dk_at dksX0_sizeOf_2 16 rfl rfl)
theorem dX0_sizeOf_45 : decode cX0_sizeOf 45 = .ok (.ireturn, 1) := dk_172 (dk_at dksX0_sizeOf_2 17 rfl rfl)
theorem dX0_sizeOf_46 : decode cX0_sizeOf 46 = .ok (.aload_n 0, 1) := dk_42 (dk_at dksX0_sizeOf_2 18 rfl rfl)
theorem dX0_sizeOf_47 : decode cX0_sizeOf 47 = .ok (.checkcast 439, 3) := dk_192 1 183 (dk_at dksX0_sizeOf_2 19 rfl rfl)
theorem dX0_sizeOf_50 : decode cX0_sizeOf 50 = .ok (.arraylength, 1) := dk_190 (dk_at dksX0_sizeOf_2 22 rfl rfl)
theorem dX0_sizeOf_51 : decode cX0_sizeOf 51 = .ok (.ireturn, 1) := dk_172 (dk_at dksX0_sizeOf_2 23 rfl rfl)
section CP
variable {Γ : Gc} {p : Program} {l : Launch} {e : Env} {s : State} {m : MethodId} {args : Array Value} {below : List Frame} {meth : Method} {c : Code} {ex : Nat → Option Nat} {z : Nat} {tF : St}
noncomputable def fX0_sizeOf (ex : Nat → Option Nat) (z : Nat) (h0 : Option Nat) (x1 : Int32) (t : St) : Option ((Int32 ⊕ Nat) × St) := if x1 = 0 then ccka 0 t h0 (cnul h0 (some (.inr (z + t.2.1), xNew z 0 27 t)) fun a => calen t a fun v2 => some (.inl v2, t)) (some (.inr (z + t.2.1 + 2), xNew z 2 28 t)) else if x1 = 1 then ccka 1 t h0 (cnul h0 (some (.inr (z + t.2.1), xNew z 0 27 t)) fun a => calen t a fun v4 => some (.inl v4, t)) (some (.inr (z + t.2.1 + 2), xNew z 2 28 t)) else if x1 = 2 then ccka 2 t h0 (cnul h0 (some (.inr (z + t.2.1), xNew z 0 27 t)) fun a => calen t a fun v6 => some (.inl v6, t)) (some (.inr (z + t.2.1 + 2), xNew z 2 28 t)) else ccka 3 t h0 (cnul h0 (some (.inr (z + t.2.1), xNew z 0 27 t)) fun a => calen t a fun v7 => some (.inl v7, t)) (some (.inr (z + t.2.1 + 2), xNew z 2 28 t))
set_option maxHeartbeats 4000000 in
theorem wX0_sizeOf {rF : (Int32 ⊕ Nat)} (hex : ex = Γ.2.2.2.2) (hl : l.stackTraces = false) (X : g_X Γ p s m args meth c cX0_sizeOf 2 RX0) (hr : meth.sig.returnType = (some .int)) (ht : g_T meth []) (h0 : Option Nat) (x1 : Int32) (t : St) : Wf Γ p l e 9 10260 s m args below meth c 2 (g_ι z) t_i rF tF 0 [(0, va_rf h0), (1, .int x1)] [] t (fX0_sizeOf ex z h0 x1 t) := by
  unfold fX0_sizeOf
  refine g_iload_n (pc := 0) X 1 dX0_sizeOf_0 rfl rfl ?_
  refine g_by (pc := 1) (fun hc1 => ?_) (fun hc1 => ?_)
  · refine g_tswI (pc := 1) X 0 28 dX0_sizeOf_1 hc1 (by decide) (by decide) rfl (by decide) ?_
    refine g_aload_n_q (pc := 28) X 0 dX0_sizeOf_28 rfl rfl ?_
    refine cx_cast (pc := 29) X hl (j := 0) (by decide) q1401 dX0_sizeOf_29 (Nat.le_of_ble_eq_true rfl) (Nat.le_of_ble_eq_true rfl) (x_leave X ht rfl rfl) ?_
    refine cx_alen (pc := 32) X hl dX0_sizeOf_32 (Nat.le_of_ble_eq_true rfl) (Nat.le_of_ble_eq_true rfl) (x_leave X ht rfl rfl) (fun v2 => ?_)
    exact g_tiret (pc := 33) X hr dX0_sizeOf_33
  refine g_by (pc := 1) (fun hc3 => ?_) (fun hc3 => ?_)
  · refine g_tswI (pc := 1) X 1 34 dX0_sizeOf_1 hc3 (by decide) (by decide) rfl (by decide) ?_
    refine g_aload_n_q (pc := 34) X 0 dX0_sizeOf_34 rfl rfl ?_
    refine cx_cast (pc := 35) X hl (j := 1) (by decide) q1402 dX0_sizeOf_35 (Nat.le_of_ble_eq_true rfl) (Nat.le_of_ble_eq_true rfl) (x_leave X ht rfl rfl) ?_
    refine cx_alen (pc := 38) X hl dX0_sizeOf_38 (Nat.le_of_ble_eq_true rfl) (Nat.le_of_ble_eq_true rfl) (x_leave X ht rfl rfl) (fun v4 => ?_)
    exact g_tiret (pc := 39) X hr dX0_sizeOf_39
  refine g_by (pc := 1) (fun hc5 => ?_) (fun hc5 => ?_)
  · refine g_tswI (pc := 1) X 2 40 dX0_sizeOf_1 hc5 (by decide) (by decide) rfl (by decide) ?_
    refine g_aload_n_q (pc := 40) X 0 dX0_sizeOf_40 rfl rfl ?_
    refine cx_cast (pc := 41) X hl (j := 2) (by decide) q1403 dX0_sizeOf_41 (Nat.le_of_ble_eq_true rfl) (Nat.le_of_ble_eq_true rfl) (x_leave X ht rfl rfl) ?_
    refine cx_alen (pc := 44) X hl dX0_sizeOf_44 (Nat.le_of_ble_eq_true rfl) (Nat.le_of_ble_eq_true rfl) (x_leave X ht rfl rfl) (fun v6 => ?_)
    exact g_tiret (pc := 45) X hr dX0_sizeOf_45
  refine g_tswO (pc := 1) X 3 46 dX0_sizeOf_1 (fun j hj => by match j, hj with | 0, _ => exact hc1 | 1, _ => exact hc3 | 2, _ => exact hc5) (by decide) (by decide) (by decide) ?_
  refine g_aload_n_q (pc := 46) X 0 dX0_sizeOf_46 rfl rfl ?_
  refine cx_cast (pc := 47) X hl (j := 3) (by decide) q1407 dX0_sizeOf_47 (Nat.le_of_ble_eq_true rfl) (Nat.le_of_ble_eq_true rfl) (x_leave X ht rfl rfl) ?_
  refine cx_alen (pc := 50) X hl dX0_sizeOf_50 (Nat.le_of_ble_eq_true rfl) (Nat.le_of_ble_eq_true rfl) (x_leave X ht rfl rfl) (fun v7 => ?_)
  exact g_tiret (pc := 51) X hr dX0_sizeOf_51
theorem kX0_sizeOf {ex : Nat → Option Nat} {z : Nat} {h0 : Option Nat} {x1 : Int32} {σ : Sg} {r : (Int32 ⊕ Nat)} {u : St} (hex : ex = Γ.2.2.2.2) (hl : l.stackTraces = false) (h : fX0_sizeOf ex z h0 x1 (σ, 0, 0) = some (r, u)) : g_CT Γ l yX0_sizeOf cX0_sizeOf 2 (some .int) [] 9 10260 [va_rf h0, .int x1] σ z t_i r (g_ι z u) := by
  rcases h0 with _ | h0
  · exact g_metT (ι := g_ι z) (t := (σ, 0, 0)) [va_rf none, .int x1] (Nat.le_of_ble_eq_true rfl) h rfl (fun p e s m args below meth c X hr hn ht => wX0_sizeOf hex hl X hr ht none x1 (σ, 0, 0))
  · exact g_metT (ι := g_ι z) (t := (σ, 0, 0)) [va_rf (some h0), .int x1] (Nat.le_of_ble_eq_true rfl) h rfl (fun p e s m args below meth c X hr hn ht => wX0_sizeOf hex hl X hr ht (some h0) x1 (σ, 0, 0))
end CP
abbrev cX0_itemOf : ByteArray := prog_1_method_73_code
def yX0_itemOf : MethodName := ⟨RX0, "itemOf", "(Ljava/lang/Object;II)J"⟩
def dkwX0_itemOf_3 : List UInt8 := [42, 192, 1, 183, 28, 47, 173]
abbrev dktX0_itemOf_3 : List UInt8 := dkwX0_itemOf_3 ++ []
def dkwX0_itemOf_2 : List UInt8 := [42, 192, 1, 178, 28, 51, 133, 173, 42, 192, 1, 179, 28, 53, 133, 173, 42, 192, 1, 181, 28, 46, 133, 173]
abbrev dktX0_itemOf_2 : List UInt8 := dkwX0_itemOf_2 ++ dktX0_itemOf_3
def dkwX0_itemOf_1 : List UInt8 := [170, 0, 0, 0, 0, 0, 51, 0, 0, 0, 0, 0, 0, 0, 2, 0, 0, 0, 27, 0, 0, 0, 35, 0, 0, 0, 43]
abbrev dktX0_itemOf_1 : List UInt8 := dkwX0_itemOf_1 ++ dktX0_itemOf_2
def dkwX0_itemOf_0 : List UInt8 := [27]
abbrev dktX0_itemOf_0 : List UInt8 := dkwX0_itemOf_0 ++ dktX0_itemOf_1
theorem dksX0_itemOf_0 : cX0_itemOf.data.toList.drop 0 = dktX0_itemOf_0 := by decide +kernel
theorem dksX0_itemOf_1 : cX0_itemOf.data.toList.drop 1 = dktX0_itemOf_1 := dk_seg dksX0_itemOf_0 1 rfl rfl
theorem dksX0_itemOf_2 : cX0_itemOf.data.toList.drop 28 = dktX0_itemOf_2 := dk_seg dksX0_itemOf_1 27 rfl rfl
theorem dksX0_itemOf_3 : cX0_itemOf.data.toList.drop 52 = dktX0_itemOf_3 := dk_seg dksX0_itemOf_2 24 rfl rfl
theorem dX0_itemOf_0 : decode cX0_itemOf 0 = .ok (.iload_n 1, 1) := dk_27 (dk_at dksX0_itemOf_0 0 rfl rfl)
theorem dX0_itemOf_1 : decode cX0_itemOf 1 = .ok (.tableswitch 51 0 2 #[27, 35, 43], 27) := by decide +kernel
theorem dX0_itemOf_28 : decode cX0_itemOf 28 = .ok (.aload_n 0, 1) := dk_42 (dk_at dksX0_itemOf_2 0 rfl rfl)
theorem dX0_itemOf_29 : decode cX0_itemOf 29 = .ok (.checkcast 434, 3) := dk_192 1 178 (dk_at dksX0_itemOf_2 1 rfl rfl)
theorem dX0_itemOf_32 : decode cX0_itemOf 32 = .ok (.iload_n 2, 1) := dk_28 (dk_at dksX0_itemOf_2 4 rfl rfl)
theorem dX0_itemOf_33 : decode cX0_itemOf 33 = .ok (.baload, 1) := dk_51 (dk_at dksX0_itemOf_2 5 rfl rfl)
theorem dX0_itemOf_34 : decode cX0_itemOf 34 = .ok (.i2l, 1) := dk_133 (dk_at dksX0_itemOf_2 6 rfl rfl)
theorem dX0_itemOf_35 : decode cX0_itemOf 35 = .ok (.lreturn, 1) := dk_173 (dk_at dksX0_itemOf_2 7 rfl rfl)
theorem dX0_itemOf_36 : decode cX0_itemOf 36 = .ok (.aload_n 0, 1) := dk_42 (dk_at dksX0_itemOf_2 8 rfl rfl)
theorem dX0_itemOf_37 : decode cX0_itemOf 37 = .ok (.checkcast 435, 3) := dk_192 1 179 (dk_at dksX0_itemOf_2 9 rfl rfl)
theorem dX0_itemOf_40 : decode cX0_itemOf 40 = .ok (.iload_n 2, 1) := dk_28 (dk_at dksX0_itemOf_2 12 rfl rfl)
theorem dX0_itemOf_41 : decode cX0_itemOf 41 = .ok (.saload, 1) := dk_53 (dk_at dksX0_itemOf_2 13 rfl rfl)
theorem dX0_itemOf_42 : decode cX0_itemOf 42 = .ok (.i2l, 1) := dk_133 (dk_at dksX0_itemOf_2 14 rfl rfl)
theorem dX0_itemOf_43 : decode cX0_itemOf 43 = .ok (.lreturn, 1) := dk_173 (dk_at dksX0_itemOf_2 15 rfl rfl)
theorem dX0_itemOf_44 : decode cX0_itemOf 44 = .ok (.aload_n 0, 1) := dk_42 (dk_at dksX0_itemOf_2 16 rfl rfl)
theorem dX0_itemOf_45 : decode cX0_itemOf 45 = .ok (.checkcast 437, 3) := dk_192 1 181 (dk_at dksX0_itemOf_2 17 rfl rfl)
theorem dX0_itemOf_48 : decode cX0_itemOf 48 = .ok (.iload_n 2, 1) := dk_28 (dk_at dksX0_itemOf_2 20 rfl rfl)
theorem dX0_itemOf_49 : decode cX0_itemOf 49 = .ok (.iaload, 1) := dk_46 (dk_at dksX0_itemOf_2 21 rfl rfl)
theorem dX0_itemOf_50 : decode cX0_itemOf 50 = .ok (.i2l, 1) := dk_133 (dk_at dksX0_itemOf_2 22 rfl rfl)
theorem dX0_itemOf_51 : decode cX0_itemOf 51 = .ok (.lreturn, 1) := dk_173 (dk_at dksX0_itemOf_2 23 rfl rfl)
theorem dX0_itemOf_52 : decode cX0_itemOf 52 = .ok (.aload_n 0, 1) := dk_42 (dk_at dksX0_itemOf_3 0 rfl rfl)
theorem dX0_itemOf_53 : decode cX0_itemOf 53 = .ok (.checkcast 439, 3) := dk_192 1 183 (dk_at dksX0_itemOf_3 1 rfl rfl)
theorem dX0_itemOf_56 : decode cX0_itemOf 56 = .ok (.iload_n 2, 1) := dk_28 (dk_at dksX0_itemOf_3 4 rfl rfl)
theorem dX0_itemOf_57 : decode cX0_itemOf 57 = .ok (.laload, 1) := dk_47 (dk_at dksX0_itemOf_3 5 rfl rfl)
theorem dX0_itemOf_58 : decode cX0_itemOf 58 = .ok (.lreturn, 1) := dk_173 (dk_at dksX0_itemOf_3 6 rfl rfl)
section CP
variable {Γ : Gc} {p : Program} {l : Launch} {e : Env} {s : State} {m : MethodId} {args : Array Value} {below : List Frame} {meth : Method} {c : Code} {ex : Nat → Option Nat} {z : Nat} {tF : St}
noncomputable def fX0_itemOf (ex : Nat → Option Nat) (z : Nat) (h0 : Option Nat) (x1 : Int32) (x2 : Int32) (t : St) : Option (Int64 × St) := if x1 = 0 then ccka 0 t h0 (cnul h0 none fun a => cald 0 t a x2 fun v2 => some (v2.toInt64, t)) (none) else if x1 = 1 then ccka 1 t h0 (cnul h0 none fun a => cald 1 t a x2 fun v4 => some (v4.toInt64, t)) (none) else if x1 = 2 then ccka 2 t h0 (cnul h0 none fun a => cald 2 t a x2 fun v6 => some (v6.toInt64, t)) (none) else ccka 3 t h0 (cnul h0 none fun a => caldl t a x2 fun v7 => some (v7, t)) (none)
set_option maxHeartbeats 4000000 in
theorem wX0_itemOf {rF : Int64} (hex : ex = Γ.2.2.2.2) (hl : l.stackTraces = false) (X : g_X Γ p s m args meth c cX0_itemOf 3 RX0) (hr : meth.sig.returnType = (some .long)) (ht : g_T meth []) (h0 : Option Nat) (x1 : Int32) (x2 : Int32) (t : St) : Wf Γ p l e 9 10260 s m args below meth c 3 (g_ι z) v_l rF tF 0 [(0, va_rf h0), (1, .int x1), (2, .int x2)] [] t (fX0_itemOf ex z h0 x1 x2 t) := by
  unfold fX0_itemOf
  refine g_iload_n (pc := 0) X 1 dX0_itemOf_0 rfl rfl ?_
  refine g_by (pc := 1) (fun hc1 => ?_) (fun hc1 => ?_)
  · refine g_tswI (pc := 1) X 0 28 dX0_itemOf_1 hc1 (by decide) (by decide) rfl (by decide) ?_
    refine g_aload_n_q (pc := 28) X 0 dX0_itemOf_28 rfl rfl ?_
    refine cx_cast (pc := 29) X hl (j := 0) (by decide) q1401 dX0_itemOf_29 (Nat.le_of_ble_eq_true rfl) (Nat.le_of_ble_eq_true rfl) (x_none) ?_
    refine g_iload_n (pc := 32) X 2 dX0_itemOf_32 rfl rfl ?_
    refine cx_baload (pc := 33) X dX0_itemOf_33 (fun v2 => ?_)
    refine g_i2l (pc := 34) X dX0_itemOf_34 ?_
    exact g_lret (pc := 35) X hr dX0_itemOf_35
  refine g_by (pc := 1) (fun hc3 => ?_) (fun hc3 => ?_)
  · refine g_tswI (pc := 1) X 1 36 dX0_itemOf_1 hc3 (by decide) (by decide) rfl (by decide) ?_
    refine g_aload_n_q (pc := 36) X 0 dX0_itemOf_36 rfl rfl ?_
    refine cx_cast (pc := 37) X hl (j := 1) (by decide) q1402 dX0_itemOf_37 (Nat.le_of_ble_eq_true rfl) (Nat.le_of_ble_eq_true rfl) (x_none) ?_
    refine g_iload_n (pc := 40) X 2 dX0_itemOf_40 rfl rfl ?_
    refine cx_saload (pc := 41) X dX0_itemOf_41 (fun v4 => ?_)
    refine g_i2l (pc := 42) X dX0_itemOf_42 ?_
    exact g_lret (pc := 43) X hr dX0_itemOf_43
  refine g_by (pc := 1) (fun hc5 => ?_) (fun hc5 => ?_)
  · refine g_tswI (pc := 1) X 2 44 dX0_itemOf_1 hc5 (by decide) (by decide) rfl (by decide) ?_
    refine g_aload_n_q (pc := 44) X 0 dX0_itemOf_44 rfl rfl ?_
    refine cx_cast (pc := 45) X hl (j := 2) (by decide) q1403 dX0_itemOf_45 (Nat.le_of_ble_eq_true rfl) (Nat.le_of_ble_eq_true rfl) (x_none) ?_
    refine g_iload_n (pc := 48) X 2 dX0_itemOf_48 rfl rfl ?_
    refine cx_iaload (pc := 49) X dX0_itemOf_49 (fun v6 => ?_)
    refine g_i2l (pc := 50) X dX0_itemOf_50 ?_
    exact g_lret (pc := 51) X hr dX0_itemOf_51
  refine g_tswO (pc := 1) X 3 52 dX0_itemOf_1 (fun j hj => by match j, hj with | 0, _ => exact hc1 | 1, _ => exact hc3 | 2, _ => exact hc5) (by decide) (by decide) (by decide) ?_
  refine g_aload_n_q (pc := 52) X 0 dX0_itemOf_52 rfl rfl ?_
  refine cx_cast (pc := 53) X hl (j := 3) (by decide) q1407 dX0_itemOf_53 (Nat.le_of_ble_eq_true rfl) (Nat.le_of_ble_eq_true rfl) (x_none) ?_
  refine g_iload_n (pc := 56) X 2 dX0_itemOf_56 rfl rfl ?_
  refine cx_laload (pc := 57) X dX0_itemOf_57 (fun v7 => ?_)
  exact g_lret (pc := 58) X hr dX0_itemOf_58
theorem kX0_itemOf {ex : Nat → Option Nat} {z : Nat} {h0 : Option Nat} {x1 : Int32} {x2 : Int32} {σ : Sg} {r : Int64} {u : St} (hex : ex = Γ.2.2.2.2) (hl : l.stackTraces = false) (h : fX0_itemOf ex z h0 x1 x2 (σ, 0, 0) = some (r, u)) : g_CT Γ l yX0_itemOf cX0_itemOf 3 (some .long) [] 9 10260 [va_rf h0, .int x1, .int x2] σ z v_l r (g_ι z u) := by
  rcases h0 with _ | h0
  · exact g_metT (ι := g_ι z) (t := (σ, 0, 0)) [va_rf none, .int x1, .int x2] (Nat.le_of_ble_eq_true rfl) h rfl (fun p e s m args below meth c X hr hn ht => wX0_itemOf hex hl X hr ht none x1 x2 (σ, 0, 0))
  · exact g_metT (ι := g_ι z) (t := (σ, 0, 0)) [va_rf (some h0), .int x1, .int x2] (Nat.le_of_ble_eq_true rfl) h rfl (fun p e s m args below meth c X hr hn ht => wX0_itemOf hex hl X hr ht (some h0) x1 x2 (σ, 0, 0))
end CP
abbrev cX0_laneOf : ByteArray := prog_1_method_74_code
def yX0_laneOf : MethodName := ⟨RX0, "laneOf", "(Ljava/lang/Object;)I"⟩
def dkwX0_laneOf_1 : List UInt8 := [193, 1, 181, 153, 0, 7, 5, 167, 0, 4, 6, 172]
abbrev dktX0_laneOf_1 : List UInt8 := dkwX0_laneOf_1 ++ []
def dkwX0_laneOf_0 : List UInt8 := [42, 193, 1, 178, 153, 0, 7, 3, 167, 0, 26, 42, 193, 1, 179, 153, 0, 7, 4, 167, 0, 15, 42]
abbrev dktX0_laneOf_0 : List UInt8 := dkwX0_laneOf_0 ++ dktX0_laneOf_1
theorem dksX0_laneOf_0 : cX0_laneOf.data.toList.drop 0 = dktX0_laneOf_0 := by decide +kernel
theorem dksX0_laneOf_1 : cX0_laneOf.data.toList.drop 23 = dktX0_laneOf_1 := dk_seg dksX0_laneOf_0 23 rfl rfl
theorem dX0_laneOf_0 : decode cX0_laneOf 0 = .ok (.aload_n 0, 1) := dk_42 (dk_at dksX0_laneOf_0 0 rfl rfl)
theorem dX0_laneOf_1 : decode cX0_laneOf 1 = .ok (.instanceof 434, 3) := dk_193 1 178 (dk_at dksX0_laneOf_0 1 rfl rfl)
theorem dX0_laneOf_4 : decode cX0_laneOf 4 = .ok (.ifCond .eq 7, 3) := dk_153 0 7 (dk_at dksX0_laneOf_0 4 rfl rfl)
theorem dX0_laneOf_7 : decode cX0_laneOf 7 = .ok (.iconst 0, 1) := dk_3 (dk_at dksX0_laneOf_0 7 rfl rfl)
theorem dX0_laneOf_8 : decode cX0_laneOf 8 = .ok (.goto 26, 3) := dk_167 0 26 (dk_at dksX0_laneOf_0 8 rfl rfl)
theorem dX0_laneOf_11 : decode cX0_laneOf 11 = .ok (.aload_n 0, 1) := dk_42 (dk_at dksX0_laneOf_0 11 rfl rfl)
theorem dX0_laneOf_12 : decode cX0_laneOf 12 = .ok (.instanceof 435, 3) := dk_193 1 179 (dk_at dksX0_laneOf_0 12 rfl rfl)
theorem dX0_laneOf_15 : decode cX0_laneOf 15 = .ok (.ifCond .eq 7, 3) := dk_153 0 7 (dk_at dksX0_laneOf_0 15 rfl rfl)
theorem dX0_laneOf_18 : decode cX0_laneOf 18 = .ok (.iconst 1, 1) := dk_4 (dk_at dksX0_laneOf_0 18 rfl rfl)
theorem dX0_laneOf_19 : decode cX0_laneOf 19 = .ok (.goto 15, 3) := dk_167 0 15 (dk_at dksX0_laneOf_0 19 rfl rfl)
theorem dX0_laneOf_22 : decode cX0_laneOf 22 = .ok (.aload_n 0, 1) := dk_42 (dk_at dksX0_laneOf_0 22 rfl rfl)
theorem dX0_laneOf_23 : decode cX0_laneOf 23 = .ok (.instanceof 437, 3) := dk_193 1 181 (dk_at dksX0_laneOf_1 0 rfl rfl)
theorem dX0_laneOf_26 : decode cX0_laneOf 26 = .ok (.ifCond .eq 7, 3) := dk_153 0 7 (dk_at dksX0_laneOf_1 3 rfl rfl)
theorem dX0_laneOf_29 : decode cX0_laneOf 29 = .ok (.iconst 2, 1) := dk_5 (dk_at dksX0_laneOf_1 6 rfl rfl)
theorem dX0_laneOf_30 : decode cX0_laneOf 30 = .ok (.goto 4, 3) := dk_167 0 4 (dk_at dksX0_laneOf_1 7 rfl rfl)
theorem dX0_laneOf_33 : decode cX0_laneOf 33 = .ok (.iconst 3, 1) := dk_6 (dk_at dksX0_laneOf_1 10 rfl rfl)
theorem dX0_laneOf_34 : decode cX0_laneOf 34 = .ok (.ireturn, 1) := dk_172 (dk_at dksX0_laneOf_1 11 rfl rfl)
section CP
variable {Γ : Gc} {p : Program} {l : Launch} {e : Env} {s : State} {m : MethodId} {args : Array Value} {below : List Frame} {meth : Method} {c : Code} {ex : Nat → Option Nat} {z : Nat} {tF : St}
noncomputable def fX0_laneOf (ex : Nat → Option Nat) (z : Nat) (h0 : Option Nat) (t : St) : Option (Int32 × St) := cins 0 t h0 fun v1 => if v1 = 0 then cins 1 t h0 fun v2 => if v2 = 0 then cins 2 t h0 fun v3 => if v3 = 0 then some (3, t) else some (2, t) else some (1, t) else some (0, t)
set_option maxHeartbeats 4000000 in
theorem wX0_laneOf {rF : Int32} (hex : ex = Γ.2.2.2.2) (hl : l.stackTraces = false) (X : g_X Γ p s m args meth c cX0_laneOf 1 RX0) (hr : meth.sig.returnType = (some .int)) (ht : g_T meth []) (h0 : Option Nat) (t : St) : Wf Γ p l e 0 0 s m args below meth c 1 (g_ι z) v_i rF tF 0 [(0, va_rf h0)] [] t (fX0_laneOf ex z h0 t) := by
  unfold fX0_laneOf
  refine g_aload_n_q (pc := 0) X 0 dX0_laneOf_0 rfl rfl ?_
  refine cx_inst (pc := 1) X (j := 0) (by decide) q1401 dX0_laneOf_1 (fun v1 => ?_)
  refine g_if_eq (pc := 4) X 11 dX0_laneOf_4 (by decide) ?_ ?_
  · refine g_aload_n_q (pc := 11) X 0 dX0_laneOf_11 rfl rfl ?_
    refine cx_inst (pc := 12) X (j := 1) (by decide) q1402 dX0_laneOf_12 (fun v2 => ?_)
    refine g_if_eq (pc := 15) X 22 dX0_laneOf_15 (by decide) ?_ ?_
    · refine g_aload_n_q (pc := 22) X 0 dX0_laneOf_22 rfl rfl ?_
      refine cx_inst (pc := 23) X (j := 2) (by decide) q1403 dX0_laneOf_23 (fun v3 => ?_)
      refine g_if_eq (pc := 26) X 33 dX0_laneOf_26 (by decide) ?_ ?_
      · refine g_iconst (pc := 33) X 3 dX0_laneOf_33 rfl ?_
        exact g_iret (pc := 34) X hr dX0_laneOf_34
      · refine g_iconst (pc := 29) X 2 dX0_laneOf_29 rfl ?_
        refine g_goto (pc := 30) X 34 dX0_laneOf_30 (by decide) ?_
        exact g_iret (pc := 34) X hr dX0_laneOf_34
    · refine g_iconst (pc := 18) X 1 dX0_laneOf_18 rfl ?_
      refine g_goto (pc := 19) X 34 dX0_laneOf_19 (by decide) ?_
      exact g_iret (pc := 34) X hr dX0_laneOf_34
  · refine g_iconst (pc := 7) X 0 dX0_laneOf_7 rfl ?_
    refine g_goto (pc := 8) X 34 dX0_laneOf_8 (by decide) ?_
    exact g_iret (pc := 34) X hr dX0_laneOf_34
theorem kX0_laneOf {ex : Nat → Option Nat} {z : Nat} {h0 : Option Nat} {σ : Sg} {r : Int32} {u : St} (hex : ex = Γ.2.2.2.2) (hl : l.stackTraces = false) (h : fX0_laneOf ex z h0 (σ, 0, 0) = some (r, u)) : g_CT Γ l yX0_laneOf cX0_laneOf 1 (some .int) [] 0 0 [va_rf h0] σ z v_i r (g_ι z u) := by
  rcases h0 with _ | h0
  · exact g_metT (ι := g_ι z) (t := (σ, 0, 0)) [va_rf none] (Nat.le_of_ble_eq_true rfl) h rfl (fun p e s m args below meth c X hr hn ht => wX0_laneOf hex hl X hr ht none (σ, 0, 0))
  · exact g_metT (ι := g_ι z) (t := (σ, 0, 0)) [va_rf (some h0)] (Nat.le_of_ble_eq_true rfl) h rfl (fun p e s m args below meth c X hr hn ht => wX0_laneOf hex hl X hr ht (some h0) (σ, 0, 0))
end CP
