/-! the component, its methods: X0_lots, X0_course, X0_skies (printed by gen/cmain.py) -/
set_option maxRecDepth 100000
theorem q1074 : (Jvm.Cond.codeWith ({ cls := "LameClocks", name := "lots", desc := "(I)I" } : Jvm.MethodName) prog_1_method_51_code (5 : Nat) (Option.some Jvm.ClassFile.FieldType.int) [((34 : Nat), (96 : Nat), (107 : Nat), (0 : Nat)), ((107 : Nat), (109 : Nat), (107 : Nat), (0 : Nat))]) ∈ lw_all := lw_g (lw_at lw_m5 45 rfl) rfl
theorem q1075 : (Jvm.Cond.constantLong "LameClocks" (303 : Nat) (60 : Int64)) ∈ lw_all := lw_g (lw_at lw_m5 46 rfl) rfl
theorem q1076 : (Jvm.Cond.constant "LameClocks" (305 : Nat) (1103515245 : Int32)) ∈ lw_all := lw_g (lw_at lw_m5 47 rfl) rfl
theorem q1077 : (Jvm.Cond.constant "LameClocks" (306 : Nat) (2147483647 : Int32)) ∈ lw_all := lw_g (lw_at lw_m5 48 rfl) rfl
theorem q1078 : (Jvm.Cond.constant "LameClocks" (307 : Nat) (65536 : Int32)) ∈ lw_all := lw_g (lw_at lw_m5 49 rfl) rfl
theorem q1088 : (Jvm.Cond.codeWith ({ cls := "LameClocks", name := "course", desc := "()I" } : Jvm.MethodName) prog_1_method_61_code (4 : Nat) (Option.some Jvm.ClassFile.FieldType.int) [((0 : Nat), (69 : Nat), (76 : Nat), (327 : Nat)), ((0 : Nat), (69 : Nat), (92 : Nat), (0 : Nat)), ((76 : Nat), (85 : Nat), (92 : Nat), (0 : Nat))]) ∈ lw_all := lw_g (lw_at lw_m5 59 rfl) rfl
theorem q1090 : (Jvm.Cond.stringRef "LameClocks" (350 : Nat) "0123456789ab-") ∈ lw_tbl := lw_at lw_m5 61 rfl
theorem q1091 : (Jvm.Cond.methodLink "LameClocks" (352 : Nat) ({ cls := "LameClocks", name := "readSigns", desc := "(Ljava/lang/String;II)I" } : Jvm.MethodName)) ∈ lw_all := lw_g (lw_at lw_m5 62 rfl) rfl
theorem q1093 : (Jvm.Cond.instanceMethod ({ cls := "LameClocks", name := "readSigns", desc := "(Ljava/lang/String;II)I" } : Jvm.MethodName)) ∈ lw_all := lw_g (lw_at lw_m5 64 rfl) rfl
theorem q1186 : (Jvm.Cond.castable "LameClocks$Fault" "LameClocks$Fault") ∈ lw_tbl := lw_at lw_m5 157 rfl
theorem q1203 : (Jvm.Cond.fieldLinkNest "LameClocks" (356 : Nat) "LameClocks$Fault" "place" "I" "LameClocks") ∈ lw_tbl := lw_at lw_m5 174 rfl
theorem q1215 : (Jvm.Cond.codeWith ({ cls := "LameClocks", name := "skies", desc := "()I" } : Jvm.MethodName) prog_1_method_62_code (4 : Nat) (Option.some Jvm.ClassFile.FieldType.int) [((0 : Nat), (43 : Nat), (50 : Nat), (327 : Nat)), ((0 : Nat), (43 : Nat), (66 : Nat), (0 : Nat)), ((50 : Nat), (59 : Nat), (66 : Nat), (0 : Nat))]) ∈ lw_all := lw_g (lw_at lw_m5 186 rfl) rfl
theorem q1216 : (Jvm.Cond.stringRef "LameClocks" (358 : Nat) "srwn") ∈ lw_tbl := lw_at lw_m5 187 rfl
theorem q1217 : (Jvm.Cond.methodLink "LameClocks" (360 : Nat) ({ cls := "java/lang/System", name := "arraycopy", desc := "(Ljava/lang/Object;ILjava/lang/Object;II)V" } : Jvm.MethodName)) ∈ lw_all := lw_g (lw_at lw_m5 188 rfl) rfl
abbrev cX0_lots : ByteArray := prog_1_method_51_code
def yX0_lots : MethodName := ⟨RX0, "lots", "(I)I"⟩
def dkwX0_lots_5 : List UInt8 := [181, 0, 253, 25, 4, 191]
abbrev dktX0_lots_5 : List UInt8 := dkwX0_lots_5 ++ []
def dkwX0_lots_4 : List UInt8 := [167, 255, 201, 28, 62, 42, 180, 0, 38, 16, 252, 181, 0, 253, 29, 172, 58, 4, 42, 180, 0, 38, 16, 252]
abbrev dktX0_lots_4 : List UInt8 := dkwX0_lots_4 ++ dktX0_lots_5
def dkwX0_lots_3 : List UInt8 := [19, 1, 51, 108, 7, 112, 181, 0, 253, 28, 42, 180, 0, 38, 182, 0, 169, 96, 61, 132, 3, 1]
abbrev dktX0_lots_3 : List UInt8 := dkwX0_lots_3 ++ dktX0_lots_4
def dkwX0_lots_2 : List UInt8 := [19, 1, 49, 104, 17, 48, 57, 96, 19, 1, 50, 126, 181, 1, 44, 42, 180, 0, 38, 42, 180, 1, 44]
abbrev dktX0_lots_2 : List UInt8 := dkwX0_lots_2 ++ dktX0_lots_3
def dkwX0_lots_1 : List UInt8 := [17, 39, 15, 164, 0, 6, 16, 253, 172, 3, 61, 3, 62, 29, 27, 162, 0, 56, 42, 42, 180, 1, 44]
abbrev dktX0_lots_1 : List UInt8 := dkwX0_lots_1 ++ dktX0_lots_2
def dkwX0_lots_0 : List UInt8 := [27, 133, 10, 20, 1, 47, 184, 0, 48, 154, 0, 5, 2, 172, 42, 180, 0, 38, 180, 0, 153, 27, 96]
abbrev dktX0_lots_0 : List UInt8 := dkwX0_lots_0 ++ dktX0_lots_1
theorem dksX0_lots_0 : cX0_lots.data.toList.drop 0 = dktX0_lots_0 := by decide +kernel
theorem dksX0_lots_1 : cX0_lots.data.toList.drop 23 = dktX0_lots_1 := dk_seg dksX0_lots_0 23 rfl rfl
theorem dksX0_lots_2 : cX0_lots.data.toList.drop 46 = dktX0_lots_2 := dk_seg dksX0_lots_1 23 rfl rfl
theorem dksX0_lots_3 : cX0_lots.data.toList.drop 69 = dktX0_lots_3 := dk_seg dksX0_lots_2 23 rfl rfl
theorem dksX0_lots_4 : cX0_lots.data.toList.drop 91 = dktX0_lots_4 := dk_seg dksX0_lots_3 22 rfl rfl
theorem dksX0_lots_5 : cX0_lots.data.toList.drop 115 = dktX0_lots_5 := dk_seg dksX0_lots_4 24 rfl rfl
theorem dX0_lots_0 : decode cX0_lots 0 = .ok (.iload_n 1, 1) := dk_27 (dk_at dksX0_lots_0 0 rfl rfl)
theorem dX0_lots_1 : decode cX0_lots 1 = .ok (.i2l, 1) := dk_133 (dk_at dksX0_lots_0 1 rfl rfl)
theorem dX0_lots_2 : decode cX0_lots 2 = .ok (.lconst 1, 1) := dk_10 (dk_at dksX0_lots_0 2 rfl rfl)
theorem dX0_lots_3 : decode cX0_lots 3 = .ok (.ldc2_w 303, 3) := dk_20 1 47 (dk_at dksX0_lots_0 3 rfl rfl)
theorem dX0_lots_6 : decode cX0_lots 6 = .ok (.invokestatic 48, 3) := dk_184 0 48 (dk_at dksX0_lots_0 6 rfl rfl)
theorem dX0_lots_9 : decode cX0_lots 9 = .ok (.ifCond .ne 5, 3) := dk_154 0 5 (dk_at dksX0_lots_0 9 rfl rfl)
theorem dX0_lots_12 : decode cX0_lots 12 = .ok (.iconst (-1), 1) := dk_2 (dk_at dksX0_lots_0 12 rfl rfl)
theorem dX0_lots_13 : decode cX0_lots 13 = .ok (.ireturn, 1) := dk_172 (dk_at dksX0_lots_0 13 rfl rfl)
theorem dX0_lots_14 : decode cX0_lots 14 = .ok (.aload_n 0, 1) := dk_42 (dk_at dksX0_lots_0 14 rfl rfl)
theorem dX0_lots_15 : decode cX0_lots 15 = .ok (.getfield 38, 3) := dk_180 0 38 (dk_at dksX0_lots_0 15 rfl rfl)
theorem dX0_lots_18 : decode cX0_lots 18 = .ok (.getfield 153, 3) := dk_180 0 153 (dk_at dksX0_lots_0 18 rfl rfl)
theorem dX0_lots_21 : decode cX0_lots 21 = .ok (.iload_n 1, 1) := dk_27 (dk_at dksX0_lots_0 21 rfl rfl)
theorem dX0_lots_22 : decode cX0_lots 22 = .ok (.iadd, 1) := dk_96 (dk_at dksX0_lots_0 22 rfl rfl)
theorem dX0_lots_23 : decode cX0_lots 23 = .ok (.sipush 9999, 3) := dk_17 39 15 (dk_at dksX0_lots_1 0 rfl rfl)
theorem dX0_lots_26 : decode cX0_lots 26 = .ok (.if_icmp .le 6, 3) := dk_164 0 6 (dk_at dksX0_lots_1 3 rfl rfl)
theorem dX0_lots_29 : decode cX0_lots 29 = .ok (.bipush (-3), 2) := dk_16 253 (dk_at dksX0_lots_1 6 rfl rfl)
theorem dX0_lots_31 : decode cX0_lots 31 = .ok (.ireturn, 1) := dk_172 (dk_at dksX0_lots_1 8 rfl rfl)
theorem dX0_lots_32 : decode cX0_lots 32 = .ok (.iconst 0, 1) := dk_3 (dk_at dksX0_lots_1 9 rfl rfl)
theorem dX0_lots_33 : decode cX0_lots 33 = .ok (.istore_n 2, 1) := dk_61 (dk_at dksX0_lots_1 10 rfl rfl)
theorem dX0_lots_34 : decode cX0_lots 34 = .ok (.iconst 0, 1) := dk_3 (dk_at dksX0_lots_1 11 rfl rfl)
theorem dX0_lots_35 : decode cX0_lots 35 = .ok (.istore_n 3, 1) := dk_62 (dk_at dksX0_lots_1 12 rfl rfl)
theorem dX0_lots_36 : decode cX0_lots 36 = .ok (.iload_n 3, 1) := dk_29 (dk_at dksX0_lots_1 13 rfl rfl)
theorem dX0_lots_37 : decode cX0_lots 37 = .ok (.iload_n 1, 1) := dk_27 (dk_at dksX0_lots_1 14 rfl rfl)
theorem dX0_lots_38 : decode cX0_lots 38 = .ok (.if_icmp .ge 56, 3) := dk_162 0 56 (dk_at dksX0_lots_1 15 rfl rfl)
theorem dX0_lots_41 : decode cX0_lots 41 = .ok (.aload_n 0, 1) := dk_42 (dk_at dksX0_lots_1 18 rfl rfl)
theorem dX0_lots_42 : decode cX0_lots 42 = .ok (.aload_n 0, 1) := dk_42 (dk_at dksX0_lots_1 19 rfl rfl)
theorem dX0_lots_43 : decode cX0_lots 43 = .ok (.getfield 300, 3) := dk_180 1 44 (dk_at dksX0_lots_1 20 rfl rfl)
theorem dX0_lots_46 : decode cX0_lots 46 = .ok (.ldc_w 305, 3) := dk_19 1 49 (dk_at dksX0_lots_2 0 rfl rfl)
theorem dX0_lots_49 : decode cX0_lots 49 = .ok (.imul, 1) := dk_104 (dk_at dksX0_lots_2 3 rfl rfl)
theorem dX0_lots_50 : decode cX0_lots 50 = .ok (.sipush 12345, 3) := dk_17 48 57 (dk_at dksX0_lots_2 4 rfl rfl)
theorem dX0_lots_53 : decode cX0_lots 53 = .ok (.iadd, 1) := dk_96 (dk_at dksX0_lots_2 7 rfl rfl)
theorem dX0_lots_54 : decode cX0_lots 54 = .ok (.ldc_w 306, 3) := dk_19 1 50 (dk_at dksX0_lots_2 8 rfl rfl)
theorem dX0_lots_57 : decode cX0_lots 57 = .ok (.iand, 1) := dk_126 (dk_at dksX0_lots_2 11 rfl rfl)
theorem dX0_lots_58 : decode cX0_lots 58 = .ok (.putfield 300, 3) := dk_181 1 44 (dk_at dksX0_lots_2 12 rfl rfl)
theorem dX0_lots_61 : decode cX0_lots 61 = .ok (.aload_n 0, 1) := dk_42 (dk_at dksX0_lots_2 15 rfl rfl)
theorem dX0_lots_62 : decode cX0_lots 62 = .ok (.getfield 38, 3) := dk_180 0 38 (dk_at dksX0_lots_2 16 rfl rfl)
theorem dX0_lots_65 : decode cX0_lots 65 = .ok (.aload_n 0, 1) := dk_42 (dk_at dksX0_lots_2 19 rfl rfl)
theorem dX0_lots_66 : decode cX0_lots 66 = .ok (.getfield 300, 3) := dk_180 1 44 (dk_at dksX0_lots_2 20 rfl rfl)
theorem dX0_lots_69 : decode cX0_lots 69 = .ok (.ldc_w 307, 3) := dk_19 1 51 (dk_at dksX0_lots_3 0 rfl rfl)
theorem dX0_lots_72 : decode cX0_lots 72 = .ok (.idiv, 1) := dk_108 (dk_at dksX0_lots_3 3 rfl rfl)
theorem dX0_lots_73 : decode cX0_lots 73 = .ok (.iconst 4, 1) := dk_7 (dk_at dksX0_lots_3 4 rfl rfl)
theorem dX0_lots_74 : decode cX0_lots 74 = .ok (.irem, 1) := dk_112 (dk_at dksX0_lots_3 5 rfl rfl)
theorem dX0_lots_75 : decode cX0_lots 75 = .ok (.putfield 253, 3) := dk_181 0 253 (dk_at dksX0_lots_3 6 rfl rfl)
theorem dX0_lots_78 : decode cX0_lots 78 = .ok (.iload_n 2, 1) := dk_28 (dk_at dksX0_lots_3 9 rfl rfl)
theorem dX0_lots_79 : decode cX0_lots 79 = .ok (.aload_n 0, 1) := dk_42 (dk_at dksX0_lots_3 10 rfl rfl)
theorem dX0_lots_80 : decode cX0_lots 80 = .ok (.getfield 38, 3) := dk_180 0 38 (dk_at dksX0_lots_3 11 rfl rfl)
theorem dX0_lots_83 : decode cX0_lots 83 = .ok (.invokevirtual 169, 3) := dk_182 0 169 (dk_at dksX0_lots_3 14 rfl rfl)
theorem dX0_lots_86 : decode cX0_lots 86 = .ok (.iadd, 1) := dk_96 (dk_at dksX0_lots_3 17 rfl rfl)
theorem dX0_lots_87 : decode cX0_lots 87 = .ok (.istore_n 2, 1) := dk_61 (dk_at dksX0_lots_3 18 rfl rfl)
theorem dX0_lots_88 : decode cX0_lots 88 = .ok (.iinc 3 1, 3) := dk_132 3 1 (dk_at dksX0_lots_3 19 rfl rfl)
theorem dX0_lots_91 : decode cX0_lots 91 = .ok (.goto (-55), 3) := dk_167 255 201 (dk_at dksX0_lots_4 0 rfl rfl)
theorem dX0_lots_94 : decode cX0_lots 94 = .ok (.iload_n 2, 1) := dk_28 (dk_at dksX0_lots_4 3 rfl rfl)
theorem dX0_lots_95 : decode cX0_lots 95 = .ok (.istore_n 3, 1) := dk_62 (dk_at dksX0_lots_4 4 rfl rfl)
theorem dX0_lots_96 : decode cX0_lots 96 = .ok (.aload_n 0, 1) := dk_42 (dk_at dksX0_lots_4 5 rfl rfl)
theorem dX0_lots_97 : decode cX0_lots 97 = .ok (.getfield 38, 3) := dk_180 0 38 (dk_at dksX0_lots_4 6 rfl rfl)
theorem dX0_lots_100 : decode cX0_lots 100 = .ok (.bipush (-4), 2) := dk_16 252 (dk_at dksX0_lots_4 9 rfl rfl)
theorem dX0_lots_102 : decode cX0_lots 102 = .ok (.putfield 253, 3) := dk_181 0 253 (dk_at dksX0_lots_4 11 rfl rfl)
theorem dX0_lots_105 : decode cX0_lots 105 = .ok (.iload_n 3, 1) := dk_29 (dk_at dksX0_lots_4 14 rfl rfl)
theorem dX0_lots_106 : decode cX0_lots 106 = .ok (.ireturn, 1) := dk_172 (dk_at dksX0_lots_4 15 rfl rfl)
theorem dX0_lots_107 : decode cX0_lots 107 = .ok (.astore 4, 2) := dk_58 4 (dk_at dksX0_lots_4 16 rfl rfl)
theorem dX0_lots_109 : decode cX0_lots 109 = .ok (.aload_n 0, 1) := dk_42 (dk_at dksX0_lots_4 18 rfl rfl)
theorem dX0_lots_110 : decode cX0_lots 110 = .ok (.getfield 38, 3) := dk_180 0 38 (dk_at dksX0_lots_4 19 rfl rfl)
theorem dX0_lots_113 : decode cX0_lots 113 = .ok (.bipush (-4), 2) := dk_16 252 (dk_at dksX0_lots_4 22 rfl rfl)
theorem dX0_lots_115 : decode cX0_lots 115 = .ok (.putfield 253, 3) := dk_181 0 253 (dk_at dksX0_lots_5 0 rfl rfl)
theorem dX0_lots_118 : decode cX0_lots 118 = .ok (.aload 4, 2) := dk_25 4 (dk_at dksX0_lots_5 3 rfl rfl)
theorem dX0_lots_120 : decode cX0_lots 120 = .ok (.athrow, 1) := dk_191 (dk_at dksX0_lots_5 5 rfl rfl)
section CP
variable {Γ : Gc} {p : Program} {l : Launch} {e : Env} {s : State} {m : MethodId} {args : Array Value} {below : List Frame} {meth : Method} {c : Code} {ex : Nat → Option Nat} {z : Nat} {tF : St}
noncomputable def fX0_lots_36 (ex : Nat → Option Nat) (z : Nat) : Nat → Nat → Int32 → Int32 → Int32 → St → Option (Int32 × St)
  | 0, _, _, _, _, _ => none
  | n + 1, h0, x1, x2, x3, t => if x1 ≤ x3 then cgA [0] 0 t h0 fun v1 => cput [1] 6 t v1 (.int (-4)) fun t2 => some (x2, t2) else cgI [0] 5 t h0 fun v3 => cput [0] 5 t h0 (.int (((v3 * 1103515245) + 12345) &&& 2147483647)) fun t4 => cgA [0] 0 t4 h0 fun v5 => cgI [0] 5 t4 h0 fun v6 => cput [1] 6 t4 v5 (.int ((v6 / 65536) - (v6 / 65536) / 4 * 4)) fun t7 => cgA [0] 0 t7 h0 fun v8 => ccast [1] t7 v8 (gb (fX1_goes ex (z + t7.2.1) v8 (t7.1, 0, 0)) t7 fun r9 t10 => lt (x2 + r9) fun y16 => fX0_lots_36 ex z n h0 x1 y16 (x3 + 1) t10)
set_option maxHeartbeats 4000000 in
theorem wX0_lots_36 {rF : Int32} (hex : ex = Γ.2.2.2.2) (hl : l.stackTraces = false) (X : g_X Γ p s m args meth c cX0_lots 5 RX0) (hr : meth.sig.returnType = (some .int)) (ht : g_T meth [(34, 96, 107, 0), (107, 109, 107, 0)]) (n : Nat) : ∀ (h0 : Nat) (x1 : Int32) (x2 : Int32) (x3 : Int32) (t : St), Wf Γ p l e 19 403 s m args below meth c 5 (g_ι z) v_i rF tF 36 [(0, .ref h0), (1, .int x1), (2, .int x2), (3, .int x3)] [] t (fX0_lots_36 ex z n h0 x1 x2 x3 t) := by
  induction n with
  | zero => intro h0 x1 x2 x3 t; exact g_none
  | succ n ih =>
    intro h0 x1 x2 x3 t
    rw [fX0_lots_36]
    refine g_iload_n (pc := 36) X 3 dX0_lots_36 rfl rfl ?_
    refine g_iload_n (pc := 37) X 1 dX0_lots_37 rfl rfl ?_
    refine g_icmp_ge (pc := 38) X 94 dX0_lots_38 (by decide) ?_ ?_
    · refine g_iload_n (pc := 94) X 2 dX0_lots_94 rfl rfl ?_
      refine g_istore_n (pc := 95) X (lv' := [(3, .int x2), (0, .ref h0), (1, .int x1), (2, .int x2)]) dX0_lots_95 rfl (by decide) rfl ?_
      refine g_aload_n (pc := 96) X 1 dX0_lots_96 rfl rfl ?_
      refine cg_getA (pc := 97) X fo_X0_38 dX0_lots_97 (fun v1 => ?_)
      refine g_bipush (pc := 100) X (-4) dX0_lots_100 rfl ?_
      refine cg_put (pc := 102) X fp_X0_253 dX0_lots_102 (fun h => by cases h) rfl rfl (fun t2 => ?_)
      refine g_iload_n (pc := 105) X 0 dX0_lots_105 rfl rfl ?_
      exact g_iret (pc := 106) X hr dX0_lots_106
    · refine g_aload_n (pc := 41) X 0 dX0_lots_41 rfl rfl ?_
      refine g_aload_n (pc := 42) X 0 dX0_lots_42 rfl rfl ?_
      refine cg_getI (pc := 43) X fo_X0_300 dX0_lots_43 (fun v3 => ?_)
      refine g_ldc_w (pc := 46) X 1103515245 dX0_lots_46 q1076 ?_
      refine g_imul (pc := 49) X dX0_lots_49 ?_
      refine g_sipush (pc := 50) X 12345 dX0_lots_50 rfl ?_
      refine g_iadd (pc := 53) X dX0_lots_53 ?_
      refine g_ldc_w (pc := 54) X 2147483647 dX0_lots_54 q1077 ?_
      refine g_iand (pc := 57) X dX0_lots_57 ?_
      refine cg_put (pc := 58) X fp_X0_300 dX0_lots_58 (fun h => by cases h) rfl rfl (fun t4 => ?_)
      refine g_aload_n (pc := 61) X 0 dX0_lots_61 rfl rfl ?_
      refine cg_getA (pc := 62) X fo_X0_38 dX0_lots_62 (fun v5 => ?_)
      refine g_aload_n (pc := 65) X 0 dX0_lots_65 rfl rfl ?_
      refine cg_getI (pc := 66) X fo_X0_300 dX0_lots_66 (fun v6 => ?_)
      refine g_ldc_w (pc := 69) X 65536 dX0_lots_69 q1078 ?_
      refine g_idiv (pc := 72) X dX0_lots_72 (by decide) ?_
      refine g_iconst (pc := 73) X 4 dX0_lots_73 rfl ?_
      refine g_irem (pc := 74) X dX0_lots_74 (by decide) ?_
      refine cg_put (pc := 75) X fp_X0_253 dX0_lots_75 (fun h => by cases h) rfl rfl (fun t7 => ?_)
      refine g_iload_n (pc := 78) X 2 dX0_lots_78 rfl rfl ?_
      refine g_aload_n (pc := 79) X 0 dX0_lots_79 rfl rfl ?_
      refine cg_getA (pc := 80) X fo_X0_38 dX0_lots_80 (fun v8 => ?_)
      refine g_bD_i (pc := 83) X (cs := [1]) (As := []) (rest := [.int x2]) (b := v8) (n := 0) dX0_lots_83 rfl rfl (Nat.le_of_ble_eq_true rfl) (fun fl11 ci12 fs13 hs14 hci15 r u h => ?_) (fun r9 t10 => ?_)
      · obtain rfl := List.mem_singleton.mp hci15
        exact ⟨_, _, _, yX1_goes, _, _, _, 18, 380, rfl, kX1_goes hex h, Or.inl (cwV 0 X.2.2.2.2.1 (lw_V q534 q535 q536 q71 q537) rfl rfl rfl dmV_X1_goes ⟨Nat.le_of_ble_eq_true rfl, Nat.le_of_ble_eq_true rfl⟩)⟩
      refine g_iadd (pc := 86) X dX0_lots_86 ?_
      refine g_lti (pc := 87) (fun y16 => ?_)
      refine g_istore_n (pc := 87) X (lv' := [(2, .int y16), (0, .ref h0), (1, .int x1), (3, .int x3)]) dX0_lots_87 rfl (by decide) rfl ?_
      refine g_iinc (pc := 88) X 1 3 (lv' := [(3, .int (x3 + 1)), (2, .int y16), (0, .ref h0), (1, .int x1)]) dX0_lots_88 rfl rfl (by decide) rfl ?_
      refine g_goto (pc := 91) X 36 dX0_lots_91 (by decide) ?_
      exact g_lv (pc := 36) (lv' := [(0, .ref h0), (1, .int x1), (2, .int y16), (3, .int (x3 + 1))]) [2, 3, 1, 0] rfl (ih h0 x1 y16 (x3 + 1) t10)
noncomputable def fX0_lots (ex : Nat → Option Nat) (z : Nat) (h0 : Nat) (x1 : Int32) (t : St) : Option (Int32 × St) := gb (fX0_in ex (z + t.2.1) x1.toInt64 1 60 (t.1, 0, 0)) t fun r1 t2 => if r1 = 0 then some ((-1), t2) else cgA [0] 0 t2 h0 fun v3 => cgI [1] 3 t2 v3 fun v4 => if v4 + x1 ≤ 9999 then fX0_lots_36 ex z 1000 h0 x1 0 0 t2 else some ((-3), t2)
set_option maxHeartbeats 4000000 in
theorem wX0_lots {rF : Int32} (hex : ex = Γ.2.2.2.2) (hl : l.stackTraces = false) (X : g_X Γ p s m args meth c cX0_lots 5 RX0) (hr : meth.sig.returnType = (some .int)) (ht : g_T meth [(34, 96, 107, 0), (107, 109, 107, 0)]) (h0 : Nat) (x1 : Int32) (t : St) : Wf Γ p l e 19 403 s m args below meth c 5 (g_ι z) v_i rF tF 0 [(0, .ref h0), (1, .int x1)] [] t (fX0_lots ex z h0 x1 t) := by
  unfold fX0_lots
  refine g_iload_n (pc := 0) X 1 dX0_lots_0 rfl rfl ?_
  refine g_i2l (pc := 1) X dX0_lots_1 ?_
  refine g_lconst (pc := 2) X 1 dX0_lots_2 rfl ?_
  refine g_ldc2 (pc := 3) X 60 dX0_lots_3 q1075 ?_
  refine g_bS_i (pc := 6) X (y := yX0_in) (As := [.long x1.toInt64, .long 1, .long 60]) (rest := []) (fr' := 0) (lo' := 0) (fun _ => va_cwS 3 X.2.2.2.2.1 (lw_S q122 q123 q70 q124) rfl rfl rfl dmS_X0_in ⟨Nat.le_of_ble_eq_true rfl, Nat.le_of_ble_eq_true rfl⟩) dX0_lots_6 rfl rfl (Nat.le_of_ble_eq_true rfl) (fun r u h => kX0_in hex h) (fun r1 t2 => ?_)
  refine g_if_ne (pc := 9) X 14 dX0_lots_9 (by decide) ?_ ?_
  · refine g_aload_n (pc := 14) X 0 dX0_lots_14 rfl rfl ?_
    refine cg_getA (pc := 15) X fo_X0_38 dX0_lots_15 (fun v3 => ?_)
    refine cg_getI (pc := 18) X fo_X0_153 dX0_lots_18 (fun v4 => ?_)
    refine g_iload_n (pc := 21) X 1 dX0_lots_21 rfl rfl ?_
    refine g_iadd (pc := 22) X dX0_lots_22 ?_
    refine g_sipush (pc := 23) X 9999 dX0_lots_23 rfl ?_
    refine g_icmp_le (pc := 26) X 32 dX0_lots_26 (by decide) ?_ ?_
    · refine g_iconst (pc := 32) X 0 dX0_lots_32 rfl ?_
      refine g_istore_n (pc := 33) X (lv' := [(2, .int 0), (0, .ref h0), (1, .int x1)]) dX0_lots_33 rfl (by decide) rfl ?_
      refine g_iconst (pc := 34) X 0 dX0_lots_34 rfl ?_
      refine g_istore_n (pc := 35) X (lv' := [(3, .int 0), (2, .int 0), (0, .ref h0), (1, .int x1)]) dX0_lots_35 rfl (by decide) rfl ?_
      exact g_lv (pc := 36) (lv' := [(0, .ref h0), (1, .int x1), (2, .int 0), (3, .int 0)]) [2, 3, 1, 0] rfl (wX0_lots_36 hex hl X hr ht 1000 h0 x1 0 0 t2)
    · refine g_bipush (pc := 29) X (-3) dX0_lots_29 rfl ?_
      exact g_iret (pc := 31) X hr dX0_lots_31
  · refine g_iconst (pc := 12) X (-1) dX0_lots_12 rfl ?_
    exact g_iret (pc := 13) X hr dX0_lots_13
theorem kX0_lots {ex : Nat → Option Nat} {z : Nat} {h0 : Nat} {x1 : Int32} {σ : Sg} {r : Int32} {u : St} (hex : ex = Γ.2.2.2.2) (hl : l.stackTraces = false) (h : fX0_lots ex z h0 x1 (σ, 0, 0) = some (r, u)) : g_CT Γ l yX0_lots cX0_lots 5 (some .int) [(34, 96, 107, 0), (107, 109, 107, 0)] 19 403 [.ref h0, .int x1] σ z v_i r (g_ι z u) := by
  exact g_metT (ι := g_ι z) (t := (σ, 0, 0)) [.ref h0, .int x1] (Nat.le_of_ble_eq_true rfl) h rfl (fun p e s m args below meth c X hr hn ht => wX0_lots hex hl X hr ht h0 x1 (σ, 0, 0))
end CP
abbrev cX0_course : ByteArray := prog_1_method_61_code
def yX0_course : MethodName := ⟨RX0, "course", "()I"⟩
def dkwX0_course_4 : List UInt8 := [3, 181, 1, 56, 45, 191]
abbrev dktX0_course_4 : List UInt8 := dkwX0_course_4 ++ []
def dkwX0_course_3 : List UInt8 := [3, 181, 1, 56, 28, 172, 76, 16, 236, 43, 180, 1, 100, 100, 61, 42, 3, 181, 1, 56, 28, 172, 78, 42]
abbrev dktX0_course_3 : List UInt8 := dkwX0_course_3 ++ dktX0_course_4
def dkwX0_course_2 : List UInt8 := [132, 2, 1, 167, 255, 233, 42, 180, 0, 38, 182, 0, 208, 87, 42, 180, 0, 101, 182, 0, 104, 27, 61, 42]
abbrev dktX0_course_2 : List UInt8 := dkwX0_course_2 ++ dktX0_course_3
def dkwX0_course_1 : List UInt8 := [3, 61, 28, 27, 162, 0, 24, 42, 180, 0, 38, 180, 0, 138, 28, 42, 180, 1, 84, 28, 51, 84]
abbrev dktX0_course_1 : List UInt8 := dkwX0_course_1 ++ dktX0_course_2
def dkwX0_course_0 : List UInt8 := [42, 3, 181, 1, 62, 42, 19, 1, 94, 5, 16, 24, 182, 1, 96, 60, 42, 180, 0, 38, 27, 181, 0, 150]
abbrev dktX0_course_0 : List UInt8 := dkwX0_course_0 ++ dktX0_course_1
theorem dksX0_course_0 : cX0_course.data.toList.drop 0 = dktX0_course_0 := by decide +kernel
theorem dksX0_course_1 : cX0_course.data.toList.drop 24 = dktX0_course_1 := dk_seg dksX0_course_0 24 rfl rfl
theorem dksX0_course_2 : cX0_course.data.toList.drop 46 = dktX0_course_2 := dk_seg dksX0_course_1 22 rfl rfl
theorem dksX0_course_3 : cX0_course.data.toList.drop 70 = dktX0_course_3 := dk_seg dksX0_course_2 24 rfl rfl
theorem dksX0_course_4 : cX0_course.data.toList.drop 94 = dktX0_course_4 := dk_seg dksX0_course_3 24 rfl rfl
theorem dX0_course_0 : decode cX0_course 0 = .ok (.aload_n 0, 1) := dk_42 (dk_at dksX0_course_0 0 rfl rfl)
theorem dX0_course_1 : decode cX0_course 1 = .ok (.iconst 0, 1) := dk_3 (dk_at dksX0_course_0 1 rfl rfl)
theorem dX0_course_2 : decode cX0_course 2 = .ok (.putfield 318, 3) := dk_181 1 62 (dk_at dksX0_course_0 2 rfl rfl)
theorem dX0_course_5 : decode cX0_course 5 = .ok (.aload_n 0, 1) := dk_42 (dk_at dksX0_course_0 5 rfl rfl)
theorem dX0_course_6 : decode cX0_course 6 = .ok (.ldc_w 350, 3) := dk_19 1 94 (dk_at dksX0_course_0 6 rfl rfl)
theorem dX0_course_9 : decode cX0_course 9 = .ok (.iconst 2, 1) := dk_5 (dk_at dksX0_course_0 9 rfl rfl)
theorem dX0_course_10 : decode cX0_course 10 = .ok (.bipush 24, 2) := dk_16 24 (dk_at dksX0_course_0 10 rfl rfl)
theorem dX0_course_12 : decode cX0_course 12 = .ok (.invokevirtual 352, 3) := dk_182 1 96 (dk_at dksX0_course_0 12 rfl rfl)
theorem dX0_course_15 : decode cX0_course 15 = .ok (.istore_n 1, 1) := dk_60 (dk_at dksX0_course_0 15 rfl rfl)
theorem dX0_course_16 : decode cX0_course 16 = .ok (.aload_n 0, 1) := dk_42 (dk_at dksX0_course_0 16 rfl rfl)
theorem dX0_course_17 : decode cX0_course 17 = .ok (.getfield 38, 3) := dk_180 0 38 (dk_at dksX0_course_0 17 rfl rfl)
theorem dX0_course_20 : decode cX0_course 20 = .ok (.iload_n 1, 1) := dk_27 (dk_at dksX0_course_0 20 rfl rfl)
theorem dX0_course_21 : decode cX0_course 21 = .ok (.putfield 150, 3) := dk_181 0 150 (dk_at dksX0_course_0 21 rfl rfl)
theorem dX0_course_24 : decode cX0_course 24 = .ok (.iconst 0, 1) := dk_3 (dk_at dksX0_course_1 0 rfl rfl)
theorem dX0_course_25 : decode cX0_course 25 = .ok (.istore_n 2, 1) := dk_61 (dk_at dksX0_course_1 1 rfl rfl)
theorem dX0_course_26 : decode cX0_course 26 = .ok (.iload_n 2, 1) := dk_28 (dk_at dksX0_course_1 2 rfl rfl)
theorem dX0_course_27 : decode cX0_course 27 = .ok (.iload_n 1, 1) := dk_27 (dk_at dksX0_course_1 3 rfl rfl)
theorem dX0_course_28 : decode cX0_course 28 = .ok (.if_icmp .ge 24, 3) := dk_162 0 24 (dk_at dksX0_course_1 4 rfl rfl)
theorem dX0_course_31 : decode cX0_course 31 = .ok (.aload_n 0, 1) := dk_42 (dk_at dksX0_course_1 7 rfl rfl)
theorem dX0_course_32 : decode cX0_course 32 = .ok (.getfield 38, 3) := dk_180 0 38 (dk_at dksX0_course_1 8 rfl rfl)
theorem dX0_course_35 : decode cX0_course 35 = .ok (.getfield 138, 3) := dk_180 0 138 (dk_at dksX0_course_1 11 rfl rfl)
theorem dX0_course_38 : decode cX0_course 38 = .ok (.iload_n 2, 1) := dk_28 (dk_at dksX0_course_1 14 rfl rfl)
theorem dX0_course_39 : decode cX0_course 39 = .ok (.aload_n 0, 1) := dk_42 (dk_at dksX0_course_1 15 rfl rfl)
theorem dX0_course_40 : decode cX0_course 40 = .ok (.getfield 340, 3) := dk_180 1 84 (dk_at dksX0_course_1 16 rfl rfl)
theorem dX0_course_43 : decode cX0_course 43 = .ok (.iload_n 2, 1) := dk_28 (dk_at dksX0_course_1 19 rfl rfl)
theorem dX0_course_44 : decode cX0_course 44 = .ok (.baload, 1) := dk_51 (dk_at dksX0_course_1 20 rfl rfl)
theorem dX0_course_45 : decode cX0_course 45 = .ok (.bastore, 1) := dk_84 (dk_at dksX0_course_1 21 rfl rfl)
theorem dX0_course_46 : decode cX0_course 46 = .ok (.iinc 2 1, 3) := dk_132 2 1 (dk_at dksX0_course_2 0 rfl rfl)
theorem dX0_course_49 : decode cX0_course 49 = .ok (.goto (-23), 3) := dk_167 255 233 (dk_at dksX0_course_2 3 rfl rfl)
theorem dX0_course_52 : decode cX0_course 52 = .ok (.aload_n 0, 1) := dk_42 (dk_at dksX0_course_2 6 rfl rfl)
theorem dX0_course_53 : decode cX0_course 53 = .ok (.getfield 38, 3) := dk_180 0 38 (dk_at dksX0_course_2 7 rfl rfl)
theorem dX0_course_56 : decode cX0_course 56 = .ok (.invokevirtual 208, 3) := dk_182 0 208 (dk_at dksX0_course_2 10 rfl rfl)
theorem dX0_course_59 : decode cX0_course 59 = .ok (.pop, 1) := dk_87 (dk_at dksX0_course_2 13 rfl rfl)
theorem dX0_course_60 : decode cX0_course 60 = .ok (.aload_n 0, 1) := dk_42 (dk_at dksX0_course_2 14 rfl rfl)
theorem dX0_course_61 : decode cX0_course 61 = .ok (.getfield 101, 3) := dk_180 0 101 (dk_at dksX0_course_2 15 rfl rfl)
theorem dX0_course_64 : decode cX0_course 64 = .ok (.invokevirtual 104, 3) := dk_182 0 104 (dk_at dksX0_course_2 18 rfl rfl)
theorem dX0_course_67 : decode cX0_course 67 = .ok (.iload_n 1, 1) := dk_27 (dk_at dksX0_course_2 21 rfl rfl)
theorem dX0_course_68 : decode cX0_course 68 = .ok (.istore_n 2, 1) := dk_61 (dk_at dksX0_course_2 22 rfl rfl)
theorem dX0_course_69 : decode cX0_course 69 = .ok (.aload_n 0, 1) := dk_42 (dk_at dksX0_course_2 23 rfl rfl)
theorem dX0_course_70 : decode cX0_course 70 = .ok (.iconst 0, 1) := dk_3 (dk_at dksX0_course_3 0 rfl rfl)
theorem dX0_course_71 : decode cX0_course 71 = .ok (.putfield 312, 3) := dk_181 1 56 (dk_at dksX0_course_3 1 rfl rfl)
theorem dX0_course_74 : decode cX0_course 74 = .ok (.iload_n 2, 1) := dk_28 (dk_at dksX0_course_3 4 rfl rfl)
theorem dX0_course_75 : decode cX0_course 75 = .ok (.ireturn, 1) := dk_172 (dk_at dksX0_course_3 5 rfl rfl)
theorem dX0_course_76 : decode cX0_course 76 = .ok (.astore_n 1, 1) := dk_76 (dk_at dksX0_course_3 6 rfl rfl)
theorem dX0_course_77 : decode cX0_course 77 = .ok (.bipush (-20), 2) := dk_16 236 (dk_at dksX0_course_3 7 rfl rfl)
theorem dX0_course_79 : decode cX0_course 79 = .ok (.aload_n 1, 1) := dk_43 (dk_at dksX0_course_3 9 rfl rfl)
theorem dX0_course_80 : decode cX0_course 80 = .ok (.getfield 356, 3) := dk_180 1 100 (dk_at dksX0_course_3 10 rfl rfl)
theorem dX0_course_83 : decode cX0_course 83 = .ok (.isub, 1) := dk_100 (dk_at dksX0_course_3 13 rfl rfl)
theorem dX0_course_84 : decode cX0_course 84 = .ok (.istore_n 2, 1) := dk_61 (dk_at dksX0_course_3 14 rfl rfl)
theorem dX0_course_85 : decode cX0_course 85 = .ok (.aload_n 0, 1) := dk_42 (dk_at dksX0_course_3 15 rfl rfl)
theorem dX0_course_86 : decode cX0_course 86 = .ok (.iconst 0, 1) := dk_3 (dk_at dksX0_course_3 16 rfl rfl)
theorem dX0_course_87 : decode cX0_course 87 = .ok (.putfield 312, 3) := dk_181 1 56 (dk_at dksX0_course_3 17 rfl rfl)
theorem dX0_course_90 : decode cX0_course 90 = .ok (.iload_n 2, 1) := dk_28 (dk_at dksX0_course_3 20 rfl rfl)
theorem dX0_course_91 : decode cX0_course 91 = .ok (.ireturn, 1) := dk_172 (dk_at dksX0_course_3 21 rfl rfl)
theorem dX0_course_92 : decode cX0_course 92 = .ok (.astore_n 3, 1) := dk_78 (dk_at dksX0_course_3 22 rfl rfl)
theorem dX0_course_93 : decode cX0_course 93 = .ok (.aload_n 0, 1) := dk_42 (dk_at dksX0_course_3 23 rfl rfl)
theorem dX0_course_94 : decode cX0_course 94 = .ok (.iconst 0, 1) := dk_3 (dk_at dksX0_course_4 0 rfl rfl)
theorem dX0_course_95 : decode cX0_course 95 = .ok (.putfield 312, 3) := dk_181 1 56 (dk_at dksX0_course_4 1 rfl rfl)
theorem dX0_course_98 : decode cX0_course 98 = .ok (.aload_n 3, 1) := dk_45 (dk_at dksX0_course_4 4 rfl rfl)
theorem dX0_course_99 : decode cX0_course 99 = .ok (.athrow, 1) := dk_191 (dk_at dksX0_course_4 5 rfl rfl)
theorem fp_X0_150 : g_fp RX0 150 [1] 0 .int false := ⟨_, _, _, Or.inr ⟨rfl, _, q1560⟩, by decide +kernel, fun ci h => by
  simp only [List.mem_cons, List.not_mem_nil, or_false] at h; rcases h with rfl
  · exact ⟨_, _, _, tyX1, rfl, by decide, rfl, rfl, Or.inl rfl, in_X1, rfl, (fun h => by cases h), tyX1_ok, (by decide +kernel)⟩⟩
theorem fo_X0_356 : g_fo RX0 356 [10] 6 := ⟨_, _, _, Or.inr ⟨_, q1203⟩, fun ci h => by
  simp only [List.mem_cons, List.not_mem_nil, or_false] at h; rcases h with rfl
  · exact ⟨_, _, _, rfl, by decide, rfl, rfl, Or.inl rfl, in_X10⟩⟩
theorem dy_X0_readSigns : (yX0_readSigns.cls ≠ "java/lang/invoke/MethodHandle" ∧ yX0_readSigns.cls ≠ "java/lang/invoke/VarHandle") ∧ (parseMethodDescriptor yX0_readSigns.desc).map (fun d => d.parameters.length) = some 3 := by decide +kernel
section CP
variable {Γ : Gc} {p : Program} {l : Launch} {e : Env} {s : State} {m : MethodId} {args : Array Value} {below : List Frame} {meth : Method} {c : Code} {ex : Nat → Option Nat} {z : Nat} {tF : St}
noncomputable def fX0_course_26 (ex : Nat → Option Nat) (z : Nat) : Nat → Nat → Int32 → Int32 → St → Option (Int32 × St)
  | 0, _, _, _, _ => none
  | n + 1, h0, x1, x2, t => if x1 ≤ x2 then cgA [0] 0 t h0 fun v1 => ccast [1] t v1 (gb (fX1_begins ex (z + t.2.1) v1 (t.1, 0, 0)) t fun r2 t3 => cgA [0] 2 t3 h0 fun v9 => ccast [15] t3 v9 (gb (fJ2_clear ex (z + t3.2.1) v9 (t3.1, 0, 0)) t3 fun _ t11 => cput [0] 7 t11 h0 (.int 0) fun t17 => some (x1, t17))) else cgA [0] 0 t h0 fun v18 => cgA [1] 1 t v18 fun v19 => cgA [0] 9 t h0 fun v20 => cald 0 t v20 x2 fun v21 => cast_ 0 (vp_nar .byte) t v19 x2 v21 fun t22 => fX0_course_26 ex z n h0 x1 (x2 + 1) t22
set_option maxHeartbeats 4000000 in
theorem wX0_course_26 {rF : Int32} (hex : ex = Γ.2.2.2.2) (hl : l.stackTraces = false) (X : g_X Γ p s m args meth c cX0_course 4 RX0) (hr : meth.sig.returnType = (some .int)) (ht : g_T meth [(0, 69, 76, 327), (0, 69, 92, 0), (76, 85, 92, 0)]) (n : Nat) : ∀ (h0 : Nat) (x1 : Int32) (x2 : Int32) (t : St), Wf Γ p l e 6 137 s m args below meth c 4 (g_ι z) v_i rF tF 26 [(0, .ref h0), (1, .int x1), (2, .int x2)] [] t (fX0_course_26 ex z n h0 x1 x2 t) := by
  induction n with
  | zero => intro h0 x1 x2 t; exact g_none
  | succ n ih =>
    intro h0 x1 x2 t
    rw [fX0_course_26]
    refine g_iload_n (pc := 26) X 2 dX0_course_26 rfl rfl ?_
    refine g_iload_n (pc := 27) X 1 dX0_course_27 rfl rfl ?_
    refine g_icmp_ge (pc := 28) X 52 dX0_course_28 (by decide) ?_ ?_
    · refine g_aload_n (pc := 52) X 0 dX0_course_52 rfl rfl ?_
      refine cg_getA (pc := 53) X fo_X0_38 dX0_course_53 (fun v1 => ?_)
      refine g_bD_i (pc := 56) X (cs := [1]) (As := []) (rest := []) (b := v1) (n := 0) dX0_course_56 rfl rfl (Nat.le_of_ble_eq_true rfl) (fun fl4 ci5 fs6 hs7 hci8 r u h => ?_) (fun r2 t3 => ?_)
      · obtain rfl := List.mem_singleton.mp hci8
        exact ⟨_, _, _, yX1_begins, _, _, _, 3, 64, rfl, kX1_begins hex h, Or.inl (cwV 0 X.2.2.2.2.1 (lw_V q811 q812 q813 q71 q814) rfl rfl rfl dmV_X1_begins ⟨Nat.le_of_ble_eq_true rfl, Nat.le_of_ble_eq_true rfl⟩)⟩
      refine g_pop (pc := 59) X dX0_course_59 rfl ?_
      refine g_aload_n (pc := 60) X 0 dX0_course_60 rfl rfl ?_
      refine cg_getA (pc := 61) X fo_X0_101 dX0_course_61 (fun v9 => ?_)
      refine g_bD_v (pc := 64) X (cs := [15]) (As := []) (rest := []) (b := v9) (n := 0) dX0_course_64 rfl rfl (Nat.le_of_ble_eq_true rfl) (fun fl12 ci13 fs14 hs15 hci16 r u h => ?_) (fun r10 t11 => ?_)
      · obtain rfl := List.mem_singleton.mp hci16
        exact ⟨_, _, _, yJ2_clear, _, _, _, 0, 0, rfl, kJ2_clear hex h, Or.inl (cwV 0 X.2.2.2.2.1 (lw_V q360 q361 q362 q74 q363) rfl rfl rfl dmV_J2_clear ⟨Nat.le_of_ble_eq_true rfl, Nat.le_of_ble_eq_true rfl⟩)⟩
      refine g_iload_n (pc := 67) X 1 dX0_course_67 rfl rfl ?_
      refine g_istore_n (pc := 68) X (lv' := [(2, .int x1), (0, .ref h0), (1, .int x1)]) dX0_course_68 rfl (by decide) rfl ?_
      refine g_aload_n (pc := 69) X 1 dX0_course_69 rfl rfl ?_
      refine g_iconst (pc := 70) X 0 dX0_course_70 rfl ?_
      refine cg_put (pc := 71) X fp_X0_312 dX0_course_71 (fun h => by cases h) rfl rfl (fun t17 => ?_)
      refine g_iload_n (pc := 74) X 0 dX0_course_74 rfl rfl ?_
      exact g_iret (pc := 75) X hr dX0_course_75
    · refine g_aload_n (pc := 31) X 0 dX0_course_31 rfl rfl ?_
      refine cg_getA (pc := 32) X fo_X0_38 dX0_course_32 (fun v18 => ?_)
      refine cg_getA (pc := 35) X fo_X0_138 dX0_course_35 (fun v19 => ?_)
      refine g_iload_n (pc := 38) X 2 dX0_course_38 rfl rfl ?_
      refine g_aload_n (pc := 39) X 0 dX0_course_39 rfl rfl ?_
      refine cg_getA (pc := 40) X fo_X0_340 dX0_course_40 (fun v20 => ?_)
      refine g_iload_n (pc := 43) X 2 dX0_course_43 rfl rfl ?_
      refine cg_bald (pc := 44) X dX0_course_44 (fun v21 => ?_)
      refine cg_bast (pc := 45) X dX0_course_45 (fun t22 => ?_)
      refine g_iinc (pc := 46) X 1 2 (lv' := [(2, .int (x2 + 1)), (0, .ref h0), (1, .int x1)]) dX0_course_46 rfl rfl (by decide) rfl ?_
      refine g_goto (pc := 49) X 26 dX0_course_49 (by decide) ?_
      exact g_lv (pc := 26) (lv' := [(0, .ref h0), (1, .int x1), (2, .int (x2 + 1))]) [1, 2, 0] rfl (ih h0 x1 (x2 + 1) t22)
noncomputable def fX0_course_76 (ex : Nat → Option Nat) (z : Nat) (h0 : Nat) (s0 : Nat) (t : St) : Option (Int32 × St) := cgI [10] 6 t s0 fun v1 => lt ((-20) - v1) fun y2 => cput [0] 7 t h0 (.int 0) fun t3 => some (y2, t3)
set_option maxHeartbeats 4000000 in
theorem wX0_course_76 {rF : Int32} (hex : ex = Γ.2.2.2.2) (hl : l.stackTraces = false) (X : g_X Γ p s m args meth c cX0_course 4 RX0) (hr : meth.sig.returnType = (some .int)) (ht : g_T meth [(0, 69, 76, 327), (0, 69, 92, 0), (76, 85, 92, 0)]) (h0 : Nat) (s0 : Nat) (t : St) : Wf Γ p l e 6 137 s m args below meth c 4 (g_ι z) v_i rF tF 76 [(0, .ref h0)] [.ref s0] t (fX0_course_76 ex z h0 s0 t) := by
  unfold fX0_course_76
  refine g_astore_n (pc := 76) X (lv' := [(1, .ref s0), (0, .ref h0)]) dX0_course_76 rfl (by decide) rfl ?_
  refine g_bipush (pc := 77) X (-20) dX0_course_77 rfl ?_
  refine g_aload_n (pc := 79) X 0 dX0_course_79 rfl rfl ?_
  refine cg_getI (pc := 80) X fo_X0_356 dX0_course_80 (fun v1 => ?_)
  refine g_isub (pc := 83) X dX0_course_83 ?_
  refine g_lti (pc := 84) (fun y2 => ?_)
  refine g_istore_n (pc := 84) X (lv' := [(2, .int y2), (1, .ref s0), (0, .ref h0)]) dX0_course_84 rfl (by decide) rfl ?_
  refine g_aload_n (pc := 85) X 2 dX0_course_85 rfl rfl ?_
  refine g_iconst (pc := 86) X 0 dX0_course_86 rfl ?_
  refine cg_put (pc := 87) X fp_X0_312 dX0_course_87 (fun h => by cases h) rfl rfl (fun t3 => ?_)
  refine g_iload_n (pc := 90) X 0 dX0_course_90 rfl rfl ?_
  exact g_iret (pc := 91) X hr dX0_course_91
noncomputable def fX0_course (ex : Nat → Option Nat) (z : Nat) (h0 : Nat) (t : St) : Option (Int32 × St) := cput [0] 8 t h0 (.int 0) fun t1 => cex (ex 1) fun a2 => ccast [0] t1 h0 (gbT (fX0_readSigns ex (z + t1.2.1) h0 a2 2 24 (t1.1, 0, 0)) t1 (fun r3 t4 => cgA [0] 0 t4 h0 fun v7 => cput [1] 0 t4 v7 (.int r3) fun t8 => fX0_course_26 ex z 1000 h0 r3 0 t8) (fun a6 t5 => cif t5 a6 10 (fX0_course_76 ex z h0 a6 t5) (none)))
set_option maxHeartbeats 4000000 in
theorem wX0_course {rF : Int32} (hex : ex = Γ.2.2.2.2) (hl : l.stackTraces = false) (X : g_X Γ p s m args meth c cX0_course 4 RX0) (hr : meth.sig.returnType = (some .int)) (ht : g_T meth [(0, 69, 76, 327), (0, 69, 92, 0), (76, 85, 92, 0)]) (h0 : Nat) (t : St) : Wf Γ p l e 6 137 s m args below meth c 4 (g_ι z) v_i rF tF 0 [(0, .ref h0)] [] t (fX0_course ex z h0 t) := by
  unfold fX0_course
  refine g_aload_n (pc := 0) X 0 dX0_course_0 rfl rfl ?_
  refine g_iconst (pc := 1) X 0 dX0_course_1 rfl ?_
  refine cg_put (pc := 2) X fp_X0_318 dX0_course_2 (fun h => by cases h) rfl rfl (fun t1 => ?_)
  refine g_aload_n (pc := 5) X 0 dX0_course_5 rfl rfl ?_
  refine cx_ldcS (pc := 6) X hex 1 rfl q1090 dX0_course_6 (fun a2 => ?_)
  refine g_iconst (pc := 9) X 2 dX0_course_9 rfl ?_
  refine g_bipush (pc := 10) X 24 dX0_course_10 rfl ?_
  refine t_bV_i (pc := 12) X (ci := 0) (C := RX0) (b := h0) (y := yX0_readSigns) (As := [.ref a2, .int 2, .int 24]) (rest := []) (n := 3) (fr' := 5) (lo' := 113) ⟨_, _, rfl⟩ dX0_course_12 rfl rfl (Nat.le_of_ble_eq_true rfl) (plainFor_of_name (by decide)) (Or.inl ⟨q1094, rfl⟩) ⟨Nat.le_of_ble_eq_true rfl, Nat.le_of_ble_eq_true rfl⟩ q1093 q1091 qs17 dy_X0_readSigns.1 dy_X0_readSigns.2 (fun r u h => kX0_readSigns hex hl h) (fun r3 t4 => ?_) (fun a6 t5 => x_cif (fun fl fs hs => x_catch X ht hs rfl 76 (x_ev.take rfl (by decide) q1089 q1186) (g_lv (pc := 76) (lv' := [(0, .ref h0)]) [0] rfl (wX0_course_76 hex hl X hr ht h0 a6 t5))) (x_none))
  refine g_istore_n (pc := 15) X (lv' := [(1, .int r3), (0, .ref h0)]) dX0_course_15 rfl (by decide) rfl ?_
  refine g_aload_n (pc := 16) X 1 dX0_course_16 rfl rfl ?_
  refine cg_getA (pc := 17) X fo_X0_38 dX0_course_17 (fun v7 => ?_)
  refine g_iload_n (pc := 20) X 0 dX0_course_20 rfl rfl ?_
  refine cg_put (pc := 21) X fp_X0_150 dX0_course_21 (fun h => by cases h) rfl rfl (fun t8 => ?_)
  refine g_iconst (pc := 24) X 0 dX0_course_24 rfl ?_
  refine g_istore_n (pc := 25) X (lv' := [(2, .int 0), (1, .int r3), (0, .ref h0)]) dX0_course_25 rfl (by decide) rfl ?_
  exact g_lv (pc := 26) (lv' := [(0, .ref h0), (1, .int r3), (2, .int 0)]) [2, 1, 0] rfl (wX0_course_26 hex hl X hr ht 1000 h0 r3 0 t8)
theorem kX0_course {ex : Nat → Option Nat} {z : Nat} {h0 : Nat} {σ : Sg} {r : Int32} {u : St} (hex : ex = Γ.2.2.2.2) (hl : l.stackTraces = false) (h : fX0_course ex z h0 (σ, 0, 0) = some (r, u)) : g_CT Γ l yX0_course cX0_course 4 (some .int) [(0, 69, 76, 327), (0, 69, 92, 0), (76, 85, 92, 0)] 6 137 [.ref h0] σ z v_i r (g_ι z u) := by
  exact g_metT (ι := g_ι z) (t := (σ, 0, 0)) [.ref h0] (Nat.le_of_ble_eq_true rfl) h rfl (fun p e s m args below meth c X hr hn ht => wX0_course hex hl X hr ht h0 (σ, 0, 0))
end CP
abbrev cX0_skies : ByteArray := prog_1_method_62_code
def yX0_skies : MethodName := ⟨RX0, "skies", "()I"⟩
def dkwX0_skies_3 : List UInt8 := [181, 1, 56, 45, 191]
abbrev dktX0_skies_3 : List UInt8 := dkwX0_skies_3 ++ []
def dkwX0_skies_2 : List UInt8 := [181, 1, 56, 28, 172, 76, 16, 236, 43, 180, 1, 100, 100, 61, 42, 3, 181, 1, 56, 28, 172, 78, 42, 3]
abbrev dktX0_skies_2 : List UInt8 := dkwX0_skies_2 ++ dktX0_skies_3
def dkwX0_skies_1 : List UInt8 := [180, 0, 38, 180, 0, 144, 3, 27, 184, 1, 104, 42, 180, 0, 38, 27, 181, 0, 147, 27, 61, 42, 3]
abbrev dktX0_skies_1 : List UInt8 := dkwX0_skies_1 ++ dktX0_skies_2
def dkwX0_skies_0 : List UInt8 := [42, 3, 181, 1, 62, 42, 19, 1, 102, 4, 16, 12, 182, 1, 96, 60, 42, 180, 1, 84, 3, 42]
abbrev dktX0_skies_0 : List UInt8 := dkwX0_skies_0 ++ dktX0_skies_1
theorem dksX0_skies_0 : cX0_skies.data.toList.drop 0 = dktX0_skies_0 := by decide +kernel
theorem dksX0_skies_1 : cX0_skies.data.toList.drop 22 = dktX0_skies_1 := dk_seg dksX0_skies_0 22 rfl rfl
theorem dksX0_skies_2 : cX0_skies.data.toList.drop 45 = dktX0_skies_2 := dk_seg dksX0_skies_1 23 rfl rfl
theorem dksX0_skies_3 : cX0_skies.data.toList.drop 69 = dktX0_skies_3 := dk_seg dksX0_skies_2 24 rfl rfl
theorem dX0_skies_0 : decode cX0_skies 0 = .ok (.aload_n 0, 1) := dk_42 (dk_at dksX0_skies_0 0 rfl rfl)
theorem dX0_skies_1 : decode cX0_skies 1 = .ok (.iconst 0, 1) := dk_3 (dk_at dksX0_skies_0 1 rfl rfl)
theorem dX0_skies_2 : decode cX0_skies 2 = .ok (.putfield 318, 3) := dk_181 1 62 (dk_at dksX0_skies_0 2 rfl rfl)
theorem dX0_skies_5 : decode cX0_skies 5 = .ok (.aload_n 0, 1) := dk_42 (dk_at dksX0_skies_0 5 rfl rfl)
theorem dX0_skies_6 : decode cX0_skies 6 = .ok (.ldc_w 358, 3) := dk_19 1 102 (dk_at dksX0_skies_0 6 rfl rfl)
theorem dX0_skies_9 : decode cX0_skies 9 = .ok (.iconst 1, 1) := dk_4 (dk_at dksX0_skies_0 9 rfl rfl)
theorem dX0_skies_10 : decode cX0_skies 10 = .ok (.bipush 12, 2) := dk_16 12 (dk_at dksX0_skies_0 10 rfl rfl)
theorem dX0_skies_12 : decode cX0_skies 12 = .ok (.invokevirtual 352, 3) := dk_182 1 96 (dk_at dksX0_skies_0 12 rfl rfl)
theorem dX0_skies_15 : decode cX0_skies 15 = .ok (.istore_n 1, 1) := dk_60 (dk_at dksX0_skies_0 15 rfl rfl)
theorem dX0_skies_16 : decode cX0_skies 16 = .ok (.aload_n 0, 1) := dk_42 (dk_at dksX0_skies_0 16 rfl rfl)
theorem dX0_skies_17 : decode cX0_skies 17 = .ok (.getfield 340, 3) := dk_180 1 84 (dk_at dksX0_skies_0 17 rfl rfl)
theorem dX0_skies_20 : decode cX0_skies 20 = .ok (.iconst 0, 1) := dk_3 (dk_at dksX0_skies_0 20 rfl rfl)
theorem dX0_skies_21 : decode cX0_skies 21 = .ok (.aload_n 0, 1) := dk_42 (dk_at dksX0_skies_0 21 rfl rfl)
theorem dX0_skies_22 : decode cX0_skies 22 = .ok (.getfield 38, 3) := dk_180 0 38 (dk_at dksX0_skies_1 0 rfl rfl)
theorem dX0_skies_25 : decode cX0_skies 25 = .ok (.getfield 144, 3) := dk_180 0 144 (dk_at dksX0_skies_1 3 rfl rfl)
theorem dX0_skies_28 : decode cX0_skies 28 = .ok (.iconst 0, 1) := dk_3 (dk_at dksX0_skies_1 6 rfl rfl)
theorem dX0_skies_29 : decode cX0_skies 29 = .ok (.iload_n 1, 1) := dk_27 (dk_at dksX0_skies_1 7 rfl rfl)
theorem dX0_skies_30 : decode cX0_skies 30 = .ok (.invokestatic 360, 3) := dk_184 1 104 (dk_at dksX0_skies_1 8 rfl rfl)
theorem dX0_skies_33 : decode cX0_skies 33 = .ok (.aload_n 0, 1) := dk_42 (dk_at dksX0_skies_1 11 rfl rfl)
theorem dX0_skies_34 : decode cX0_skies 34 = .ok (.getfield 38, 3) := dk_180 0 38 (dk_at dksX0_skies_1 12 rfl rfl)
theorem dX0_skies_37 : decode cX0_skies 37 = .ok (.iload_n 1, 1) := dk_27 (dk_at dksX0_skies_1 15 rfl rfl)
theorem dX0_skies_38 : decode cX0_skies 38 = .ok (.putfield 147, 3) := dk_181 0 147 (dk_at dksX0_skies_1 16 rfl rfl)
theorem dX0_skies_41 : decode cX0_skies 41 = .ok (.iload_n 1, 1) := dk_27 (dk_at dksX0_skies_1 19 rfl rfl)
theorem dX0_skies_42 : decode cX0_skies 42 = .ok (.istore_n 2, 1) := dk_61 (dk_at dksX0_skies_1 20 rfl rfl)
theorem dX0_skies_43 : decode cX0_skies 43 = .ok (.aload_n 0, 1) := dk_42 (dk_at dksX0_skies_1 21 rfl rfl)
theorem dX0_skies_44 : decode cX0_skies 44 = .ok (.iconst 0, 1) := dk_3 (dk_at dksX0_skies_1 22 rfl rfl)
theorem dX0_skies_45 : decode cX0_skies 45 = .ok (.putfield 312, 3) := dk_181 1 56 (dk_at dksX0_skies_2 0 rfl rfl)
theorem dX0_skies_48 : decode cX0_skies 48 = .ok (.iload_n 2, 1) := dk_28 (dk_at dksX0_skies_2 3 rfl rfl)
theorem dX0_skies_49 : decode cX0_skies 49 = .ok (.ireturn, 1) := dk_172 (dk_at dksX0_skies_2 4 rfl rfl)
theorem dX0_skies_50 : decode cX0_skies 50 = .ok (.astore_n 1, 1) := dk_76 (dk_at dksX0_skies_2 5 rfl rfl)
theorem dX0_skies_51 : decode cX0_skies 51 = .ok (.bipush (-20), 2) := dk_16 236 (dk_at dksX0_skies_2 6 rfl rfl)
theorem dX0_skies_53 : decode cX0_skies 53 = .ok (.aload_n 1, 1) := dk_43 (dk_at dksX0_skies_2 8 rfl rfl)
theorem dX0_skies_54 : decode cX0_skies 54 = .ok (.getfield 356, 3) := dk_180 1 100 (dk_at dksX0_skies_2 9 rfl rfl)
theorem dX0_skies_57 : decode cX0_skies 57 = .ok (.isub, 1) := dk_100 (dk_at dksX0_skies_2 12 rfl rfl)
theorem dX0_skies_58 : decode cX0_skies 58 = .ok (.istore_n 2, 1) := dk_61 (dk_at dksX0_skies_2 13 rfl rfl)
theorem dX0_skies_59 : decode cX0_skies 59 = .ok (.aload_n 0, 1) := dk_42 (dk_at dksX0_skies_2 14 rfl rfl)
theorem dX0_skies_60 : decode cX0_skies 60 = .ok (.iconst 0, 1) := dk_3 (dk_at dksX0_skies_2 15 rfl rfl)
theorem dX0_skies_61 : decode cX0_skies 61 = .ok (.putfield 312, 3) := dk_181 1 56 (dk_at dksX0_skies_2 16 rfl rfl)
theorem dX0_skies_64 : decode cX0_skies 64 = .ok (.iload_n 2, 1) := dk_28 (dk_at dksX0_skies_2 19 rfl rfl)
theorem dX0_skies_65 : decode cX0_skies 65 = .ok (.ireturn, 1) := dk_172 (dk_at dksX0_skies_2 20 rfl rfl)
theorem dX0_skies_66 : decode cX0_skies 66 = .ok (.astore_n 3, 1) := dk_78 (dk_at dksX0_skies_2 21 rfl rfl)
theorem dX0_skies_67 : decode cX0_skies 67 = .ok (.aload_n 0, 1) := dk_42 (dk_at dksX0_skies_2 22 rfl rfl)
theorem dX0_skies_68 : decode cX0_skies 68 = .ok (.iconst 0, 1) := dk_3 (dk_at dksX0_skies_2 23 rfl rfl)
theorem dX0_skies_69 : decode cX0_skies 69 = .ok (.putfield 312, 3) := dk_181 1 56 (dk_at dksX0_skies_3 0 rfl rfl)
theorem dX0_skies_72 : decode cX0_skies 72 = .ok (.aload_n 3, 1) := dk_45 (dk_at dksX0_skies_3 3 rfl rfl)
theorem dX0_skies_73 : decode cX0_skies 73 = .ok (.athrow, 1) := dk_191 (dk_at dksX0_skies_3 4 rfl rfl)
theorem fp_X0_147 : g_fp RX0 147 [1] 5 .int false := ⟨_, _, _, Or.inr ⟨rfl, _, q1571⟩, by decide +kernel, fun ci h => by
  simp only [List.mem_cons, List.not_mem_nil, or_false] at h; rcases h with rfl
  · exact ⟨_, _, _, tyX1, rfl, by decide, rfl, rfl, Or.inl rfl, in_X1, rfl, (fun h => by cases h), tyX1_ok, (by decide +kernel)⟩⟩
section CP
variable {Γ : Gc} {p : Program} {l : Launch} {e : Env} {s : State} {m : MethodId} {args : Array Value} {below : List Frame} {meth : Method} {c : Code} {ex : Nat → Option Nat} {z : Nat} {tF : St}
noncomputable def fX0_skies_50 (ex : Nat → Option Nat) (z : Nat) (h0 : Nat) (s0 : Nat) (t : St) : Option (Int32 × St) := cgI [10] 6 t s0 fun v1 => lt ((-20) - v1) fun y2 => cput [0] 7 t h0 (.int 0) fun t3 => some (y2, t3)
set_option maxHeartbeats 4000000 in
theorem wX0_skies_50 {rF : Int32} (hex : ex = Γ.2.2.2.2) (hl : l.stackTraces = false) (X : g_X Γ p s m args meth c cX0_skies 4 RX0) (hr : meth.sig.returnType = (some .int)) (ht : g_T meth [(0, 43, 50, 327), (0, 43, 66, 0), (50, 59, 66, 0)]) (h0 : Nat) (s0 : Nat) (t : St) : Wf Γ p l e 6 137 s m args below meth c 4 (g_ι z) v_i rF tF 50 [(0, .ref h0)] [.ref s0] t (fX0_skies_50 ex z h0 s0 t) := by
  unfold fX0_skies_50
  refine g_astore_n (pc := 50) X (lv' := [(1, .ref s0), (0, .ref h0)]) dX0_skies_50 rfl (by decide) rfl ?_
  refine g_bipush (pc := 51) X (-20) dX0_skies_51 rfl ?_
  refine g_aload_n (pc := 53) X 0 dX0_skies_53 rfl rfl ?_
  refine cg_getI (pc := 54) X fo_X0_356 dX0_skies_54 (fun v1 => ?_)
  refine g_isub (pc := 57) X dX0_skies_57 ?_
  refine g_lti (pc := 58) (fun y2 => ?_)
  refine g_istore_n (pc := 58) X (lv' := [(2, .int y2), (1, .ref s0), (0, .ref h0)]) dX0_skies_58 rfl (by decide) rfl ?_
  refine g_aload_n (pc := 59) X 2 dX0_skies_59 rfl rfl ?_
  refine g_iconst (pc := 60) X 0 dX0_skies_60 rfl ?_
  refine cg_put (pc := 61) X fp_X0_312 dX0_skies_61 (fun h => by cases h) rfl rfl (fun t3 => ?_)
  refine g_iload_n (pc := 64) X 0 dX0_skies_64 rfl rfl ?_
  exact g_iret (pc := 65) X hr dX0_skies_65
noncomputable def fX0_skies (ex : Nat → Option Nat) (z : Nat) (h0 : Nat) (t : St) : Option (Int32 × St) := cput [0] 8 t h0 (.int 0) fun t1 => cex (ex 2) fun a2 => ccast [0] t1 h0 (gbT (fX0_readSigns ex (z + t1.2.1) h0 a2 1 12 (t1.1, 0, 0)) t1 (fun r3 t4 => cgA [0] 9 t4 h0 fun v7 => cgA [0] 0 t4 h0 fun v8 => cgA [1] 4 t4 v8 fun v9 => ccopyI 0 .byte t4 v7 0 v9 0 r3 fun t10 => cgA [0] 0 t10 h0 fun v11 => cput [1] 5 t10 v11 (.int r3) fun t12 => cput [0] 7 t12 h0 (.int 0) fun t13 => some (r3, t13)) (fun a6 t5 => cif t5 a6 10 (fX0_skies_50 ex z h0 a6 t5) (none)))
set_option maxHeartbeats 4000000 in
theorem wX0_skies {rF : Int32} (hex : ex = Γ.2.2.2.2) (hl : l.stackTraces = false) (X : g_X Γ p s m args meth c cX0_skies 4 RX0) (hr : meth.sig.returnType = (some .int)) (ht : g_T meth [(0, 43, 50, 327), (0, 43, 66, 0), (50, 59, 66, 0)]) (h0 : Nat) (t : St) : Wf Γ p l e 6 137 s m args below meth c 4 (g_ι z) v_i rF tF 0 [(0, .ref h0)] [] t (fX0_skies ex z h0 t) := by
  unfold fX0_skies
  refine g_aload_n (pc := 0) X 0 dX0_skies_0 rfl rfl ?_
  refine g_iconst (pc := 1) X 0 dX0_skies_1 rfl ?_
  refine cg_put (pc := 2) X fp_X0_318 dX0_skies_2 (fun h => by cases h) rfl rfl (fun t1 => ?_)
  refine g_aload_n (pc := 5) X 0 dX0_skies_5 rfl rfl ?_
  refine cx_ldcS (pc := 6) X hex 2 rfl q1216 dX0_skies_6 (fun a2 => ?_)
  refine g_iconst (pc := 9) X 1 dX0_skies_9 rfl ?_
  refine g_bipush (pc := 10) X 12 dX0_skies_10 rfl ?_
  refine t_bV_i (pc := 12) X (ci := 0) (C := RX0) (b := h0) (y := yX0_readSigns) (As := [.ref a2, .int 1, .int 12]) (rest := []) (n := 3) (fr' := 5) (lo' := 113) ⟨_, _, rfl⟩ dX0_skies_12 rfl rfl (Nat.le_of_ble_eq_true rfl) (plainFor_of_name (by decide)) (Or.inl ⟨q1094, rfl⟩) ⟨Nat.le_of_ble_eq_true rfl, Nat.le_of_ble_eq_true rfl⟩ q1093 q1091 qs17 dy_X0_readSigns.1 dy_X0_readSigns.2 (fun r u h => kX0_readSigns hex hl h) (fun r3 t4 => ?_) (fun a6 t5 => x_cif (fun fl fs hs => x_catch X ht hs rfl 50 (x_ev.take rfl (by decide) q1089 q1186) (g_lv (pc := 50) (lv' := [(0, .ref h0)]) [0] rfl (wX0_skies_50 hex hl X hr ht h0 a6 t5))) (x_none))
  refine g_istore_n (pc := 15) X (lv' := [(1, .int r3), (0, .ref h0)]) dX0_skies_15 rfl (by decide) rfl ?_
  refine g_aload_n (pc := 16) X 1 dX0_skies_16 rfl rfl ?_
  refine cg_getA (pc := 17) X fo_X0_340 dX0_skies_17 (fun v7 => ?_)
  refine g_iconst (pc := 20) X 0 dX0_skies_20 rfl ?_
  refine g_aload_n (pc := 21) X 1 dX0_skies_21 rfl rfl ?_
  refine cg_getA (pc := 22) X fo_X0_38 dX0_skies_22 (fun v8 => ?_)
  refine cg_getA (pc := 25) X fo_X0_144 dX0_skies_25 (fun v9 => ?_)
  refine g_iconst (pc := 28) X 0 dX0_skies_28 rfl ?_
  refine g_iload_n (pc := 29) X 0 dX0_skies_29 rfl rfl ?_
  refine cg_copyI (pc := 30) X (j := 0) .byte rfl rfl dX0_skies_30 q1217 q328 q327 q86 (Nat.le_of_ble_eq_true rfl) (Nat.le_of_ble_eq_true rfl) (fun t10 => ?_)
  refine g_aload_n (pc := 33) X 1 dX0_skies_33 rfl rfl ?_
  refine cg_getA (pc := 34) X fo_X0_38 dX0_skies_34 (fun v11 => ?_)
  refine g_iload_n (pc := 37) X 0 dX0_skies_37 rfl rfl ?_
  refine cg_put (pc := 38) X fp_X0_147 dX0_skies_38 (fun h => by cases h) rfl rfl (fun t12 => ?_)
  refine g_iload_n (pc := 41) X 0 dX0_skies_41 rfl rfl ?_
  refine g_istore_n (pc := 42) X (lv' := [(2, .int r3), (1, .int r3), (0, .ref h0)]) dX0_skies_42 rfl (by decide) rfl ?_
  refine g_aload_n (pc := 43) X 2 dX0_skies_43 rfl rfl ?_
  refine g_iconst (pc := 44) X 0 dX0_skies_44 rfl ?_
  refine cg_put (pc := 45) X fp_X0_312 dX0_skies_45 (fun h => by cases h) rfl rfl (fun t13 => ?_)
  refine g_iload_n (pc := 48) X 0 dX0_skies_48 rfl rfl ?_
  exact g_iret (pc := 49) X hr dX0_skies_49
theorem kX0_skies {ex : Nat → Option Nat} {z : Nat} {h0 : Nat} {σ : Sg} {r : Int32} {u : St} (hex : ex = Γ.2.2.2.2) (hl : l.stackTraces = false) (h : fX0_skies ex z h0 (σ, 0, 0) = some (r, u)) : g_CT Γ l yX0_skies cX0_skies 4 (some .int) [(0, 43, 50, 327), (0, 43, 66, 0), (50, 59, 66, 0)] 6 137 [.ref h0] σ z v_i r (g_ι z u) := by
  exact g_metT (ι := g_ι z) (t := (σ, 0, 0)) [.ref h0] (Nat.le_of_ble_eq_true rfl) h rfl (fun p e s m args below meth c X hr hn ht => wX0_skies hex hl X hr ht h0 (σ, 0, 0))
end CP
