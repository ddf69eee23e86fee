/-! the component, its methods: X0_street, X0_day, X0_sheet, X0_item (printed by gen/cmain.py) -/
set_option maxRecDepth 100000
theorem q1221 : (Jvm.Cond.codeWith ({ cls := "LameClocks", name := "street", desc := "()I" } : Jvm.MethodName) prog_1_method_64_code (4 : Nat) (Option.some Jvm.ClassFile.FieldType.int) [((0 : Nat), (134 : Nat), (141 : Nat), (327 : Nat)), ((0 : Nat), (134 : Nat), (157 : Nat), (0 : Nat)), ((141 : Nat), (150 : Nat), (157 : Nat), (0 : Nat))]) ∈ lw_all := lw_g (lw_at lw_m5 192 rfl) rfl
theorem q1222 : (Jvm.Cond.methodLink "LameClocks" (374 : Nat) ({ cls := "LameClocks", name := "readClock", desc := "()LLameClocks$Plain;" } : Jvm.MethodName)) ∈ lw_all := lw_g (lw_at lw_m5 193 rfl) rfl
theorem q1224 : (Jvm.Cond.instanceMethod ({ cls := "LameClocks", name := "readClock", desc := "()LLameClocks$Plain;" } : Jvm.MethodName)) ∈ lw_all := lw_g (lw_at lw_m5 195 rfl) rfl
theorem q1240 : (Jvm.Cond.codeWith ({ cls := "LameClocks", name := "day", desc := "()I" } : Jvm.MethodName) prog_1_method_66_code (4 : Nat) (Option.some Jvm.ClassFile.FieldType.int) [((0 : Nat), (77 : Nat), (84 : Nat), (327 : Nat)), ((0 : Nat), (77 : Nat), (100 : Nat), (0 : Nat)), ((84 : Nat), (93 : Nat), (100 : Nat), (0 : Nat))]) ∈ lw_all := lw_g (lw_at lw_m5 211 rfl) rfl
theorem q1241 : (Jvm.Cond.methodLink "LameClocks" (403 : Nat) ({ cls := "LameClocks", name := "readAct", desc := "()LLameClocks$Act;" } : Jvm.MethodName)) ∈ lw_all := lw_g (lw_at lw_m5 212 rfl) rfl
theorem q1243 : (Jvm.Cond.instanceMethod ({ cls := "LameClocks", name := "readAct", desc := "()LLameClocks$Act;" } : Jvm.MethodName)) ∈ lw_all := lw_g (lw_at lw_m5 214 rfl) rfl
theorem q1308 : (Jvm.Cond.classLink "LameClocks" (407 : Nat) "LameClocks$Act") ∈ lw_all := lw_g (lw_at lw_m6 39 rfl) rfl
theorem q1310 : (Jvm.Cond.methodLink "LameClocks" (409 : Nat) ({ cls := "LameClocks$Act", name := "does", desc := "()I" } : Jvm.MethodName)) ∈ lw_all := lw_g (lw_at lw_m6 41 rfl) rfl
theorem q1311 : (Jvm.Cond.interfaceMethod "LameClocks$Act" "LameClocks$Act" "does" "()I") ∈ lw_tbl := lw_at lw_m6 42 rfl
theorem q1312 : (Jvm.Cond.declares ({ cls := "LameClocks$Act", name := "does", desc := "()I" } : Jvm.MethodName)) ∈ lw_tbl := lw_at lw_m6 43 rfl
theorem q1313 : (Jvm.Cond.castable "LameClocks$Breathing" "LameClocks$Act") ∈ lw_tbl := lw_at lw_m6 44 rfl
theorem q1314 : (Jvm.Cond.selects "LameClocks$Breathing" ({ cls := "LameClocks$Act", name := "does", desc := "()I" } : Jvm.MethodName) ({ cls := "LameClocks$Breathing", name := "does", desc := "()I" } : Jvm.MethodName)) ∈ lw_all := lw_g (lw_at lw_m6 45 rfl) rfl
theorem q1315 : (Jvm.Cond.unhidden "LameClocks$Breathing" "does" "()I") ∈ lw_tbl := lw_at lw_m6 46 rfl
theorem q1316 : (Jvm.Cond.instanceMethod ({ cls := "LameClocks$Breathing", name := "does", desc := "()I" } : Jvm.MethodName)) ∈ lw_all := lw_g (lw_at lw_m6 47 rfl) rfl
theorem q1317 : (Jvm.Cond.publicMethod ({ cls := "LameClocks$Breathing", name := "does", desc := "()I" } : Jvm.MethodName)) ∈ lw_tbl := lw_at lw_m6 48 rfl
theorem q1320 : (Jvm.Cond.castable "LameClocks$Passing" "LameClocks$Act") ∈ lw_tbl := lw_at lw_m6 51 rfl
theorem q1321 : (Jvm.Cond.selects "LameClocks$Passing" ({ cls := "LameClocks$Act", name := "does", desc := "()I" } : Jvm.MethodName) ({ cls := "LameClocks$Passing", name := "does", desc := "()I" } : Jvm.MethodName)) ∈ lw_all := lw_g (lw_at lw_m6 52 rfl) rfl
theorem q1322 : (Jvm.Cond.unhidden "LameClocks$Passing" "does" "()I") ∈ lw_tbl := lw_at lw_m6 53 rfl
theorem q1323 : (Jvm.Cond.instanceMethod ({ cls := "LameClocks$Passing", name := "does", desc := "()I" } : Jvm.MethodName)) ∈ lw_all := lw_g (lw_at lw_m6 54 rfl) rfl
theorem q1324 : (Jvm.Cond.publicMethod ({ cls := "LameClocks$Passing", name := "does", desc := "()I" } : Jvm.MethodName)) ∈ lw_tbl := lw_at lw_m6 55 rfl
theorem q1327 : (Jvm.Cond.castable "LameClocks$Turning" "LameClocks$Act") ∈ lw_tbl := lw_at lw_m6 58 rfl
theorem q1328 : (Jvm.Cond.selects "LameClocks$Turning" ({ cls := "LameClocks$Act", name := "does", desc := "()I" } : Jvm.MethodName) ({ cls := "LameClocks$Turning", name := "does", desc := "()I" } : Jvm.MethodName)) ∈ lw_all := lw_g (lw_at lw_m6 59 rfl) rfl
theorem q1329 : (Jvm.Cond.unhidden "LameClocks$Turning" "does" "()I") ∈ lw_tbl := lw_at lw_m6 60 rfl
theorem q1330 : (Jvm.Cond.instanceMethod ({ cls := "LameClocks$Turning", name := "does", desc := "()I" } : Jvm.MethodName)) ∈ lw_all := lw_g (lw_at lw_m6 61 rfl) rfl
theorem q1331 : (Jvm.Cond.publicMethod ({ cls := "LameClocks$Turning", name := "does", desc := "()I" } : Jvm.MethodName)) ∈ lw_tbl := lw_at lw_m6 62 rfl
theorem q1334 : (Jvm.Cond.castable "LameClocks$Winding" "LameClocks$Act") ∈ lw_tbl := lw_at lw_m6 65 rfl
theorem q1335 : (Jvm.Cond.selects "LameClocks$Winding" ({ cls := "LameClocks$Act", name := "does", desc := "()I" } : Jvm.MethodName) ({ cls := "LameClocks$Winding", name := "does", desc := "()I" } : Jvm.MethodName)) ∈ lw_all := lw_g (lw_at lw_m6 66 rfl) rfl
theorem q1336 : (Jvm.Cond.unhidden "LameClocks$Winding" "does" "()I") ∈ lw_tbl := lw_at lw_m6 67 rfl
theorem q1337 : (Jvm.Cond.instanceMethod ({ cls := "LameClocks$Winding", name := "does", desc := "()I" } : Jvm.MethodName)) ∈ lw_all := lw_g (lw_at lw_m6 68 rfl) rfl
theorem q1338 : (Jvm.Cond.publicMethod ({ cls := "LameClocks$Winding", name := "does", desc := "()I" } : Jvm.MethodName)) ∈ lw_tbl := lw_at lw_m6 69 rfl
theorem q1366 : (Jvm.Cond.codeWith ({ cls := "LameClocks", name := "sheet", desc := "(III)I" } : Jvm.MethodName) prog_1_method_75_code (5 : Nat) (Option.some Jvm.ClassFile.FieldType.int) [((22 : Nat), (37 : Nat), (38 : Nat), (461 : Nat))]) ∈ lw_all := lw_g (lw_at lw_m6 97 rfl) rfl
theorem q1367 : (Jvm.Cond.classLink "LameClocks" (461 : Nat) "java/lang/NegativeArraySizeException") ∈ lw_all := lw_g (lw_at lw_m6 98 rfl) rfl
theorem q1388 : (Jvm.Cond.methodLink "LameClocks" (451 : Nat) ({ cls := "LameClocks", name := "laid", desc := "(II)Ljava/lang/Object;" } : Jvm.MethodName)) ∈ lw_all := lw_g (lw_at lw_m6 119 rfl) rfl
theorem q1389 : (Jvm.Cond.static ({ cls := "LameClocks", name := "laid", desc := "(II)Ljava/lang/Object;" } : Jvm.MethodName)) ∈ lw_all := lw_g (lw_at lw_m6 120 rfl) rfl
theorem q1411 : (Jvm.Cond.codeWith ({ cls := "LameClocks", name := "item", desc := "(IIIJ)I" } : Jvm.MethodName) prog_1_method_78_code (7 : Nat) (Option.some Jvm.ClassFile.FieldType.int) [((16 : Nat), (33 : Nat), (34 : Nat), (475 : Nat)), ((16 : Nat), (33 : Nat), (39 : Nat), (477 : Nat)), ((16 : Nat), (33 : Nat), (44 : Nat), (479 : Nat))]) ∈ lw_all := lw_g (lw_at lw_m6 142 rfl) rfl
abbrev cX0_street : ByteArray := prog_1_method_64_code
def yX0_street : MethodName := ⟨RX0, "street", "()I"⟩
def dkwX0_street_7 : List UInt8 := [191]
abbrev dktX0_street_7 : List UInt8 := dkwX0_street_7 ++ []
def dkwX0_street_6 : List UInt8 := [172, 76, 16, 236, 43, 180, 1, 100, 100, 61, 42, 3, 181, 1, 56, 28, 172, 78, 42, 3, 181, 1, 56, 45]
abbrev dktX0_street_6 : List UInt8 := dkwX0_street_6 ++ dktX0_street_7
def dkwX0_street_5 : List UInt8 := [182, 0, 104, 42, 180, 0, 101, 182, 0, 104, 42, 180, 0, 38, 182, 0, 42, 60, 42, 3, 181, 1, 56, 27]
abbrev dktX0_street_5 : List UInt8 := dkwX0_street_5 ++ dktX0_street_6
def dkwX0_street_4 : List UInt8 := [167, 255, 224, 42, 180, 0, 38, 3, 181, 0, 86, 42, 180, 0, 38, 3, 181, 0, 159, 42, 180, 0, 89]
abbrev dktX0_street_4 : List UInt8 := dkwX0_street_4 ++ dktX0_street_5
def dkwX0_street_3 : List UInt8 := [162, 0, 27, 42, 180, 0, 38, 42, 180, 1, 115, 27, 182, 0, 93, 192, 0, 1, 182, 0, 72, 132, 1, 1]
abbrev dktX0_street_3 : List UInt8 := dkwX0_street_3 ++ dktX0_street_4
def dkwX0_street_2 : List UInt8 := [182, 1, 91, 42, 180, 0, 38, 180, 0, 76, 182, 0, 104, 3, 60, 27, 42, 180, 1, 115, 182, 0, 92]
abbrev dktX0_street_2 : List UInt8 := dkwX0_street_2 ++ dktX0_street_3
def dkwX0_street_1 : List UInt8 := [42, 180, 1, 115, 182, 0, 92, 16, 9, 162, 0, 12, 42, 16, 44, 182, 1, 68, 154, 255, 226, 42]
abbrev dktX0_street_1 : List UInt8 := dkwX0_street_1 ++ dktX0_street_2
def dkwX0_street_0 : List UInt8 := [42, 3, 181, 1, 62, 42, 180, 1, 115, 182, 0, 104, 42, 180, 1, 115, 42, 182, 1, 118, 182, 1, 32, 87]
abbrev dktX0_street_0 : List UInt8 := dkwX0_street_0 ++ dktX0_street_1
theorem dksX0_street_0 : cX0_street.data.toList.drop 0 = dktX0_street_0 := by decide +kernel
theorem dksX0_street_1 : cX0_street.data.toList.drop 24 = dktX0_street_1 := dk_seg dksX0_street_0 24 rfl rfl
theorem dksX0_street_2 : cX0_street.data.toList.drop 46 = dktX0_street_2 := dk_seg dksX0_street_1 22 rfl rfl
theorem dksX0_street_3 : cX0_street.data.toList.drop 69 = dktX0_street_3 := dk_seg dksX0_street_2 23 rfl rfl
theorem dksX0_street_4 : cX0_street.data.toList.drop 93 = dktX0_street_4 := dk_seg dksX0_street_3 24 rfl rfl
theorem dksX0_street_5 : cX0_street.data.toList.drop 116 = dktX0_street_5 := dk_seg dksX0_street_4 23 rfl rfl
theorem dksX0_street_6 : cX0_street.data.toList.drop 140 = dktX0_street_6 := dk_seg dksX0_street_5 24 rfl rfl
theorem dksX0_street_7 : cX0_street.data.toList.drop 164 = dktX0_street_7 := dk_seg dksX0_street_6 24 rfl rfl
theorem dX0_street_0 : decode cX0_street 0 = .ok (.aload_n 0, 1) := dk_42 (dk_at dksX0_street_0 0 rfl rfl)
theorem dX0_street_1 : decode cX0_street 1 = .ok (.iconst 0, 1) := dk_3 (dk_at dksX0_street_0 1 rfl rfl)
theorem dX0_street_2 : decode cX0_street 2 = .ok (.putfield 318, 3) := dk_181 1 62 (dk_at dksX0_street_0 2 rfl rfl)
theorem dX0_street_5 : decode cX0_street 5 = .ok (.aload_n 0, 1) := dk_42 (dk_at dksX0_street_0 5 rfl rfl)
theorem dX0_street_6 : decode cX0_street 6 = .ok (.getfield 371, 3) := dk_180 1 115 (dk_at dksX0_street_0 6 rfl rfl)
theorem dX0_street_9 : decode cX0_street 9 = .ok (.invokevirtual 104, 3) := dk_182 0 104 (dk_at dksX0_street_0 9 rfl rfl)
theorem dX0_street_12 : decode cX0_street 12 = .ok (.aload_n 0, 1) := dk_42 (dk_at dksX0_street_0 12 rfl rfl)
theorem dX0_street_13 : decode cX0_street 13 = .ok (.getfield 371, 3) := dk_180 1 115 (dk_at dksX0_street_0 13 rfl rfl)
theorem dX0_street_16 : decode cX0_street 16 = .ok (.aload_n 0, 1) := dk_42 (dk_at dksX0_street_0 16 rfl rfl)
theorem dX0_street_17 : decode cX0_street 17 = .ok (.invokevirtual 374, 3) := dk_182 1 118 (dk_at dksX0_street_0 17 rfl rfl)
theorem dX0_street_20 : decode cX0_street 20 = .ok (.invokevirtual 288, 3) := dk_182 1 32 (dk_at dksX0_street_0 20 rfl rfl)
theorem dX0_street_23 : decode cX0_street 23 = .ok (.pop, 1) := dk_87 (dk_at dksX0_street_0 23 rfl rfl)
theorem dX0_street_24 : decode cX0_street 24 = .ok (.aload_n 0, 1) := dk_42 (dk_at dksX0_street_1 0 rfl rfl)
theorem dX0_street_25 : decode cX0_street 25 = .ok (.getfield 371, 3) := dk_180 1 115 (dk_at dksX0_street_1 1 rfl rfl)
theorem dX0_street_28 : decode cX0_street 28 = .ok (.invokevirtual 92, 3) := dk_182 0 92 (dk_at dksX0_street_1 4 rfl rfl)
theorem dX0_street_31 : decode cX0_street 31 = .ok (.bipush 9, 2) := dk_16 9 (dk_at dksX0_street_1 7 rfl rfl)
theorem dX0_street_33 : decode cX0_street 33 = .ok (.if_icmp .ge 12, 3) := dk_162 0 12 (dk_at dksX0_street_1 9 rfl rfl)
theorem dX0_street_36 : decode cX0_street 36 = .ok (.aload_n 0, 1) := dk_42 (dk_at dksX0_street_1 12 rfl rfl)
theorem dX0_street_37 : decode cX0_street 37 = .ok (.bipush 44, 2) := dk_16 44 (dk_at dksX0_street_1 13 rfl rfl)
theorem dX0_street_39 : decode cX0_street 39 = .ok (.invokevirtual 324, 3) := dk_182 1 68 (dk_at dksX0_street_1 15 rfl rfl)
theorem dX0_street_42 : decode cX0_street 42 = .ok (.ifCond .ne (-30), 3) := dk_154 255 226 (dk_at dksX0_street_1 18 rfl rfl)
theorem dX0_street_45 : decode cX0_street 45 = .ok (.aload_n 0, 1) := dk_42 (dk_at dksX0_street_1 21 rfl rfl)
theorem dX0_street_46 : decode cX0_street 46 = .ok (.invokevirtual 347, 3) := dk_182 1 91 (dk_at dksX0_street_2 0 rfl rfl)
theorem dX0_street_49 : decode cX0_street 49 = .ok (.aload_n 0, 1) := dk_42 (dk_at dksX0_street_2 3 rfl rfl)
theorem dX0_street_50 : decode cX0_street 50 = .ok (.getfield 38, 3) := dk_180 0 38 (dk_at dksX0_street_2 4 rfl rfl)
theorem dX0_street_53 : decode cX0_street 53 = .ok (.getfield 76, 3) := dk_180 0 76 (dk_at dksX0_street_2 7 rfl rfl)
theorem dX0_street_56 : decode cX0_street 56 = .ok (.invokevirtual 104, 3) := dk_182 0 104 (dk_at dksX0_street_2 10 rfl rfl)
theorem dX0_street_59 : decode cX0_street 59 = .ok (.iconst 0, 1) := dk_3 (dk_at dksX0_street_2 13 rfl rfl)
theorem dX0_street_60 : decode cX0_street 60 = .ok (.istore_n 1, 1) := dk_60 (dk_at dksX0_street_2 14 rfl rfl)
theorem dX0_street_61 : decode cX0_street 61 = .ok (.iload_n 1, 1) := dk_27 (dk_at dksX0_street_2 15 rfl rfl)
theorem dX0_street_62 : decode cX0_street 62 = .ok (.aload_n 0, 1) := dk_42 (dk_at dksX0_street_2 16 rfl rfl)
theorem dX0_street_63 : decode cX0_street 63 = .ok (.getfield 371, 3) := dk_180 1 115 (dk_at dksX0_street_2 17 rfl rfl)
theorem dX0_street_66 : decode cX0_street 66 = .ok (.invokevirtual 92, 3) := dk_182 0 92 (dk_at dksX0_street_2 20 rfl rfl)
theorem dX0_street_69 : decode cX0_street 69 = .ok (.if_icmp .ge 27, 3) := dk_162 0 27 (dk_at dksX0_street_3 0 rfl rfl)
theorem dX0_street_72 : decode cX0_street 72 = .ok (.aload_n 0, 1) := dk_42 (dk_at dksX0_street_3 3 rfl rfl)
theorem dX0_street_73 : decode cX0_street 73 = .ok (.getfield 38, 3) := dk_180 0 38 (dk_at dksX0_street_3 4 rfl rfl)
theorem dX0_street_76 : decode cX0_street 76 = .ok (.aload_n 0, 1) := dk_42 (dk_at dksX0_street_3 7 rfl rfl)
theorem dX0_street_77 : decode cX0_street 77 = .ok (.getfield 371, 3) := dk_180 1 115 (dk_at dksX0_street_3 8 rfl rfl)
theorem dX0_street_80 : decode cX0_street 80 = .ok (.iload_n 1, 1) := dk_27 (dk_at dksX0_street_3 11 rfl rfl)
theorem dX0_street_81 : decode cX0_street 81 = .ok (.invokevirtual 93, 3) := dk_182 0 93 (dk_at dksX0_street_3 12 rfl rfl)
theorem dX0_street_84 : decode cX0_street 84 = .ok (.checkcast 1, 3) := dk_192 0 1 (dk_at dksX0_street_3 15 rfl rfl)
theorem dX0_street_87 : decode cX0_street 87 = .ok (.invokevirtual 72, 3) := dk_182 0 72 (dk_at dksX0_street_3 18 rfl rfl)
theorem dX0_street_90 : decode cX0_street 90 = .ok (.iinc 1 1, 3) := dk_132 1 1 (dk_at dksX0_street_3 21 rfl rfl)
theorem dX0_street_93 : decode cX0_street 93 = .ok (.goto (-32), 3) := dk_167 255 224 (dk_at dksX0_street_4 0 rfl rfl)
theorem dX0_street_96 : decode cX0_street 96 = .ok (.aload_n 0, 1) := dk_42 (dk_at dksX0_street_4 3 rfl rfl)
theorem dX0_street_97 : decode cX0_street 97 = .ok (.getfield 38, 3) := dk_180 0 38 (dk_at dksX0_street_4 4 rfl rfl)
theorem dX0_street_100 : decode cX0_street 100 = .ok (.iconst 0, 1) := dk_3 (dk_at dksX0_street_4 7 rfl rfl)
theorem dX0_street_101 : decode cX0_street 101 = .ok (.putfield 86, 3) := dk_181 0 86 (dk_at dksX0_street_4 8 rfl rfl)
theorem dX0_street_104 : decode cX0_street 104 = .ok (.aload_n 0, 1) := dk_42 (dk_at dksX0_street_4 11 rfl rfl)
theorem dX0_street_105 : decode cX0_street 105 = .ok (.getfield 38, 3) := dk_180 0 38 (dk_at dksX0_street_4 12 rfl rfl)
theorem dX0_street_108 : decode cX0_street 108 = .ok (.iconst 0, 1) := dk_3 (dk_at dksX0_street_4 15 rfl rfl)
theorem dX0_street_109 : decode cX0_street 109 = .ok (.putfield 159, 3) := dk_181 0 159 (dk_at dksX0_street_4 16 rfl rfl)
theorem dX0_street_112 : decode cX0_street 112 = .ok (.aload_n 0, 1) := dk_42 (dk_at dksX0_street_4 19 rfl rfl)
theorem dX0_street_113 : decode cX0_street 113 = .ok (.getfield 89, 3) := dk_180 0 89 (dk_at dksX0_street_4 20 rfl rfl)
theorem dX0_street_116 : decode cX0_street 116 = .ok (.invokevirtual 104, 3) := dk_182 0 104 (dk_at dksX0_street_5 0 rfl rfl)
theorem dX0_street_119 : decode cX0_street 119 = .ok (.aload_n 0, 1) := dk_42 (dk_at dksX0_street_5 3 rfl rfl)
theorem dX0_street_120 : decode cX0_street 120 = .ok (.getfield 101, 3) := dk_180 0 101 (dk_at dksX0_street_5 4 rfl rfl)
theorem dX0_street_123 : decode cX0_street 123 = .ok (.invokevirtual 104, 3) := dk_182 0 104 (dk_at dksX0_street_5 7 rfl rfl)
theorem dX0_street_126 : decode cX0_street 126 = .ok (.aload_n 0, 1) := dk_42 (dk_at dksX0_street_5 10 rfl rfl)
theorem dX0_street_127 : decode cX0_street 127 = .ok (.getfield 38, 3) := dk_180 0 38 (dk_at dksX0_street_5 11 rfl rfl)
theorem dX0_street_130 : decode cX0_street 130 = .ok (.invokevirtual 42, 3) := dk_182 0 42 (dk_at dksX0_street_5 14 rfl rfl)
theorem dX0_street_133 : decode cX0_street 133 = .ok (.istore_n 1, 1) := dk_60 (dk_at dksX0_street_5 17 rfl rfl)
theorem dX0_street_134 : decode cX0_street 134 = .ok (.aload_n 0, 1) := dk_42 (dk_at dksX0_street_5 18 rfl rfl)
theorem dX0_street_135 : decode cX0_street 135 = .ok (.iconst 0, 1) := dk_3 (dk_at dksX0_street_5 19 rfl rfl)
theorem dX0_street_136 : decode cX0_street 136 = .ok (.putfield 312, 3) := dk_181 1 56 (dk_at dksX0_street_5 20 rfl rfl)
theorem dX0_street_139 : decode cX0_street 139 = .ok (.iload_n 1, 1) := dk_27 (dk_at dksX0_street_5 23 rfl rfl)
theorem dX0_street_140 : decode cX0_street 140 = .ok (.ireturn, 1) := dk_172 (dk_at dksX0_street_6 0 rfl rfl)
theorem dX0_street_141 : decode cX0_street 141 = .ok (.astore_n 1, 1) := dk_76 (dk_at dksX0_street_6 1 rfl rfl)
theorem dX0_street_142 : decode cX0_street 142 = .ok (.bipush (-20), 2) := dk_16 236 (dk_at dksX0_street_6 2 rfl rfl)
theorem dX0_street_144 : decode cX0_street 144 = .ok (.aload_n 1, 1) := dk_43 (dk_at dksX0_street_6 4 rfl rfl)
theorem dX0_street_145 : decode cX0_street 145 = .ok (.getfield 356, 3) := dk_180 1 100 (dk_at dksX0_street_6 5 rfl rfl)
theorem dX0_street_148 : decode cX0_street 148 = .ok (.isub, 1) := dk_100 (dk_at dksX0_street_6 8 rfl rfl)
theorem dX0_street_149 : decode cX0_street 149 = .ok (.istore_n 2, 1) := dk_61 (dk_at dksX0_street_6 9 rfl rfl)
theorem dX0_street_150 : decode cX0_street 150 = .ok (.aload_n 0, 1) := dk_42 (dk_at dksX0_street_6 10 rfl rfl)
theorem dX0_street_151 : decode cX0_street 151 = .ok (.iconst 0, 1) := dk_3 (dk_at dksX0_street_6 11 rfl rfl)
theorem dX0_street_152 : decode cX0_street 152 = .ok (.putfield 312, 3) := dk_181 1 56 (dk_at dksX0_street_6 12 rfl rfl)
theorem dX0_street_155 : decode cX0_street 155 = .ok (.iload_n 2, 1) := dk_28 (dk_at dksX0_street_6 15 rfl rfl)
theorem dX0_street_156 : decode cX0_street 156 = .ok (.ireturn, 1) := dk_172 (dk_at dksX0_street_6 16 rfl rfl)
theorem dX0_street_157 : decode cX0_street 157 = .ok (.astore_n 3, 1) := dk_78 (dk_at dksX0_street_6 17 rfl rfl)
theorem dX0_street_158 : decode cX0_street 158 = .ok (.aload_n 0, 1) := dk_42 (dk_at dksX0_street_6 18 rfl rfl)
theorem dX0_street_159 : decode cX0_street 159 = .ok (.iconst 0, 1) := dk_3 (dk_at dksX0_street_6 19 rfl rfl)
theorem dX0_street_160 : decode cX0_street 160 = .ok (.putfield 312, 3) := dk_181 1 56 (dk_at dksX0_street_6 20 rfl rfl)
theorem dX0_street_163 : decode cX0_street 163 = .ok (.aload_n 3, 1) := dk_45 (dk_at dksX0_street_6 23 rfl rfl)
theorem dX0_street_164 : decode cX0_street 164 = .ok (.athrow, 1) := dk_191 (dk_at dksX0_street_7 0 rfl rfl)
theorem fo_X0_371 : g_fo RX0 371 [0] 10 := ⟨_, _, _, Or.inl q1626, fun ci h => by
  simp only [List.mem_cons, List.not_mem_nil, or_false] at h; rcases h with rfl
  · exact ⟨_, _, _, rfl, by decide, rfl, rfl, Or.inl rfl, in_X0⟩⟩
theorem dy_X0_readClock : (yX0_readClock.cls ≠ "java/lang/invoke/MethodHandle" ∧ yX0_readClock.cls ≠ "java/lang/invoke/VarHandle") ∧ (parseMethodDescriptor yX0_readClock.desc).map (fun d => d.parameters.length) = some 0 := by decide +kernel
section CP
variable {Γ : Gc} {p : Program} {l : Launch} {e : Env} {s : State} {m : MethodId} {args : Array Value} {below : List Frame} {meth : Method} {c : Code} {ex : Nat → Option Nat} {z : Nat} {tF : St}
noncomputable def fX0_street_61 (ex : Nat → Option Nat) (z : Nat) : Nat → Nat → Int32 → St → Option (Int32 × St)
  | 0, _, _, _ => none
  | n + 1, h0, x1, t => cgA [0] 10 t h0 fun v1 => ccast [15] t v1 (gb (fJ2_size ex (z + t.2.1) v1 (t.1, 0, 0)) t fun r2 t3 => if r2 ≤ x1 then cgA [0] 0 t3 h0 fun v9 => cput [1] 7 t3 v9 (.int 0) fun t10 => cgA [0] 0 t10 h0 fun v11 => cput [1] 8 t10 v11 (.int 0) fun t12 => cgA [0] 4 t12 h0 fun v13 => ccast [15] t12 v13 (gb (fJ2_clear ex (z + t12.2.1) v13 (t12.1, 0, 0)) t12 fun _ t15 => cgA [0] 2 t15 h0 fun v21 => ccast [15] t15 v21 (gb (fJ2_clear ex (z + t15.2.1) v21 (t15.1, 0, 0)) t15 fun _ t23 => cgA [0] 0 t23 h0 fun v29 => ccast [1] t23 v29 (gb (fX1_size ex (z + t23.2.1) v29 (t23.1, 0, 0)) t23 fun r30 t31 => cput [0] 7 t31 h0 (.int 0) fun t37 => some (r30, t37)))) else cgA [0] 0 t3 h0 fun v38 => cgA [0] 10 t3 h0 fun v39 => ccast [15] t3 v39 (gb (fJ2_get ex (z + t3.2.1) v39 x1 (t3.1, 0, 0)) t3 fun r40 t41 => ccast [4, 5, 6, 7, 8, 9] t41 r40 (ccast [1] t41 v38 (gb (fX1_comes ex (z + t41.2.1) v38 r40 (t41.1, 0, 0)) t41 fun _ t48 => fX0_street_61 ex z n h0 (x1 + 1) t48))))
set_option maxHeartbeats 4000000 in
theorem wX0_street_61 {rF : Int32} (hex : ex = Γ.2.2.2.2) (hl : l.stackTraces = false) (X : g_X Γ p s m args meth c cX0_street 4 RX0) (hr : meth.sig.returnType = (some .int)) (ht : g_T meth [(0, 134, 141, 327), (0, 134, 157, 0), (141, 150, 157, 0)]) (n : Nat) : ∀ (h0 : Nat) (x1 : Int32) (t : St), Wf Γ p l e 8 173 s m args below meth c 4 (g_ι z) v_i rF tF 61 [(0, .ref h0), (1, .int x1)] [] t (fX0_street_61 ex z n h0 x1 t) := by
  induction n with
  | zero => intro h0 x1 t; exact g_none
  | succ n ih =>
    intro h0 x1 t
    rw [fX0_street_61]
    refine g_iload_n (pc := 61) X 1 dX0_street_61 rfl rfl ?_
    refine g_aload_n (pc := 62) X 0 dX0_street_62 rfl rfl ?_
    refine cg_getA (pc := 63) X fo_X0_371 dX0_street_63 (fun v1 => ?_)
    refine g_bD_i (pc := 66) X (cs := [15]) (As := []) (rest := [.int x1]) (b := v1) (n := 0) dX0_street_66 rfl rfl (Nat.le_of_ble_eq_true rfl) (fun fl4 ci5 fs6 hs7 hci8 r u h => ?_) (fun r2 t3 => ?_)
    · obtain rfl := List.mem_singleton.mp hci8
      exact ⟨_, _, _, yJ2_size, _, _, _, 0, 0, rfl, kJ2_size hex h, Or.inl (cwV 0 X.2.2.2.2.1 (lw_V q350 q134 q135 q74 q136) rfl rfl rfl dmV_J2_size ⟨Nat.le_of_ble_eq_true rfl, Nat.le_of_ble_eq_true rfl⟩)⟩
    refine g_icmp_ge (pc := 69) X 96 dX0_street_69 (by decide) ?_ ?_
    · refine g_aload_n (pc := 96) X 0 dX0_street_96 rfl rfl ?_
      refine cg_getA (pc := 97) X fo_X0_38 dX0_street_97 (fun v9 => ?_)
      refine g_iconst (pc := 100) X 0 dX0_street_100 rfl ?_
      refine cg_put (pc := 101) X fp_X0_86 dX0_street_101 (fun h => by cases h) rfl rfl (fun t10 => ?_)
      refine g_aload_n (pc := 104) X 0 dX0_street_104 rfl rfl ?_
      refine cg_getA (pc := 105) X fo_X0_38 dX0_street_105 (fun v11 => ?_)
      refine g_iconst (pc := 108) X 0 dX0_street_108 rfl ?_
      refine cg_put (pc := 109) X fp_X0_159 dX0_street_109 (fun h => by cases h) rfl rfl (fun t12 => ?_)
      refine g_aload_n (pc := 112) X 0 dX0_street_112 rfl rfl ?_
      refine cg_getA (pc := 113) X fo_X0_89 dX0_street_113 (fun v13 => ?_)
      refine g_bD_v (pc := 116) X (cs := [15]) (As := []) (rest := []) (b := v13) (n := 0) dX0_street_116 rfl rfl (Nat.le_of_ble_eq_true rfl) (fun fl16 ci17 fs18 hs19 hci20 r u h => ?_) (fun r14 t15 => ?_)
      · obtain rfl := List.mem_singleton.mp hci20
        exact ⟨_, _, _, yJ2_clear, _, _, _, 0, 0, rfl, kJ2_clear hex h, Or.inl (cwV 0 X.2.2.2.2.1 (lw_V q360 q361 q362 q74 q363) rfl rfl rfl dmV_J2_clear ⟨Nat.le_of_ble_eq_true rfl, Nat.le_of_ble_eq_true rfl⟩)⟩
      refine g_aload_n (pc := 119) X 0 dX0_street_119 rfl rfl ?_
      refine cg_getA (pc := 120) X fo_X0_101 dX0_street_120 (fun v21 => ?_)
      refine g_bD_v (pc := 123) X (cs := [15]) (As := []) (rest := []) (b := v21) (n := 0) dX0_street_123 rfl rfl (Nat.le_of_ble_eq_true rfl) (fun fl24 ci25 fs26 hs27 hci28 r u h => ?_) (fun r22 t23 => ?_)
      · obtain rfl := List.mem_singleton.mp hci28
        exact ⟨_, _, _, yJ2_clear, _, _, _, 0, 0, rfl, kJ2_clear hex h, Or.inl (cwV 0 X.2.2.2.2.1 (lw_V q360 q361 q362 q74 q363) rfl rfl rfl dmV_J2_clear ⟨Nat.le_of_ble_eq_true rfl, Nat.le_of_ble_eq_true rfl⟩)⟩
      refine g_aload_n (pc := 126) X 0 dX0_street_126 rfl rfl ?_
      refine cg_getA (pc := 127) X fo_X0_38 dX0_street_127 (fun v29 => ?_)
      refine g_bD_i (pc := 130) X (cs := [1]) (As := []) (rest := []) (b := v29) (n := 0) dX0_street_130 rfl rfl (Nat.le_of_ble_eq_true rfl) (fun fl32 ci33 fs34 hs35 hci36 r u h => ?_) (fun r30 t31 => ?_)
      · obtain rfl := List.mem_singleton.mp hci36
        exact ⟨_, _, _, yX1_size, _, _, _, 1, 20, rfl, kX1_size hex h, Or.inl (cwV 0 X.2.2.2.2.1 (lw_V q129 q130 q131 q71 q132) rfl rfl rfl dmV_X1_size ⟨Nat.le_of_ble_eq_true rfl, Nat.le_of_ble_eq_true rfl⟩)⟩
      refine g_istore_n (pc := 133) X (lv' := [(1, .int r30), (0, .ref h0)]) dX0_street_133 rfl (by decide) rfl ?_
      refine g_aload_n (pc := 134) X 1 dX0_street_134 rfl rfl ?_
      refine g_iconst (pc := 135) X 0 dX0_street_135 rfl ?_
      refine cg_put (pc := 136) X fp_X0_312 dX0_street_136 (fun h => by cases h) rfl rfl (fun t37 => ?_)
      refine g_iload_n (pc := 139) X 0 dX0_street_139 rfl rfl ?_
      exact g_iret (pc := 140) X hr dX0_street_140
    · refine g_aload_n (pc := 72) X 0 dX0_street_72 rfl rfl ?_
      refine cg_getA (pc := 73) X fo_X0_38 dX0_street_73 (fun v38 => ?_)
      refine g_aload_n (pc := 76) X 0 dX0_street_76 rfl rfl ?_
      refine cg_getA (pc := 77) X fo_X0_371 dX0_street_77 (fun v39 => ?_)
      refine g_iload_n (pc := 80) X 1 dX0_street_80 rfl rfl ?_
      refine g_bD_a (pc := 81) X (cs := [15]) (As := [.int x1]) (rest := [.ref v38]) (b := v39) (n := 1) dX0_street_81 rfl rfl (Nat.le_of_ble_eq_true rfl) (fun fl42 ci43 fs44 hs45 hci46 r u h => ?_) (fun r40 t41 => ?_)
      · obtain rfl := List.mem_singleton.mp hci46
        exact ⟨_, _, _, yJ2_get, _, _, _, 2, 43, rfl, kJ2_get hex h, Or.inl (cwV 1 X.2.2.2.2.1 (lw_V q351 q352 q353 q74 q354) rfl rfl rfl dmV_J2_get ⟨Nat.le_of_ble_eq_true rfl, Nat.le_of_ble_eq_true rfl⟩)⟩
      refine cg_cast (pc := 84) X (cs := [4, 5, 6, 7, 8, 9]) q143 cf_LameClocks_Plain_6 dX0_street_84 ?_
      refine g_bD_v (pc := 87) X (cs := [1]) (As := [.ref r40]) (rest := []) (b := v38) (n := 1) dX0_street_87 rfl rfl (Nat.le_of_ble_eq_true rfl) (fun fl49 ci50 fs51 hs52 hci53 r u h => ?_) (fun r47 t48 => ?_)
      · obtain rfl := List.mem_singleton.mp hci53
        exact ⟨_, _, _, yX1_comes, _, _, _, 7, 152, rfl, kX1_comes hex h, Or.inl (cwV 1 X.2.2.2.2.1 (lw_V q250 q251 q252 q71 q253) rfl rfl rfl dmV_X1_comes ⟨Nat.le_of_ble_eq_true rfl, Nat.le_of_ble_eq_true rfl⟩)⟩
      refine g_iinc (pc := 90) X 1 1 (lv' := [(1, .int (x1 + 1)), (0, .ref h0)]) dX0_street_90 rfl rfl (by decide) rfl ?_
      refine g_goto (pc := 93) X 61 dX0_street_93 (by decide) ?_
      exact g_lv (pc := 61) (lv' := [(0, .ref h0), (1, .int (x1 + 1))]) [1, 0] rfl (ih h0 (x1 + 1) t48)
noncomputable def fX0_street_141 (ex : Nat → Option Nat) (z : Nat) (h0 : Nat) (s0 : Nat) (t : St) : Option (Int32 × St) := cgI [10] 6 t s0 fun v1 => lt ((-20) - v1) fun y2 => cput [0] 7 t h0 (.int 0) fun t3 => some (y2, t3)
set_option maxHeartbeats 4000000 in
theorem wX0_street_141 {rF : Int32} (hex : ex = Γ.2.2.2.2) (hl : l.stackTraces = false) (X : g_X Γ p s m args meth c cX0_street 4 RX0) (hr : meth.sig.returnType = (some .int)) (ht : g_T meth [(0, 134, 141, 327), (0, 134, 157, 0), (141, 150, 157, 0)]) (h0 : Nat) (s0 : Nat) (t : St) : Wf Γ p l e 8 173 s m args below meth c 4 (g_ι z) v_i rF tF 141 [(0, .ref h0)] [.ref s0] t (fX0_street_141 ex z h0 s0 t) := by
  unfold fX0_street_141
  refine g_astore_n (pc := 141) X (lv' := [(1, .ref s0), (0, .ref h0)]) dX0_street_141 rfl (by decide) rfl ?_
  refine g_bipush (pc := 142) X (-20) dX0_street_142 rfl ?_
  refine g_aload_n (pc := 144) X 0 dX0_street_144 rfl rfl ?_
  refine cg_getI (pc := 145) X fo_X0_356 dX0_street_145 (fun v1 => ?_)
  refine g_isub (pc := 148) X dX0_street_148 ?_
  refine g_lti (pc := 149) (fun y2 => ?_)
  refine g_istore_n (pc := 149) X (lv' := [(2, .int y2), (1, .ref s0), (0, .ref h0)]) dX0_street_149 rfl (by decide) rfl ?_
  refine g_aload_n (pc := 150) X 2 dX0_street_150 rfl rfl ?_
  refine g_iconst (pc := 151) X 0 dX0_street_151 rfl ?_
  refine cg_put (pc := 152) X fp_X0_312 dX0_street_152 (fun h => by cases h) rfl rfl (fun t3 => ?_)
  refine g_iload_n (pc := 155) X 0 dX0_street_155 rfl rfl ?_
  exact g_iret (pc := 156) X hr dX0_street_156
noncomputable def fX0_street_45 (ex : Nat → Option Nat) (z : Nat) (h0 : Nat) (t : St) : Option (Int32 × St) := ccast [0] t h0 (gbT (fX0_ends ex (z + t.2.1) h0 (t.1, 0, 0)) t (fun _ t2 => cgA [0] 0 t2 h0 fun v5 => cgA [1] 2 t2 v5 fun v6 => ccast [15] t2 v6 (gb (fJ2_clear ex (z + t2.2.1) v6 (t2.1, 0, 0)) t2 fun _ t8 => fX0_street_61 ex z 1000 h0 0 t8)) (fun a4 t3 => cif t3 a4 10 (fX0_street_141 ex z h0 a4 t3) (none)))
set_option maxHeartbeats 4000000 in
theorem wX0_street_45 {rF : Int32} (hex : ex = Γ.2.2.2.2) (hl : l.stackTraces = false) (X : g_X Γ p s m args meth c cX0_street 4 RX0) (hr : meth.sig.returnType = (some .int)) (ht : g_T meth [(0, 134, 141, 327), (0, 134, 157, 0), (141, 150, 157, 0)]) (h0 : Nat) (t : St) : Wf Γ p l e 8 173 s m args below meth c 4 (g_ι z) v_i rF tF 45 [(0, .ref h0)] [] t (fX0_street_45 ex z h0 t) := by
  unfold fX0_street_45
  refine g_aload_n (pc := 45) X 0 dX0_street_45 rfl rfl ?_
  refine t_bV_v (pc := 46) X (ci := 0) (C := RX0) (b := h0) (y := yX0_ends) (As := []) (rest := []) (n := 0) (fr' := 4) (lo' := 81) ⟨_, _, rfl⟩ dX0_street_46 rfl rfl (Nat.le_of_ble_eq_true rfl) (plainFor_of_name (by decide)) (Or.inl ⟨q1211, rfl⟩) ⟨Nat.le_of_ble_eq_true rfl, Nat.le_of_ble_eq_true rfl⟩ q1210 q1208 qs20 dy_X0_ends.1 dy_X0_ends.2 (fun r u h => kX0_ends hex hl h) (fun r1 t2 => ?_) (fun a4 t3 => x_cif (fun fl fs hs => x_catch X ht hs rfl 141 (x_ev.take rfl (by decide) q1089 q1186) (g_lv (pc := 141) (lv' := [(0, .ref h0)]) [0] rfl (wX0_street_141 hex hl X hr ht h0 a4 t3))) (x_none))
  refine g_aload_n (pc := 49) X 0 dX0_street_49 rfl rfl ?_
  refine cg_getA (pc := 50) X fo_X0_38 dX0_street_50 (fun v5 => ?_)
  refine cg_getA (pc := 53) X fo_X0_76 dX0_street_53 (fun v6 => ?_)
  refine g_bD_v (pc := 56) X (cs := [15]) (As := []) (rest := []) (b := v6) (n := 0) dX0_street_56 rfl rfl (Nat.le_of_ble_eq_true rfl) (fun fl9 ci10 fs11 hs12 hci13 r u h => ?_) (fun r7 t8 => ?_)
  · obtain rfl := List.mem_singleton.mp hci13
    exact ⟨_, _, _, yJ2_clear, _, _, _, 0, 0, rfl, kJ2_clear hex h, Or.inl (cwV 0 X.2.2.2.2.1 (lw_V q360 q361 q362 q74 q363) rfl rfl rfl dmV_J2_clear ⟨Nat.le_of_ble_eq_true rfl, Nat.le_of_ble_eq_true rfl⟩)⟩
  refine g_iconst (pc := 59) X 0 dX0_street_59 rfl ?_
  refine g_istore_n (pc := 60) X (lv' := [(1, .int 0), (0, .ref h0)]) dX0_street_60 rfl (by decide) rfl ?_
  exact g_lv (pc := 61) (lv' := [(0, .ref h0), (1, .int 0)]) [1, 0] rfl (wX0_street_61 hex hl X hr ht 1000 h0 0 t8)
noncomputable def fX0_street_12 (ex : Nat → Option Nat) (z : Nat) : Nat → Nat → St → Option (Int32 × St)
  | 0, _, _ => none
  | n + 1, h0, t => cgA [0] 10 t h0 fun v1 => ccast [0] t h0 (gbT (fX0_readClock ex (z + t.2.1) h0 (t.1, 0, 0)) t (fun r2 t3 => ccast [15] t3 v1 (gb (fJ2_add ex (z + t3.2.1) v1 r2 (t3.1, 0, 0)) t3 fun r6 t7 => cgA [0] 10 t7 h0 fun v13 => ccast [15] t7 v13 (gb (fJ2_size ex (z + t7.2.1) v13 (t7.1, 0, 0)) t7 fun r14 t15 => if 9 ≤ r14 then fX0_street_45 ex z h0 t15 else ccast [0] t15 h0 (gb (fX0_passes ex (z + t15.2.1) h0 44 (t15.1, 0, 0)) t15 fun r21 t22 => if r21 = 0 then fX0_street_45 ex z h0 t22 else fX0_street_12 ex z n h0 t22)))) (fun a5 t4 => cif t4 a5 10 (fX0_street_141 ex z h0 a5 t4) (none)))
set_option maxHeartbeats 4000000 in
theorem wX0_street_12 {rF : Int32} (hex : ex = Γ.2.2.2.2) (hl : l.stackTraces = false) (X : g_X Γ p s m args meth c cX0_street 4 RX0) (hr : meth.sig.returnType = (some .int)) (ht : g_T meth [(0, 134, 141, 327), (0, 134, 157, 0), (141, 150, 157, 0)]) (n : Nat) : ∀ (h0 : Nat) (t : St), Wf Γ p l e 8 173 s m args below meth c 4 (g_ι z) v_i rF tF 12 [(0, .ref h0)] [] t (fX0_street_12 ex z n h0 t) := by
  induction n with
  | zero => intro h0 t; exact g_none
  | succ n ih =>
    intro h0 t
    rw [fX0_street_12]
    refine g_aload_n (pc := 12) X 0 dX0_street_12 rfl rfl ?_
    refine cg_getA (pc := 13) X fo_X0_371 dX0_street_13 (fun v1 => ?_)
    refine g_aload_n (pc := 16) X 0 dX0_street_16 rfl rfl ?_
    refine t_bV_a (pc := 17) X (ci := 0) (C := RX0) (b := h0) (y := yX0_readClock) (As := []) (rest := [.ref v1]) (n := 0) (fr' := 6) (lo' := 116) ⟨_, _, rfl⟩ dX0_street_17 rfl rfl (Nat.le_of_ble_eq_true rfl) (plainFor_of_name (by decide)) (Or.inl ⟨q1225, rfl⟩) ⟨Nat.le_of_ble_eq_true rfl, Nat.le_of_ble_eq_true rfl⟩ q1224 q1222 qs21 dy_X0_readClock.1 dy_X0_readClock.2 (fun r u h => kX0_readClock hex hl h) (fun r2 t3 => ?_) (fun a5 t4 => x_cif (fun fl fs hs => x_catch X ht hs rfl 141 (x_ev.take rfl (by decide) q1089 q1186) (g_lv (pc := 141) (lv' := [(0, .ref h0)]) [0] rfl (wX0_street_141 hex hl X hr ht h0 a5 t4))) (x_none))
    refine g_bD_i (pc := 20) X (cs := [15]) (As := [.ref r2]) (rest := []) (b := v1) (n := 1) dX0_street_20 rfl rfl (Nat.le_of_ble_eq_true rfl) (fun fl8 ci9 fs10 hs11 hci12 r u h => ?_) (fun r6 t7 => ?_)
    · obtain rfl := List.mem_singleton.mp hci12
      exact ⟨_, _, _, yJ2_add, _, _, _, 6, 131, rfl, kJ2_add hex h, Or.inl (cwV 1 X.2.2.2.2.1 (lw_V q966 q255 q256 q74 q257) rfl rfl rfl dmV_J2_add ⟨Nat.le_of_ble_eq_true rfl, Nat.le_of_ble_eq_true rfl⟩)⟩
    refine g_pop (pc := 23) X dX0_street_23 rfl ?_
    refine g_aload_n (pc := 24) X 0 dX0_street_24 rfl rfl ?_
    refine cg_getA (pc := 25) X fo_X0_371 dX0_street_25 (fun v13 => ?_)
    refine g_bD_i (pc := 28) X (cs := [15]) (As := []) (rest := []) (b := v13) (n := 0) dX0_street_28 rfl rfl (Nat.le_of_ble_eq_true rfl) (fun fl16 ci17 fs18 hs19 hci20 r u h => ?_) (fun r14 t15 => ?_)
    · obtain rfl := List.mem_singleton.mp hci20
      exact ⟨_, _, _, yJ2_size, _, _, _, 0, 0, rfl, kJ2_size hex h, Or.inl (cwV 0 X.2.2.2.2.1 (lw_V q350 q134 q135 q74 q136) rfl rfl rfl dmV_J2_size ⟨Nat.le_of_ble_eq_true rfl, Nat.le_of_ble_eq_true rfl⟩)⟩
    refine g_bipush (pc := 31) X 9 dX0_street_31 rfl ?_
    refine g_icmp_ge (pc := 33) X 45 dX0_street_33 (by decide) ?_ ?_
    · exact g_lv (pc := 45) (lv' := [(0, .ref h0)]) [0] rfl (wX0_street_45 hex hl X hr ht h0 t15)
    · refine g_aload_n (pc := 36) X 0 dX0_street_36 rfl rfl ?_
      refine g_bipush (pc := 37) X 44 dX0_street_37 rfl ?_
      refine g_bD_i (pc := 39) X (cs := [0]) (As := [.int 44]) (rest := []) (b := h0) (n := 1) dX0_street_39 rfl rfl (Nat.le_of_ble_eq_true rfl) (fun fl23 ci24 fs25 hs26 hci27 r u h => ?_) (fun r21 t22 => ?_)
      · obtain rfl := List.mem_singleton.mp hci27
        exact ⟨_, _, _, yX0_passes, _, _, _, 1, 20, rfl, kX0_passes hex h, Or.inl (cwV 1 X.2.2.2.2.1 (lw_V q1233 q1235 qs23 q70 q1236) rfl rfl rfl dmV_X0_passes ⟨Nat.le_of_ble_eq_true rfl, Nat.le_of_ble_eq_true rfl⟩)⟩
      refine g_if_ne (pc := 42) X 12 dX0_street_42 (by decide) ?_ ?_
      · exact g_lv (pc := 12) (lv' := [(0, .ref h0)]) [0] rfl (ih h0 t22)
      · exact g_lv (pc := 45) (lv' := [(0, .ref h0)]) [0] rfl (wX0_street_45 hex hl X hr ht h0 t22)
noncomputable def fX0_street (ex : Nat → Option Nat) (z : Nat) (h0 : Nat) (t : St) : Option (Int32 × St) := cput [0] 8 t h0 (.int 0) fun t1 => cgA [0] 10 t1 h0 fun v2 => ccast [15] t1 v2 (gb (fJ2_clear ex (z + t1.2.1) v2 (t1.1, 0, 0)) t1 fun _ t4 => fX0_street_12 ex z 1000 h0 t4)
set_option maxHeartbeats 4000000 in
theorem wX0_street {rF : Int32} (hex : ex = Γ.2.2.2.2) (hl : l.stackTraces = false) (X : g_X Γ p s m args meth c cX0_street 4 RX0) (hr : meth.sig.returnType = (some .int)) (ht : g_T meth [(0, 134, 141, 327), (0, 134, 157, 0), (141, 150, 157, 0)]) (h0 : Nat) (t : St) : Wf Γ p l e 8 173 s m args below meth c 4 (g_ι z) v_i rF tF 0 [(0, .ref h0)] [] t (fX0_street ex z h0 t) := by
  unfold fX0_street
  refine g_aload_n (pc := 0) X 0 dX0_street_0 rfl rfl ?_
  refine g_iconst (pc := 1) X 0 dX0_street_1 rfl ?_
  refine cg_put (pc := 2) X fp_X0_318 dX0_street_2 (fun h => by cases h) rfl rfl (fun t1 => ?_)
  refine g_aload_n (pc := 5) X 0 dX0_street_5 rfl rfl ?_
  refine cg_getA (pc := 6) X fo_X0_371 dX0_street_6 (fun v2 => ?_)
  refine g_bD_v (pc := 9) X (cs := [15]) (As := []) (rest := []) (b := v2) (n := 0) dX0_street_9 rfl rfl (Nat.le_of_ble_eq_true rfl) (fun fl5 ci6 fs7 hs8 hci9 r u h => ?_) (fun r3 t4 => ?_)
  · obtain rfl := List.mem_singleton.mp hci9
    exact ⟨_, _, _, yJ2_clear, _, _, _, 0, 0, rfl, kJ2_clear hex h, Or.inl (cwV 0 X.2.2.2.2.1 (lw_V q360 q361 q362 q74 q363) rfl rfl rfl dmV_J2_clear ⟨Nat.le_of_ble_eq_true rfl, Nat.le_of_ble_eq_true rfl⟩)⟩
  exact g_lv (pc := 12) (lv' := [(0, .ref h0)]) [0] rfl (wX0_street_12 hex hl X hr ht 1000 h0 t4)
theorem kX0_street {ex : Nat → Option Nat} {z : Nat} {h0 : Nat} {σ : Sg} {r : Int32} {u : St} (hex : ex = Γ.2.2.2.2) (hl : l.stackTraces = false) (h : fX0_street ex z h0 (σ, 0, 0) = some (r, u)) : g_CT Γ l yX0_street cX0_street 4 (some .int) [(0, 134, 141, 327), (0, 134, 157, 0), (141, 150, 157, 0)] 8 173 [.ref h0] σ z v_i r (g_ι z u) := by
  exact g_metT (ι := g_ι z) (t := (σ, 0, 0)) [.ref h0] (Nat.le_of_ble_eq_true rfl) h rfl (fun p e s m args below meth c X hr hn ht => wX0_street hex hl X hr ht h0 (σ, 0, 0))
end CP
abbrev cX0_day : ByteArray := prog_1_method_66_code
def yX0_day : MethodName := ⟨RX0, "day", "()I"⟩
def dkwX0_day_4 : List UInt8 := [42, 3, 181, 1, 56, 28, 172, 78, 42, 3, 181, 1, 56, 45, 191]
abbrev dktX0_day_4 : List UInt8 := dkwX0_day_4 ++ []
def dkwX0_day_3 : List UInt8 := [132, 1, 1, 167, 255, 223, 27, 61, 42, 3, 181, 1, 56, 28, 172, 76, 16, 236, 43, 180, 1, 100, 100, 61]
abbrev dktX0_day_3 : List UInt8 := dkwX0_day_3 ++ dktX0_day_4
def dkwX0_day_2 : List UInt8 := [162, 0, 28, 42, 180, 1, 144, 27, 182, 0, 93, 192, 1, 151, 185, 1, 153, 1, 0, 155, 0, 9]
abbrev dktX0_day_2 : List UInt8 := dkwX0_day_2 ++ dktX0_day_3
def dkwX0_day_1 : List UInt8 := [42, 16, 59, 182, 1, 68, 154, 255, 238, 42, 182, 1, 91, 3, 60, 27, 42, 180, 1, 144, 182, 0, 92]
abbrev dktX0_day_1 : List UInt8 := dkwX0_day_1 ++ dktX0_day_2
def dkwX0_day_0 : List UInt8 := [42, 3, 181, 1, 62, 42, 180, 1, 144, 182, 0, 104, 42, 180, 1, 144, 42, 182, 1, 147, 182, 1, 32, 87]
abbrev dktX0_day_0 : List UInt8 := dkwX0_day_0 ++ dktX0_day_1
theorem dksX0_day_0 : cX0_day.data.toList.drop 0 = dktX0_day_0 := by decide +kernel
theorem dksX0_day_1 : cX0_day.data.toList.drop 24 = dktX0_day_1 := dk_seg dksX0_day_0 24 rfl rfl
theorem dksX0_day_2 : cX0_day.data.toList.drop 47 = dktX0_day_2 := dk_seg dksX0_day_1 23 rfl rfl
theorem dksX0_day_3 : cX0_day.data.toList.drop 69 = dktX0_day_3 := dk_seg dksX0_day_2 22 rfl rfl
theorem dksX0_day_4 : cX0_day.data.toList.drop 93 = dktX0_day_4 := dk_seg dksX0_day_3 24 rfl rfl
theorem dX0_day_0 : decode cX0_day 0 = .ok (.aload_n 0, 1) := dk_42 (dk_at dksX0_day_0 0 rfl rfl)
theorem dX0_day_1 : decode cX0_day 1 = .ok (.iconst 0, 1) := dk_3 (dk_at dksX0_day_0 1 rfl rfl)
theorem dX0_day_2 : decode cX0_day 2 = .ok (.putfield 318, 3) := dk_181 1 62 (dk_at dksX0_day_0 2 rfl rfl)
theorem dX0_day_5 : decode cX0_day 5 = .ok (.aload_n 0, 1) := dk_42 (dk_at dksX0_day_0 5 rfl rfl)
theorem dX0_day_6 : decode cX0_day 6 = .ok (.getfield 400, 3) := dk_180 1 144 (dk_at dksX0_day_0 6 rfl rfl)
theorem dX0_day_9 : decode cX0_day 9 = .ok (.invokevirtual 104, 3) := dk_182 0 104 (dk_at dksX0_day_0 9 rfl rfl)
theorem dX0_day_12 : decode cX0_day 12 = .ok (.aload_n 0, 1) := dk_42 (dk_at dksX0_day_0 12 rfl rfl)
theorem dX0_day_13 : decode cX0_day 13 = .ok (.getfield 400, 3) := dk_180 1 144 (dk_at dksX0_day_0 13 rfl rfl)
theorem dX0_day_16 : decode cX0_day 16 = .ok (.aload_n 0, 1) := dk_42 (dk_at dksX0_day_0 16 rfl rfl)
theorem dX0_day_17 : decode cX0_day 17 = .ok (.invokevirtual 403, 3) := dk_182 1 147 (dk_at dksX0_day_0 17 rfl rfl)
theorem dX0_day_20 : decode cX0_day 20 = .ok (.invokevirtual 288, 3) := dk_182 1 32 (dk_at dksX0_day_0 20 rfl rfl)
theorem dX0_day_23 : decode cX0_day 23 = .ok (.pop, 1) := dk_87 (dk_at dksX0_day_0 23 rfl rfl)
theorem dX0_day_24 : decode cX0_day 24 = .ok (.aload_n 0, 1) := dk_42 (dk_at dksX0_day_1 0 rfl rfl)
theorem dX0_day_25 : decode cX0_day 25 = .ok (.bipush 59, 2) := dk_16 59 (dk_at dksX0_day_1 1 rfl rfl)
theorem dX0_day_27 : decode cX0_day 27 = .ok (.invokevirtual 324, 3) := dk_182 1 68 (dk_at dksX0_day_1 3 rfl rfl)
theorem dX0_day_30 : decode cX0_day 30 = .ok (.ifCond .ne (-18), 3) := dk_154 255 238 (dk_at dksX0_day_1 6 rfl rfl)
theorem dX0_day_33 : decode cX0_day 33 = .ok (.aload_n 0, 1) := dk_42 (dk_at dksX0_day_1 9 rfl rfl)
theorem dX0_day_34 : decode cX0_day 34 = .ok (.invokevirtual 347, 3) := dk_182 1 91 (dk_at dksX0_day_1 10 rfl rfl)
theorem dX0_day_37 : decode cX0_day 37 = .ok (.iconst 0, 1) := dk_3 (dk_at dksX0_day_1 13 rfl rfl)
theorem dX0_day_38 : decode cX0_day 38 = .ok (.istore_n 1, 1) := dk_60 (dk_at dksX0_day_1 14 rfl rfl)
theorem dX0_day_39 : decode cX0_day 39 = .ok (.iload_n 1, 1) := dk_27 (dk_at dksX0_day_1 15 rfl rfl)
theorem dX0_day_40 : decode cX0_day 40 = .ok (.aload_n 0, 1) := dk_42 (dk_at dksX0_day_1 16 rfl rfl)
theorem dX0_day_41 : decode cX0_day 41 = .ok (.getfield 400, 3) := dk_180 1 144 (dk_at dksX0_day_1 17 rfl rfl)
theorem dX0_day_44 : decode cX0_day 44 = .ok (.invokevirtual 92, 3) := dk_182 0 92 (dk_at dksX0_day_1 20 rfl rfl)
theorem dX0_day_47 : decode cX0_day 47 = .ok (.if_icmp .ge 28, 3) := dk_162 0 28 (dk_at dksX0_day_2 0 rfl rfl)
theorem dX0_day_50 : decode cX0_day 50 = .ok (.aload_n 0, 1) := dk_42 (dk_at dksX0_day_2 3 rfl rfl)
theorem dX0_day_51 : decode cX0_day 51 = .ok (.getfield 400, 3) := dk_180 1 144 (dk_at dksX0_day_2 4 rfl rfl)
theorem dX0_day_54 : decode cX0_day 54 = .ok (.iload_n 1, 1) := dk_27 (dk_at dksX0_day_2 7 rfl rfl)
theorem dX0_day_55 : decode cX0_day 55 = .ok (.invokevirtual 93, 3) := dk_182 0 93 (dk_at dksX0_day_2 8 rfl rfl)
theorem dX0_day_58 : decode cX0_day 58 = .ok (.checkcast 407, 3) := dk_192 1 151 (dk_at dksX0_day_2 11 rfl rfl)
theorem dX0_day_61 : decode cX0_day 61 = .ok (.invokeinterface 409 1, 5) := by decide +kernel
theorem dX0_day_66 : decode cX0_day 66 = .ok (.ifCond .lt 9, 3) := dk_155 0 9 (dk_at dksX0_day_2 19 rfl rfl)
theorem dX0_day_69 : decode cX0_day 69 = .ok (.iinc 1 1, 3) := dk_132 1 1 (dk_at dksX0_day_3 0 rfl rfl)
theorem dX0_day_72 : decode cX0_day 72 = .ok (.goto (-33), 3) := dk_167 255 223 (dk_at dksX0_day_3 3 rfl rfl)
theorem dX0_day_75 : decode cX0_day 75 = .ok (.iload_n 1, 1) := dk_27 (dk_at dksX0_day_3 6 rfl rfl)
theorem dX0_day_76 : decode cX0_day 76 = .ok (.istore_n 2, 1) := dk_61 (dk_at dksX0_day_3 7 rfl rfl)
theorem dX0_day_77 : decode cX0_day 77 = .ok (.aload_n 0, 1) := dk_42 (dk_at dksX0_day_3 8 rfl rfl)
theorem dX0_day_78 : decode cX0_day 78 = .ok (.iconst 0, 1) := dk_3 (dk_at dksX0_day_3 9 rfl rfl)
theorem dX0_day_79 : decode cX0_day 79 = .ok (.putfield 312, 3) := dk_181 1 56 (dk_at dksX0_day_3 10 rfl rfl)
theorem dX0_day_82 : decode cX0_day 82 = .ok (.iload_n 2, 1) := dk_28 (dk_at dksX0_day_3 13 rfl rfl)
theorem dX0_day_83 : decode cX0_day 83 = .ok (.ireturn, 1) := dk_172 (dk_at dksX0_day_3 14 rfl rfl)
theorem dX0_day_84 : decode cX0_day 84 = .ok (.astore_n 1, 1) := dk_76 (dk_at dksX0_day_3 15 rfl rfl)
theorem dX0_day_85 : decode cX0_day 85 = .ok (.bipush (-20), 2) := dk_16 236 (dk_at dksX0_day_3 16 rfl rfl)
theorem dX0_day_87 : decode cX0_day 87 = .ok (.aload_n 1, 1) := dk_43 (dk_at dksX0_day_3 18 rfl rfl)
theorem dX0_day_88 : decode cX0_day 88 = .ok (.getfield 356, 3) := dk_180 1 100 (dk_at dksX0_day_3 19 rfl rfl)
theorem dX0_day_91 : decode cX0_day 91 = .ok (.isub, 1) := dk_100 (dk_at dksX0_day_3 22 rfl rfl)
theorem dX0_day_92 : decode cX0_day 92 = .ok (.istore_n 2, 1) := dk_61 (dk_at dksX0_day_3 23 rfl rfl)
theorem dX0_day_93 : decode cX0_day 93 = .ok (.aload_n 0, 1) := dk_42 (dk_at dksX0_day_4 0 rfl rfl)
theorem dX0_day_94 : decode cX0_day 94 = .ok (.iconst 0, 1) := dk_3 (dk_at dksX0_day_4 1 rfl rfl)
theorem dX0_day_95 : decode cX0_day 95 = .ok (.putfield 312, 3) := dk_181 1 56 (dk_at dksX0_day_4 2 rfl rfl)
theorem dX0_day_98 : decode cX0_day 98 = .ok (.iload_n 2, 1) := dk_28 (dk_at dksX0_day_4 5 rfl rfl)
theorem dX0_day_99 : decode cX0_day 99 = .ok (.ireturn, 1) := dk_172 (dk_at dksX0_day_4 6 rfl rfl)
theorem dX0_day_100 : decode cX0_day 100 = .ok (.astore_n 3, 1) := dk_78 (dk_at dksX0_day_4 7 rfl rfl)
theorem dX0_day_101 : decode cX0_day 101 = .ok (.aload_n 0, 1) := dk_42 (dk_at dksX0_day_4 8 rfl rfl)
theorem dX0_day_102 : decode cX0_day 102 = .ok (.iconst 0, 1) := dk_3 (dk_at dksX0_day_4 9 rfl rfl)
theorem dX0_day_103 : decode cX0_day 103 = .ok (.putfield 312, 3) := dk_181 1 56 (dk_at dksX0_day_4 10 rfl rfl)
theorem dX0_day_106 : decode cX0_day 106 = .ok (.aload_n 3, 1) := dk_45 (dk_at dksX0_day_4 13 rfl rfl)
theorem dX0_day_107 : decode cX0_day 107 = .ok (.athrow, 1) := dk_191 (dk_at dksX0_day_4 14 rfl rfl)
theorem fo_X0_400 : g_fo RX0 400 [0] 11 := ⟨_, _, _, Or.inl q1627, fun ci h => by
  simp only [List.mem_cons, List.not_mem_nil, or_false] at h; rcases h with rfl
  · exact ⟨_, _, _, rfl, by decide, rfl, rfl, Or.inl rfl, in_X0⟩⟩
theorem cf_LameClocks_Act_4 : ∀ ci ∈ ([11, 12, 13, 14] : List Nat), ∃ (C : String) (T : u_T) (N : Nat), cls[ci]? = some (C, T, N) ∧ (C = "LameClocks$Act" ∨ Cond.castable C "LameClocks$Act" ∈ lw_tbl) := by
  intro ci h
  simp only [List.mem_cons, List.not_mem_nil, or_false] at h; rcases h with rfl | rfl | rfl | rfl
  · exact ⟨_, _, _, rfl, Or.inr q1320⟩
  · exact ⟨_, _, _, rfl, Or.inr q1313⟩
  · exact ⟨_, _, _, rfl, Or.inr q1334⟩
  · exact ⟨_, _, _, rfl, Or.inr q1327⟩
theorem dmF_Act_does0 : (⟨"LameClocks$Act", "does", "()I"⟩ : MethodName).cls ≠ "java/lang/invoke/MethodHandle" ∧ (⟨"LameClocks$Act", "does", "()I"⟩ : MethodName).cls ≠ "java/lang/invoke/VarHandle" ∧ (parseMethodDescriptor (⟨"LameClocks$Act", "does", "()I"⟩ : MethodName).desc).map (fun d => d.parameters.length) = some 0 := by decide +kernel
theorem dy_X0_readAct : (yX0_readAct.cls ≠ "java/lang/invoke/MethodHandle" ∧ yX0_readAct.cls ≠ "java/lang/invoke/VarHandle") ∧ (parseMethodDescriptor yX0_readAct.desc).map (fun d => d.parameters.length) = some 0 := by decide +kernel
section CP
variable {Γ : Gc} {p : Program} {l : Launch} {e : Env} {s : State} {m : MethodId} {args : Array Value} {below : List Frame} {meth : Method} {c : Code} {ex : Nat → Option Nat} {z : Nat} {tF : St}
noncomputable def fX0_day_75 (ex : Nat → Option Nat) (z : Nat) (h0 : Nat) (x1 : Int32) (t : St) : Option (Int32 × St) := cput [0] 7 t h0 (.int 0) fun t1 => some (x1, t1)
set_option maxHeartbeats 4000000 in
theorem wX0_day_75 {rF : Int32} (hex : ex = Γ.2.2.2.2) (hl : l.stackTraces = false) (X : g_X Γ p s m args meth c cX0_day 4 RX0) (hr : meth.sig.returnType = (some .int)) (ht : g_T meth [(0, 77, 84, 327), (0, 77, 100, 0), (84, 93, 100, 0)]) (h0 : Nat) (x1 : Int32) (t : St) : Wf Γ p l e 21 443 s m args below meth c 4 (g_ι z) v_i rF tF 75 [(0, .ref h0), (1, .int x1)] [] t (fX0_day_75 ex z h0 x1 t) := by
  unfold fX0_day_75
  refine g_iload_n (pc := 75) X 1 dX0_day_75 rfl rfl ?_
  refine g_istore_n (pc := 76) X (lv' := [(2, .int x1), (0, .ref h0), (1, .int x1)]) dX0_day_76 rfl (by decide) rfl ?_
  refine g_aload_n (pc := 77) X 1 dX0_day_77 rfl rfl ?_
  refine g_iconst (pc := 78) X 0 dX0_day_78 rfl ?_
  refine cg_put (pc := 79) X fp_X0_312 dX0_day_79 (fun h => by cases h) rfl rfl (fun t1 => ?_)
  refine g_iload_n (pc := 82) X 0 dX0_day_82 rfl rfl ?_
  exact g_iret (pc := 83) X hr dX0_day_83
noncomputable def fX0_day_39 (ex : Nat → Option Nat) (z : Nat) : Nat → Nat → Int32 → St → Option (Int32 × St)
  | 0, _, _, _ => none
  | n + 1, h0, x1, t => cgA [0] 11 t h0 fun v1 => ccast [15] t v1 (gb (fJ2_size ex (z + t.2.1) v1 (t.1, 0, 0)) t fun r2 t3 => if r2 ≤ x1 then fX0_day_75 ex z h0 x1 t3 else cgA [0] 11 t3 h0 fun v9 => ccast [15] t3 v9 (gb (fJ2_get ex (z + t3.2.1) v9 x1 (t3.1, 0, 0)) t3 fun r10 t11 => ccast [11, 12, 13, 14] t11 r10 (ccast [11, 12, 13, 14] t11 r10 (gb (fv_Act_does ex (z + t11.2.1) r10 (t11.1, 0, 0)) t11 fun r17 t18 => if r17 < 0 then fX0_day_75 ex z h0 x1 t18 else fX0_day_39 ex z n h0 (x1 + 1) t18))))
set_option maxHeartbeats 4000000 in
theorem wX0_day_39 {rF : Int32} (hex : ex = Γ.2.2.2.2) (hl : l.stackTraces = false) (X : g_X Γ p s m args meth c cX0_day 4 RX0) (hr : meth.sig.returnType = (some .int)) (ht : g_T meth [(0, 77, 84, 327), (0, 77, 100, 0), (84, 93, 100, 0)]) (n : Nat) : ∀ (h0 : Nat) (x1 : Int32) (t : St), Wf Γ p l e 21 443 s m args below meth c 4 (g_ι z) v_i rF tF 39 [(0, .ref h0), (1, .int x1)] [] t (fX0_day_39 ex z n h0 x1 t) := by
  induction n with
  | zero => intro h0 x1 t; exact g_none
  | succ n ih =>
    intro h0 x1 t
    rw [fX0_day_39]
    refine g_iload_n (pc := 39) X 1 dX0_day_39 rfl rfl ?_
    refine g_aload_n (pc := 40) X 0 dX0_day_40 rfl rfl ?_
    refine cg_getA (pc := 41) X fo_X0_400 dX0_day_41 (fun v1 => ?_)
    refine g_bD_i (pc := 44) X (cs := [15]) (As := []) (rest := [.int x1]) (b := v1) (n := 0) dX0_day_44 rfl rfl (Nat.le_of_ble_eq_true rfl) (fun fl4 ci5 fs6 hs7 hci8 r u h => ?_) (fun r2 t3 => ?_)
    · obtain rfl := List.mem_singleton.mp hci8
      exact ⟨_, _, _, yJ2_size, _, _, _, 0, 0, rfl, kJ2_size hex h, Or.inl (cwV 0 X.2.2.2.2.1 (lw_V q350 q134 q135 q74 q136) rfl rfl rfl dmV_J2_size ⟨Nat.le_of_ble_eq_true rfl, Nat.le_of_ble_eq_true rfl⟩)⟩
    refine g_icmp_ge (pc := 47) X 75 dX0_day_47 (by decide) ?_ ?_
    · exact g_lv (pc := 75) (lv' := [(0, .ref h0), (1, .int x1)]) [0, 1] rfl (wX0_day_75 hex hl X hr ht h0 x1 t3)
    · refine g_aload_n (pc := 50) X 0 dX0_day_50 rfl rfl ?_
      refine cg_getA (pc := 51) X fo_X0_400 dX0_day_51 (fun v9 => ?_)
      refine g_iload_n (pc := 54) X 1 dX0_day_54 rfl rfl ?_
      refine g_bD_a (pc := 55) X (cs := [15]) (As := [.int x1]) (rest := []) (b := v9) (n := 1) dX0_day_55 rfl rfl (Nat.le_of_ble_eq_true rfl) (fun fl12 ci13 fs14 hs15 hci16 r u h => ?_) (fun r10 t11 => ?_)
      · obtain rfl := List.mem_singleton.mp hci16
        exact ⟨_, _, _, yJ2_get, _, _, _, 2, 43, rfl, kJ2_get hex h, Or.inl (cwV 1 X.2.2.2.2.1 (lw_V q351 q352 q353 q74 q354) rfl rfl rfl dmV_J2_get ⟨Nat.le_of_ble_eq_true rfl, Nat.le_of_ble_eq_true rfl⟩)⟩
      refine cg_cast (pc := 58) X (cs := [11, 12, 13, 14]) q1308 cf_LameClocks_Act_4 dX0_day_58 ?_
      refine g_bDF_i (pc := 61) X (cs := [11, 12, 13, 14]) (As := []) (rest := []) (b := r10) (n := 0) dX0_day_61 rfl rfl (Nat.le_of_ble_eq_true rfl) (fun fl19 ci20 fs21 hs22 hci23 r u h => ?_) (fun r17 t18 => ?_)
      · simp only [List.mem_cons, List.not_mem_nil, or_false] at hci23
        rcases hci23 with rfl | rfl | rfl | rfl
        · exact ⟨_, _, _, yX11_does, _, _, _, 20, 423, rfl, kX11_does hex (by rw [fv_Act_does_11 hs22] at h; exact h), ⟨_, va_cwF 0 X.2.2.2.2.1 (lw_F q1310 q1321 q1323 q96 q1325) rfl rfl rfl (X.2.2.2.2.2.2.1.fw ⟨by decide, by decide⟩ q1312 q1311 q1324 q1322 q1320) dmF_Act_does0 ⟨Nat.le_of_ble_eq_true rfl, Nat.le_of_ble_eq_true rfl⟩⟩⟩
        · exact ⟨_, _, _, yX12_does, _, _, _, 9, 194, rfl, kX12_does hex (by rw [fv_Act_does_12 hs22] at h; exact h), ⟨_, va_cwF 0 X.2.2.2.2.1 (lw_F q1310 q1314 q1316 q97 q1318) rfl rfl rfl (X.2.2.2.2.2.2.1.fw ⟨by decide, by decide⟩ q1312 q1311 q1317 q1315 q1313) dmF_Act_does0 ⟨Nat.le_of_ble_eq_true rfl, Nat.le_of_ble_eq_true rfl⟩⟩⟩
        · exact ⟨_, _, _, yX13_does, _, _, _, 9, 194, rfl, kX13_does hex (by rw [fv_Act_does_13 hs22] at h; exact h), ⟨_, va_cwF 0 X.2.2.2.2.1 (lw_F q1310 q1335 q1337 q98 q1339) rfl rfl rfl (X.2.2.2.2.2.2.1.fw ⟨by decide, by decide⟩ q1312 q1311 q1338 q1336 q1334) dmF_Act_does0 ⟨Nat.le_of_ble_eq_true rfl, Nat.le_of_ble_eq_true rfl⟩⟩⟩
        · exact ⟨_, _, _, yX14_does, _, _, _, 9, 194, rfl, kX14_does hex (by rw [fv_Act_does_14 hs22] at h; exact h), ⟨_, va_cwF 0 X.2.2.2.2.1 (lw_F q1310 q1328 q1330 q99 q1332) rfl rfl rfl (X.2.2.2.2.2.2.1.fw ⟨by decide, by decide⟩ q1312 q1311 q1331 q1329 q1327) dmF_Act_does0 ⟨Nat.le_of_ble_eq_true rfl, Nat.le_of_ble_eq_true rfl⟩⟩⟩
      refine g_if_lt (pc := 66) X 75 dX0_day_66 (by decide) ?_ ?_
      · exact g_lv (pc := 75) (lv' := [(0, .ref h0), (1, .int x1)]) [0, 1] rfl (wX0_day_75 hex hl X hr ht h0 x1 t18)
      · refine g_iinc (pc := 69) X 1 1 (lv' := [(1, .int (x1 + 1)), (0, .ref h0)]) dX0_day_69 rfl rfl (by decide) rfl ?_
        refine g_goto (pc := 72) X 39 dX0_day_72 (by decide) ?_
        exact g_lv (pc := 39) (lv' := [(0, .ref h0), (1, .int (x1 + 1))]) [1, 0] rfl (ih h0 (x1 + 1) t18)
noncomputable def fX0_day_84 (ex : Nat → Option Nat) (z : Nat) (h0 : Nat) (s0 : Nat) (t : St) : Option (Int32 × St) := cgI [10] 6 t s0 fun v1 => lt ((-20) - v1) fun y2 => cput [0] 7 t h0 (.int 0) fun t3 => some (y2, t3)
set_option maxHeartbeats 4000000 in
theorem wX0_day_84 {rF : Int32} (hex : ex = Γ.2.2.2.2) (hl : l.stackTraces = false) (X : g_X Γ p s m args meth c cX0_day 4 RX0) (hr : meth.sig.returnType = (some .int)) (ht : g_T meth [(0, 77, 84, 327), (0, 77, 100, 0), (84, 93, 100, 0)]) (h0 : Nat) (s0 : Nat) (t : St) : Wf Γ p l e 21 443 s m args below meth c 4 (g_ι z) v_i rF tF 84 [(0, .ref h0)] [.ref s0] t (fX0_day_84 ex z h0 s0 t) := by
  unfold fX0_day_84
  refine g_astore_n (pc := 84) X (lv' := [(1, .ref s0), (0, .ref h0)]) dX0_day_84 rfl (by decide) rfl ?_
  refine g_bipush (pc := 85) X (-20) dX0_day_85 rfl ?_
  refine g_aload_n (pc := 87) X 0 dX0_day_87 rfl rfl ?_
  refine cg_getI (pc := 88) X fo_X0_356 dX0_day_88 (fun v1 => ?_)
  refine g_isub (pc := 91) X dX0_day_91 ?_
  refine g_lti (pc := 92) (fun y2 => ?_)
  refine g_istore_n (pc := 92) X (lv' := [(2, .int y2), (1, .ref s0), (0, .ref h0)]) dX0_day_92 rfl (by decide) rfl ?_
  refine g_aload_n (pc := 93) X 2 dX0_day_93 rfl rfl ?_
  refine g_iconst (pc := 94) X 0 dX0_day_94 rfl ?_
  refine cg_put (pc := 95) X fp_X0_312 dX0_day_95 (fun h => by cases h) rfl rfl (fun t3 => ?_)
  refine g_iload_n (pc := 98) X 0 dX0_day_98 rfl rfl ?_
  exact g_iret (pc := 99) X hr dX0_day_99
noncomputable def fX0_day_12 (ex : Nat → Option Nat) (z : Nat) : Nat → Nat → St → Option (Int32 × St)
  | 0, _, _ => none
  | n + 1, h0, t => cgA [0] 11 t h0 fun v1 => ccast [0] t h0 (gbT (fX0_readAct ex (z + t.2.1) h0 (t.1, 0, 0)) t (fun r2 t3 => ccast [15] t3 v1 (gb (fJ2_add ex (z + t3.2.1) v1 r2 (t3.1, 0, 0)) t3 fun r6 t7 => ccast [0] t7 h0 (gb (fX0_passes ex (z + t7.2.1) h0 59 (t7.1, 0, 0)) t7 fun r13 t14 => if r13 = 0 then ccast [0] t14 h0 (gbT (fX0_ends ex (z + t14.2.1) h0 (t14.1, 0, 0)) t14 (fun _ t21 => fX0_day_39 ex z 1000 h0 0 t21) (fun a23 t22 => cif t22 a23 10 (fX0_day_84 ex z h0 a23 t22) (none))) else fX0_day_12 ex z n h0 t14))) (fun a5 t4 => cif t4 a5 10 (fX0_day_84 ex z h0 a5 t4) (none)))
set_option maxHeartbeats 4000000 in
theorem wX0_day_12 {rF : Int32} (hex : ex = Γ.2.2.2.2) (hl : l.stackTraces = false) (X : g_X Γ p s m args meth c cX0_day 4 RX0) (hr : meth.sig.returnType = (some .int)) (ht : g_T meth [(0, 77, 84, 327), (0, 77, 100, 0), (84, 93, 100, 0)]) (n : Nat) : ∀ (h0 : Nat) (t : St), Wf Γ p l e 21 443 s m args below meth c 4 (g_ι z) v_i rF tF 12 [(0, .ref h0)] [] t (fX0_day_12 ex z n h0 t) := by
  induction n with
  | zero => intro h0 t; exact g_none
  | succ n ih =>
    intro h0 t
    rw [fX0_day_12]
    refine g_aload_n (pc := 12) X 0 dX0_day_12 rfl rfl ?_
    refine cg_getA (pc := 13) X fo_X0_400 dX0_day_13 (fun v1 => ?_)
    refine g_aload_n (pc := 16) X 0 dX0_day_16 rfl rfl ?_
    refine t_bV_a (pc := 17) X (ci := 0) (C := RX0) (b := h0) (y := yX0_readAct) (As := []) (rest := [.ref v1]) (n := 0) (fr' := 5) (lo' := 105) ⟨_, _, rfl⟩ dX0_day_17 rfl rfl (Nat.le_of_ble_eq_true rfl) (plainFor_of_name (by decide)) (Or.inl ⟨q1244, rfl⟩) ⟨Nat.le_of_ble_eq_true rfl, Nat.le_of_ble_eq_true rfl⟩ q1243 q1241 qs24 dy_X0_readAct.1 dy_X0_readAct.2 (fun r u h => kX0_readAct hex hl h) (fun r2 t3 => ?_) (fun a5 t4 => x_cif (fun fl fs hs => x_catch X ht hs rfl 84 (x_ev.take rfl (by decide) q1089 q1186) (g_lv (pc := 84) (lv' := [(0, .ref h0)]) [0] rfl (wX0_day_84 hex hl X hr ht h0 a5 t4))) (x_none))
    refine g_bD_i (pc := 20) X (cs := [15]) (As := [.ref r2]) (rest := []) (b := v1) (n := 1) dX0_day_20 rfl rfl (Nat.le_of_ble_eq_true rfl) (fun fl8 ci9 fs10 hs11 hci12 r u h => ?_) (fun r6 t7 => ?_)
    · obtain rfl := List.mem_singleton.mp hci12
      exact ⟨_, _, _, yJ2_add, _, _, _, 6, 131, rfl, kJ2_add hex h, Or.inl (cwV 1 X.2.2.2.2.1 (lw_V q966 q255 q256 q74 q257) rfl rfl rfl dmV_J2_add ⟨Nat.le_of_ble_eq_true rfl, Nat.le_of_ble_eq_true rfl⟩)⟩
    refine g_pop (pc := 23) X dX0_day_23 rfl ?_
    refine g_aload_n (pc := 24) X 0 dX0_day_24 rfl rfl ?_
    refine g_bipush (pc := 25) X 59 dX0_day_25 rfl ?_
    refine g_bD_i (pc := 27) X (cs := [0]) (As := [.int 59]) (rest := []) (b := h0) (n := 1) dX0_day_27 rfl rfl (Nat.le_of_ble_eq_true rfl) (fun fl15 ci16 fs17 hs18 hci19 r u h => ?_) (fun r13 t14 => ?_)
    · obtain rfl := List.mem_singleton.mp hci19
      exact ⟨_, _, _, yX0_passes, _, _, _, 1, 20, rfl, kX0_passes hex h, Or.inl (cwV 1 X.2.2.2.2.1 (lw_V q1233 q1235 qs23 q70 q1236) rfl rfl rfl dmV_X0_passes ⟨Nat.le_of_ble_eq_true rfl, Nat.le_of_ble_eq_true rfl⟩)⟩
    refine g_if_ne (pc := 30) X 12 dX0_day_30 (by decide) ?_ ?_
    · exact g_lv (pc := 12) (lv' := [(0, .ref h0)]) [0] rfl (ih h0 t14)
    · refine g_aload_n (pc := 33) X 0 dX0_day_33 rfl rfl ?_
      refine t_bV_v (pc := 34) X (ci := 0) (C := RX0) (b := h0) (y := yX0_ends) (As := []) (rest := []) (n := 0) (fr' := 4) (lo' := 81) ⟨_, _, rfl⟩ dX0_day_34 rfl rfl (Nat.le_of_ble_eq_true rfl) (plainFor_of_name (by decide)) (Or.inl ⟨q1211, rfl⟩) ⟨Nat.le_of_ble_eq_true rfl, Nat.le_of_ble_eq_true rfl⟩ q1210 q1208 qs20 dy_X0_ends.1 dy_X0_ends.2 (fun r u h => kX0_ends hex hl h) (fun r20 t21 => ?_) (fun a23 t22 => x_cif (fun fl fs hs => x_catch X ht hs rfl 84 (x_ev.take rfl (by decide) q1089 q1186) (g_lv (pc := 84) (lv' := [(0, .ref h0)]) [0] rfl (wX0_day_84 hex hl X hr ht h0 a23 t22))) (x_none))
      refine g_iconst (pc := 37) X 0 dX0_day_37 rfl ?_
      refine g_istore_n (pc := 38) X (lv' := [(1, .int 0), (0, .ref h0)]) dX0_day_38 rfl (by decide) rfl ?_
      exact g_lv (pc := 39) (lv' := [(0, .ref h0), (1, .int 0)]) [1, 0] rfl (wX0_day_39 hex hl X hr ht 1000 h0 0 t21)
noncomputable def fX0_day (ex : Nat → Option Nat) (z : Nat) (h0 : Nat) (t : St) : Option (Int32 × St) := cput [0] 8 t h0 (.int 0) fun t1 => cgA [0] 11 t1 h0 fun v2 => ccast [15] t1 v2 (gb (fJ2_clear ex (z + t1.2.1) v2 (t1.1, 0, 0)) t1 fun _ t4 => fX0_day_12 ex z 1000 h0 t4)
set_option maxHeartbeats 4000000 in
theorem wX0_day {rF : Int32} (hex : ex = Γ.2.2.2.2) (hl : l.stackTraces = false) (X : g_X Γ p s m args meth c cX0_day 4 RX0) (hr : meth.sig.returnType = (some .int)) (ht : g_T meth [(0, 77, 84, 327), (0, 77, 100, 0), (84, 93, 100, 0)]) (h0 : Nat) (t : St) : Wf Γ p l e 21 443 s m args below meth c 4 (g_ι z) v_i rF tF 0 [(0, .ref h0)] [] t (fX0_day ex z h0 t) := by
  unfold fX0_day
  refine g_aload_n (pc := 0) X 0 dX0_day_0 rfl rfl ?_
  refine g_iconst (pc := 1) X 0 dX0_day_1 rfl ?_
  refine cg_put (pc := 2) X fp_X0_318 dX0_day_2 (fun h => by cases h) rfl rfl (fun t1 => ?_)
  refine g_aload_n (pc := 5) X 0 dX0_day_5 rfl rfl ?_
  refine cg_getA (pc := 6) X fo_X0_400 dX0_day_6 (fun v2 => ?_)
  refine g_bD_v (pc := 9) X (cs := [15]) (As := []) (rest := []) (b := v2) (n := 0) dX0_day_9 rfl rfl (Nat.le_of_ble_eq_true rfl) (fun fl5 ci6 fs7 hs8 hci9 r u h => ?_) (fun r3 t4 => ?_)
  · obtain rfl := List.mem_singleton.mp hci9
    exact ⟨_, _, _, yJ2_clear, _, _, _, 0, 0, rfl, kJ2_clear hex h, Or.inl (cwV 0 X.2.2.2.2.1 (lw_V q360 q361 q362 q74 q363) rfl rfl rfl dmV_J2_clear ⟨Nat.le_of_ble_eq_true rfl, Nat.le_of_ble_eq_true rfl⟩)⟩
  exact g_lv (pc := 12) (lv' := [(0, .ref h0)]) [0] rfl (wX0_day_12 hex hl X hr ht 1000 h0 t4)
theorem kX0_day {ex : Nat → Option Nat} {z : Nat} {h0 : Nat} {σ : Sg} {r : Int32} {u : St} (hex : ex = Γ.2.2.2.2) (hl : l.stackTraces = false) (h : fX0_day ex z h0 (σ, 0, 0) = some (r, u)) : g_CT Γ l yX0_day cX0_day 4 (some .int) [(0, 77, 84, 327), (0, 77, 100, 0), (84, 93, 100, 0)] 21 443 [.ref h0] σ z v_i r (g_ι z u) := by
  exact g_metT (ι := g_ι z) (t := (σ, 0, 0)) [.ref h0] (Nat.le_of_ble_eq_true rfl) h rfl (fun p e s m args below meth c X hr hn ht => wX0_day hex hl X hr ht h0 (σ, 0, 0))
end CP
abbrev cX0_sheet : ByteArray := prog_1_method_75_code
def yX0_sheet : MethodName := ⟨RX0, "sheet", "(III)I"⟩
def dkwX0_sheet_1 : List UInt8 := [180, 1, 191, 27, 50, 28, 29, 184, 1, 195, 181, 1, 199, 29, 172, 58, 4, 16, 242, 172]
abbrev dktX0_sheet_1 : List UInt8 := dkwX0_sheet_1 ++ []
def dkwX0_sheet_0 : List UInt8 := [27, 184, 1, 185, 153, 0, 16, 28, 184, 1, 188, 153, 0, 9, 29, 16, 24, 164, 0, 5, 2, 172, 42]
abbrev dktX0_sheet_0 : List UInt8 := dkwX0_sheet_0 ++ dktX0_sheet_1
theorem dksX0_sheet_0 : cX0_sheet.data.toList.drop 0 = dktX0_sheet_0 := by decide +kernel
theorem dksX0_sheet_1 : cX0_sheet.data.toList.drop 23 = dktX0_sheet_1 := dk_seg dksX0_sheet_0 23 rfl rfl
theorem dX0_sheet_0 : decode cX0_sheet 0 = .ok (.iload_n 1, 1) := dk_27 (dk_at dksX0_sheet_0 0 rfl rfl)
theorem dX0_sheet_1 : decode cX0_sheet 1 = .ok (.invokestatic 441, 3) := dk_184 1 185 (dk_at dksX0_sheet_0 1 rfl rfl)
theorem dX0_sheet_4 : decode cX0_sheet 4 = .ok (.ifCond .eq 16, 3) := dk_153 0 16 (dk_at dksX0_sheet_0 4 rfl rfl)
theorem dX0_sheet_7 : decode cX0_sheet 7 = .ok (.iload_n 2, 1) := dk_28 (dk_at dksX0_sheet_0 7 rfl rfl)
theorem dX0_sheet_8 : decode cX0_sheet 8 = .ok (.invokestatic 444, 3) := dk_184 1 188 (dk_at dksX0_sheet_0 8 rfl rfl)
theorem dX0_sheet_11 : decode cX0_sheet 11 = .ok (.ifCond .eq 9, 3) := dk_153 0 9 (dk_at dksX0_sheet_0 11 rfl rfl)
theorem dX0_sheet_14 : decode cX0_sheet 14 = .ok (.iload_n 3, 1) := dk_29 (dk_at dksX0_sheet_0 14 rfl rfl)
theorem dX0_sheet_15 : decode cX0_sheet 15 = .ok (.bipush 24, 2) := dk_16 24 (dk_at dksX0_sheet_0 15 rfl rfl)
theorem dX0_sheet_17 : decode cX0_sheet 17 = .ok (.if_icmp .le 5, 3) := dk_164 0 5 (dk_at dksX0_sheet_0 17 rfl rfl)
theorem dX0_sheet_20 : decode cX0_sheet 20 = .ok (.iconst (-1), 1) := dk_2 (dk_at dksX0_sheet_0 20 rfl rfl)
theorem dX0_sheet_21 : decode cX0_sheet 21 = .ok (.ireturn, 1) := dk_172 (dk_at dksX0_sheet_0 21 rfl rfl)
theorem dX0_sheet_22 : decode cX0_sheet 22 = .ok (.aload_n 0, 1) := dk_42 (dk_at dksX0_sheet_0 22 rfl rfl)
theorem dX0_sheet_23 : decode cX0_sheet 23 = .ok (.getfield 447, 3) := dk_180 1 191 (dk_at dksX0_sheet_1 0 rfl rfl)
theorem dX0_sheet_26 : decode cX0_sheet 26 = .ok (.iload_n 1, 1) := dk_27 (dk_at dksX0_sheet_1 3 rfl rfl)
theorem dX0_sheet_27 : decode cX0_sheet 27 = .ok (.aaload, 1) := dk_50 (dk_at dksX0_sheet_1 4 rfl rfl)
theorem dX0_sheet_28 : decode cX0_sheet 28 = .ok (.iload_n 2, 1) := dk_28 (dk_at dksX0_sheet_1 5 rfl rfl)
theorem dX0_sheet_29 : decode cX0_sheet 29 = .ok (.iload_n 3, 1) := dk_29 (dk_at dksX0_sheet_1 6 rfl rfl)
theorem dX0_sheet_30 : decode cX0_sheet 30 = .ok (.invokestatic 451, 3) := dk_184 1 195 (dk_at dksX0_sheet_1 7 rfl rfl)
theorem dX0_sheet_33 : decode cX0_sheet 33 = .ok (.putfield 455, 3) := dk_181 1 199 (dk_at dksX0_sheet_1 10 rfl rfl)
theorem dX0_sheet_36 : decode cX0_sheet 36 = .ok (.iload_n 3, 1) := dk_29 (dk_at dksX0_sheet_1 13 rfl rfl)
theorem dX0_sheet_37 : decode cX0_sheet 37 = .ok (.ireturn, 1) := dk_172 (dk_at dksX0_sheet_1 14 rfl rfl)
theorem dX0_sheet_38 : decode cX0_sheet 38 = .ok (.astore 4, 2) := dk_58 4 (dk_at dksX0_sheet_1 15 rfl rfl)
theorem dX0_sheet_40 : decode cX0_sheet 40 = .ok (.bipush (-14), 2) := dk_16 242 (dk_at dksX0_sheet_1 17 rfl rfl)
theorem dX0_sheet_42 : decode cX0_sheet 42 = .ok (.ireturn, 1) := dk_172 (dk_at dksX0_sheet_1 19 rfl rfl)
theorem dy_X0_laidT : (yX0_laid.cls ≠ "java/lang/invoke/MethodHandle" ∧ yX0_laid.cls ≠ "java/lang/invoke/VarHandle") ∧ (parseMethodDescriptor yX0_laid.desc).map (fun d => d.parameters.length) = some 2 := by decide +kernel
section CP
variable {Γ : Gc} {p : Program} {l : Launch} {e : Env} {s : State} {m : MethodId} {args : Array Value} {below : List Frame} {meth : Method} {c : Code} {ex : Nat → Option Nat} {z : Nat} {tF : St}
noncomputable def fX0_sheet_38 (ex : Nat → Option Nat) (z : Nat) (s0 : Nat) (t : St) : Option (Int32 × St) := some ((-14), t)
set_option maxHeartbeats 4000000 in
theorem wX0_sheet_38 {rF : Int32} (hex : ex = Γ.2.2.2.2) (hl : l.stackTraces = false) (X : g_X Γ p s m args meth c cX0_sheet 5 RX0) (hr : meth.sig.returnType = (some .int)) (ht : g_T meth [(22, 37, 38, 461)]) (s0 : Nat) (t : St) : Wf Γ p l e 10 10281 s m args below meth c 5 (g_ι z) v_i rF tF 38 [] [.ref s0] t (fX0_sheet_38 ex z s0 t) := by
  unfold fX0_sheet_38
  refine g_astore (pc := 38) X (lv' := [(4, .ref s0)]) dX0_sheet_38 (by decide) rfl ?_
  refine g_bipush (pc := 40) X (-14) dX0_sheet_40 rfl ?_
  exact g_iret (pc := 42) X hr dX0_sheet_42
noncomputable def fX0_sheet (ex : Nat → Option Nat) (z : Nat) (h0 : Nat) (x1 : Int32) (x2 : Int32) (x3 : Int32) (t : St) : Option (Int32 × St) := gb (fX0_isSheet ex (z + t.2.1) x1 (t.1, 0, 0)) t fun r1 t2 => if r1 = 0 then some ((-1), t2) else gb (fX0_isLane ex (z + t2.2.1) x2 (t2.1, 0, 0)) t2 fun r3 t4 => if r3 = 0 then some ((-1), t4) else if x3 ≤ 24 then cgA [0] 17 t4 h0 fun v5 => caldA 5 t4 v5 x1 fun v6 => gbT (fX0_laidT ex (z + t4.2.1) x2 x3 (t4.1, 0, 0)) t4 (fun r7 t8 => cput [2] 0 t8 v6 (.ref r7) fun t11 => some (x3, t11)) (fun a10 t9 => cif t9 a10 30 (fX0_sheet_38 ex z a10 t9) (none)) else some ((-1), t4)
set_option maxHeartbeats 4000000 in
theorem wX0_sheet {rF : Int32} (hex : ex = Γ.2.2.2.2) (hl : l.stackTraces = false) (X : g_X Γ p s m args meth c cX0_sheet 5 RX0) (hr : meth.sig.returnType = (some .int)) (ht : g_T meth [(22, 37, 38, 461)]) (h0 : Nat) (x1 : Int32) (x2 : Int32) (x3 : Int32) (t : St) : Wf Γ p l e 10 10281 s m args below meth c 5 (g_ι z) v_i rF tF 0 [(0, .ref h0), (1, .int x1), (2, .int x2), (3, .int x3)] [] t (fX0_sheet ex z h0 x1 x2 x3 t) := by
  unfold fX0_sheet
  refine g_iload_n (pc := 0) X 1 dX0_sheet_0 rfl rfl ?_
  refine g_bS_i (pc := 1) X (y := yX0_isSheet) (As := [.int x1]) (rest := []) (fr' := 1) (lo' := 25) (fun _ => va_cwS 1 X.2.2.2.2.1 (lw_S q1381 q1382 q70 q1383) rfl rfl rfl dmS_X0_isSheet ⟨Nat.le_of_ble_eq_true rfl, Nat.le_of_ble_eq_true rfl⟩) dX0_sheet_1 rfl rfl (Nat.le_of_ble_eq_true rfl) (fun r u h => kX0_isSheet hex h) (fun r1 t2 => ?_)
  refine g_if_eq (pc := 4) X 20 dX0_sheet_4 (by decide) ?_ ?_
  · refine g_iconst (pc := 20) X (-1) dX0_sheet_20 rfl ?_
    exact g_iret (pc := 21) X hr dX0_sheet_21
  · refine g_iload_n (pc := 7) X 2 dX0_sheet_7 rfl rfl ?_
    refine g_bS_i (pc := 8) X (y := yX0_isLane) (As := [.int x2]) (rest := []) (fr' := 1) (lo' := 25) (fun _ => va_cwS 1 X.2.2.2.2.1 (lw_S q1385 q1386 q70 q1387) rfl rfl rfl dmS_X0_isLane ⟨Nat.le_of_ble_eq_true rfl, Nat.le_of_ble_eq_true rfl⟩) dX0_sheet_8 rfl rfl (Nat.le_of_ble_eq_true rfl) (fun r u h => kX0_isLane hex h) (fun r3 t4 => ?_)
    refine g_if_eq (pc := 11) X 20 dX0_sheet_11 (by decide) ?_ ?_
    · refine g_iconst (pc := 20) X (-1) dX0_sheet_20 rfl ?_
      exact g_iret (pc := 21) X hr dX0_sheet_21
    · refine g_iload_n (pc := 14) X 3 dX0_sheet_14 rfl rfl ?_
      refine g_bipush (pc := 15) X 24 dX0_sheet_15 rfl ?_
      refine g_icmp_le (pc := 17) X 22 dX0_sheet_17 (by decide) ?_ ?_
      · refine g_aload_n (pc := 22) X 0 dX0_sheet_22 rfl rfl ?_
        refine cg_getA (pc := 23) X fo_X0_447 dX0_sheet_23 (fun v5 => ?_)
        refine g_iload_n (pc := 26) X 1 dX0_sheet_26 rfl rfl ?_
        refine cg_aald (pc := 27) X (j := 5) rfl rfl dX0_sheet_27 (fun v6 => ?_)
        refine g_iload_n (pc := 28) X 2 dX0_sheet_28 rfl rfl ?_
        refine g_iload_n (pc := 29) X 3 dX0_sheet_29 rfl rfl ?_
        refine t_bS_a (pc := 30) X (y := yX0_laid) (As := [.int x2, .int x3]) (rest := [.ref v6]) (n := 2) (fr' := 9) (lo' := 10260) dX0_sheet_30 rfl rfl (Nat.le_of_ble_eq_true rfl) (plainFor_of_name (by decide)) (Or.inl ⟨q1390, rfl⟩) ⟨Nat.le_of_ble_eq_true rfl, Nat.le_of_ble_eq_true rfl⟩ q1389 q70 q1388 dy_X0_laidT.1 dy_X0_laidT.2 (fun r u h => kX0_laidT hex hl h) (fun r7 t8 => ?_) (fun a10 t9 => x_cif (fun fl fs hs => x_catch X ht hs rfl 38 (x_ev.take rfl (by decide) q1367 q1379) (g_lv (pc := 38) (lv' := []) [] rfl (wX0_sheet_38 hex hl X hr ht a10 t9))) (x_none))
        refine cg_put (pc := 33) X fp_X0_455 dX0_sheet_33 (fun h => by cases h) rfl rfl (fun t11 => ?_)
        refine g_iload_n (pc := 36) X 3 dX0_sheet_36 rfl rfl ?_
        exact g_iret (pc := 37) X hr dX0_sheet_37
      · refine g_iconst (pc := 20) X (-1) dX0_sheet_20 rfl ?_
        exact g_iret (pc := 21) X hr dX0_sheet_21
theorem kX0_sheet {ex : Nat → Option Nat} {z : Nat} {h0 : Nat} {x1 : Int32} {x2 : Int32} {x3 : Int32} {σ : Sg} {r : Int32} {u : St} (hex : ex = Γ.2.2.2.2) (hl : l.stackTraces = false) (h : fX0_sheet ex z h0 x1 x2 x3 (σ, 0, 0) = some (r, u)) : g_CT Γ l yX0_sheet cX0_sheet 5 (some .int) [(22, 37, 38, 461)] 10 10281 [.ref h0, .int x1, .int x2, .int x3] σ z v_i r (g_ι z u) := by
  exact g_metT (ι := g_ι z) (t := (σ, 0, 0)) [.ref h0, .int x1, .int x2, .int x3] (Nat.le_of_ble_eq_true rfl) h rfl (fun p e s m args below meth c X hr hn ht => wX0_sheet hex hl X hr ht h0 x1 x2 x3 (σ, 0, 0))
end CP
abbrev cX0_item : ByteArray := prog_1_method_78_code
def yX0_item : MethodName := ⟨RX0, "item", "(IIIJ)I"⟩
def dkwX0_item_2 : List UInt8 := [16, 243, 172]
abbrev dktX0_item_2 : List UInt8 := dkwX0_item_2 ++ []
def dkwX0_item_1 : List UInt8 := [180, 1, 199, 28, 29, 22, 4, 184, 1, 215, 4, 172, 58, 6, 16, 245, 172, 58, 6, 16, 244, 172, 58, 6]
abbrev dktX0_item_1 : List UInt8 := dkwX0_item_1 ++ dktX0_item_2
def dkwX0_item_0 : List UInt8 := [27, 184, 1, 185, 153, 0, 10, 28, 184, 1, 188, 154, 0, 5, 2, 172, 42, 180, 1, 191, 27, 50]
abbrev dktX0_item_0 : List UInt8 := dkwX0_item_0 ++ dktX0_item_1
theorem dksX0_item_0 : cX0_item.data.toList.drop 0 = dktX0_item_0 := by decide +kernel
theorem dksX0_item_1 : cX0_item.data.toList.drop 22 = dktX0_item_1 := dk_seg dksX0_item_0 22 rfl rfl
theorem dksX0_item_2 : cX0_item.data.toList.drop 46 = dktX0_item_2 := dk_seg dksX0_item_1 24 rfl rfl
theorem dX0_item_0 : decode cX0_item 0 = .ok (.iload_n 1, 1) := dk_27 (dk_at dksX0_item_0 0 rfl rfl)
theorem dX0_item_1 : decode cX0_item 1 = .ok (.invokestatic 441, 3) := dk_184 1 185 (dk_at dksX0_item_0 1 rfl rfl)
theorem dX0_item_4 : decode cX0_item 4 = .ok (.ifCond .eq 10, 3) := dk_153 0 10 (dk_at dksX0_item_0 4 rfl rfl)
theorem dX0_item_7 : decode cX0_item 7 = .ok (.iload_n 2, 1) := dk_28 (dk_at dksX0_item_0 7 rfl rfl)
theorem dX0_item_8 : decode cX0_item 8 = .ok (.invokestatic 444, 3) := dk_184 1 188 (dk_at dksX0_item_0 8 rfl rfl)
theorem dX0_item_11 : decode cX0_item 11 = .ok (.ifCond .ne 5, 3) := dk_154 0 5 (dk_at dksX0_item_0 11 rfl rfl)
theorem dX0_item_14 : decode cX0_item 14 = .ok (.iconst (-1), 1) := dk_2 (dk_at dksX0_item_0 14 rfl rfl)
theorem dX0_item_15 : decode cX0_item 15 = .ok (.ireturn, 1) := dk_172 (dk_at dksX0_item_0 15 rfl rfl)
theorem dX0_item_16 : decode cX0_item 16 = .ok (.aload_n 0, 1) := dk_42 (dk_at dksX0_item_0 16 rfl rfl)
theorem dX0_item_17 : decode cX0_item 17 = .ok (.getfield 447, 3) := dk_180 1 191 (dk_at dksX0_item_0 17 rfl rfl)
theorem dX0_item_20 : decode cX0_item 20 = .ok (.iload_n 1, 1) := dk_27 (dk_at dksX0_item_0 20 rfl rfl)
theorem dX0_item_21 : decode cX0_item 21 = .ok (.aaload, 1) := dk_50 (dk_at dksX0_item_0 21 rfl rfl)
theorem dX0_item_22 : decode cX0_item 22 = .ok (.getfield 455, 3) := dk_180 1 199 (dk_at dksX0_item_1 0 rfl rfl)
theorem dX0_item_25 : decode cX0_item 25 = .ok (.iload_n 2, 1) := dk_28 (dk_at dksX0_item_1 3 rfl rfl)
theorem dX0_item_26 : decode cX0_item 26 = .ok (.iload_n 3, 1) := dk_29 (dk_at dksX0_item_1 4 rfl rfl)
theorem dX0_item_27 : decode cX0_item 27 = .ok (.lload 4, 2) := dk_22 4 (dk_at dksX0_item_1 5 rfl rfl)
theorem dX0_item_29 : decode cX0_item 29 = .ok (.invokestatic 471, 3) := dk_184 1 215 (dk_at dksX0_item_1 7 rfl rfl)
theorem dX0_item_32 : decode cX0_item 32 = .ok (.iconst 1, 1) := dk_4 (dk_at dksX0_item_1 10 rfl rfl)
theorem dX0_item_33 : decode cX0_item 33 = .ok (.ireturn, 1) := dk_172 (dk_at dksX0_item_1 11 rfl rfl)
theorem dX0_item_34 : decode cX0_item 34 = .ok (.astore 6, 2) := dk_58 6 (dk_at dksX0_item_1 12 rfl rfl)
theorem dX0_item_36 : decode cX0_item 36 = .ok (.bipush (-11), 2) := dk_16 245 (dk_at dksX0_item_1 14 rfl rfl)
theorem dX0_item_38 : decode cX0_item 38 = .ok (.ireturn, 1) := dk_172 (dk_at dksX0_item_1 16 rfl rfl)
theorem dX0_item_39 : decode cX0_item 39 = .ok (.astore 6, 2) := dk_58 6 (dk_at dksX0_item_1 17 rfl rfl)
theorem dX0_item_41 : decode cX0_item 41 = .ok (.bipush (-12), 2) := dk_16 244 (dk_at dksX0_item_1 19 rfl rfl)
theorem dX0_item_43 : decode cX0_item 43 = .ok (.ireturn, 1) := dk_172 (dk_at dksX0_item_1 21 rfl rfl)
theorem dX0_item_44 : decode cX0_item 44 = .ok (.astore 6, 2) := dk_58 6 (dk_at dksX0_item_1 22 rfl rfl)
theorem dX0_item_46 : decode cX0_item 46 = .ok (.bipush (-13), 2) := dk_16 243 (dk_at dksX0_item_2 0 rfl rfl)
theorem dX0_item_48 : decode cX0_item 48 = .ok (.ireturn, 1) := dk_172 (dk_at dksX0_item_2 2 rfl rfl)
section CP
variable {Γ : Gc} {p : Program} {l : Launch} {e : Env} {s : State} {m : MethodId} {args : Array Value} {below : List Frame} {meth : Method} {c : Code} {ex : Nat → Option Nat} {z : Nat} {tF : St}
noncomputable def fX0_item_34 (ex : Nat → Option Nat) (z : Nat) (s0 : Nat) (t : St) : Option (Int32 × St) := some ((-11), t)
set_option maxHeartbeats 4000000 in
theorem wX0_item_34 {rF : Int32} (hex : ex = Γ.2.2.2.2) (hl : l.stackTraces = false) (X : g_X Γ p s m args meth c cX0_item 7 RX0) (hr : meth.sig.returnType = (some .int)) (ht : g_T meth [(16, 33, 34, 475), (16, 33, 39, 477), (16, 33, 44, 479)]) (s0 : Nat) (t : St) : Wf Γ p l e 10 10284 s m args below meth c 7 (g_ι z) v_i rF tF 34 [] [.ref s0] t (fX0_item_34 ex z s0 t) := by
  unfold fX0_item_34
  refine g_astore (pc := 34) X (lv' := [(6, .ref s0)]) dX0_item_34 (by decide) rfl ?_
  refine g_bipush (pc := 36) X (-11) dX0_item_36 rfl ?_
  exact g_iret (pc := 38) X hr dX0_item_38
noncomputable def fX0_item_39 (ex : Nat → Option Nat) (z : Nat) (s0 : Nat) (t : St) : Option (Int32 × St) := some ((-12), t)
set_option maxHeartbeats 4000000 in
theorem wX0_item_39 {rF : Int32} (hex : ex = Γ.2.2.2.2) (hl : l.stackTraces = false) (X : g_X Γ p s m args meth c cX0_item 7 RX0) (hr : meth.sig.returnType = (some .int)) (ht : g_T meth [(16, 33, 34, 475), (16, 33, 39, 477), (16, 33, 44, 479)]) (s0 : Nat) (t : St) : Wf Γ p l e 10 10284 s m args below meth c 7 (g_ι z) v_i rF tF 39 [] [.ref s0] t (fX0_item_39 ex z s0 t) := by
  unfold fX0_item_39
  refine g_astore (pc := 39) X (lv' := [(6, .ref s0)]) dX0_item_39 (by decide) rfl ?_
  refine g_bipush (pc := 41) X (-12) dX0_item_41 rfl ?_
  exact g_iret (pc := 43) X hr dX0_item_43
noncomputable def fX0_item_44 (ex : Nat → Option Nat) (z : Nat) (s0 : Nat) (t : St) : Option (Int32 × St) := some ((-13), t)
set_option maxHeartbeats 4000000 in
theorem wX0_item_44 {rF : Int32} (hex : ex = Γ.2.2.2.2) (hl : l.stackTraces = false) (X : g_X Γ p s m args meth c cX0_item 7 RX0) (hr : meth.sig.returnType = (some .int)) (ht : g_T meth [(16, 33, 34, 475), (16, 33, 39, 477), (16, 33, 44, 479)]) (s0 : Nat) (t : St) : Wf Γ p l e 10 10284 s m args below meth c 7 (g_ι z) v_i rF tF 44 [] [.ref s0] t (fX0_item_44 ex z s0 t) := by
  unfold fX0_item_44
  refine g_astore (pc := 44) X (lv' := [(6, .ref s0)]) dX0_item_44 (by decide) rfl ?_
  refine g_bipush (pc := 46) X (-13) dX0_item_46 rfl ?_
  exact g_iret (pc := 48) X hr dX0_item_48
noncomputable def fX0_item (ex : Nat → Option Nat) (z : Nat) (h0 : Nat) (x1 : Int32) (x2 : Int32) (x3 : Int32) (x4 : Int64) (t : St) : Option (Int32 × St) := gb (fX0_isSheet ex (z + t.2.1) x1 (t.1, 0, 0)) t fun r1 t2 => if r1 = 0 then some ((-1), t2) else gb (fX0_isLane ex (z + t2.2.1) x2 (t2.1, 0, 0)) t2 fun r3 t4 => if r3 = 0 then some ((-1), t4) else cgA [0] 17 t4 h0 fun v5 => caldA 5 t4 v5 x1 fun v6 => cgQ [2] 0 t4 v6 fun v7 => gbT (fX0_puts ex (z + t4.2.1) v7 x2 x3 x4 (t4.1, 0, 0)) t4 (fun _ t9 => some (1, t9)) (fun a11 t10 => cif t10 a11 27 (fX0_item_34 ex z a11 t10) (cif t10 a11 28 (fX0_item_39 ex z a11 t10) (cif t10 a11 29 (fX0_item_44 ex z a11 t10) (none))))
set_option maxHeartbeats 4000000 in
theorem wX0_item {rF : Int32} (hex : ex = Γ.2.2.2.2) (hl : l.stackTraces = false) (X : g_X Γ p s m args meth c cX0_item 7 RX0) (hr : meth.sig.returnType = (some .int)) (ht : g_T meth [(16, 33, 34, 475), (16, 33, 39, 477), (16, 33, 44, 479)]) (h0 : Nat) (x1 : Int32) (x2 : Int32) (x3 : Int32) (x4 : Int64) (t : St) : Wf Γ p l e 10 10284 s m args below meth c 7 (g_ι z) v_i rF tF 0 [(0, .ref h0), (1, .int x1), (2, .int x2), (3, .int x3), (4, .long x4)] [] t (fX0_item ex z h0 x1 x2 x3 x4 t) := by
  unfold fX0_item
  refine g_iload_n (pc := 0) X 1 dX0_item_0 rfl rfl ?_
  refine g_bS_i (pc := 1) X (y := yX0_isSheet) (As := [.int x1]) (rest := []) (fr' := 1) (lo' := 25) (fun _ => va_cwS 1 X.2.2.2.2.1 (lw_S q1381 q1382 q70 q1383) rfl rfl rfl dmS_X0_isSheet ⟨Nat.le_of_ble_eq_true rfl, Nat.le_of_ble_eq_true rfl⟩) dX0_item_1 rfl rfl (Nat.le_of_ble_eq_true rfl) (fun r u h => kX0_isSheet hex h) (fun r1 t2 => ?_)
  refine g_if_eq (pc := 4) X 14 dX0_item_4 (by decide) ?_ ?_
  · refine g_iconst (pc := 14) X (-1) dX0_item_14 rfl ?_
    exact g_iret (pc := 15) X hr dX0_item_15
  · refine g_iload_n (pc := 7) X 2 dX0_item_7 rfl rfl ?_
    refine g_bS_i (pc := 8) X (y := yX0_isLane) (As := [.int x2]) (rest := []) (fr' := 1) (lo' := 25) (fun _ => va_cwS 1 X.2.2.2.2.1 (lw_S q1385 q1386 q70 q1387) rfl rfl rfl dmS_X0_isLane ⟨Nat.le_of_ble_eq_true rfl, Nat.le_of_ble_eq_true rfl⟩) dX0_item_8 rfl rfl (Nat.le_of_ble_eq_true rfl) (fun r u h => kX0_isLane hex h) (fun r3 t4 => ?_)
    refine g_if_ne (pc := 11) X 16 dX0_item_11 (by decide) ?_ ?_
    · refine g_aload_n (pc := 16) X 0 dX0_item_16 rfl rfl ?_
      refine cg_getA (pc := 17) X fo_X0_447 dX0_item_17 (fun v5 => ?_)
      refine g_iload_n (pc := 20) X 1 dX0_item_20 rfl rfl ?_
      refine cg_aald (pc := 21) X (j := 5) rfl rfl dX0_item_21 (fun v6 => ?_)
      refine cg_getQ (pc := 22) X fo_X0_455 dX0_item_22 (fun v7 => ?_)
      refine g_iload_n (pc := 25) X 2 dX0_item_25 rfl rfl ?_
      refine g_iload_n (pc := 26) X 3 dX0_item_26 rfl rfl ?_
      refine g_lload (pc := 27) X 4 dX0_item_27 rfl ?_
      refine t_bS_v (pc := 29) X (y := yX0_puts) (As := [va_rf v7, .int x2, .int x3, .long x4]) (rest := []) (n := 4) (fr' := 9) (lo' := 10260) dX0_item_29 rfl rfl (Nat.le_of_ble_eq_true rfl) (plainFor_of_name (by decide)) (Or.inl ⟨q1472, rfl⟩) ⟨Nat.le_of_ble_eq_true rfl, Nat.le_of_ble_eq_true rfl⟩ q1471 q70 q1470 dy_X0_puts.1 dy_X0_puts.2 (fun r u h => kX0_puts hex hl h) (fun r8 t9 => ?_) (fun a11 t10 => x_cif (fun fl fs hs => x_catch X ht hs rfl 34 (x_ev.take rfl (by decide) q1412 q1434) (g_lv (pc := 34) (lv' := []) [] rfl (wX0_item_34 hex hl X hr ht a11 t10))) (x_cif (fun fl fs hs => x_catch X ht hs rfl 39 (x_ev.pass rfl (by decide) q1412 nc_J17_J16 (x_ev.take rfl (by decide) q1437 q1449)) (g_lv (pc := 39) (lv' := []) [] rfl (wX0_item_39 hex hl X hr ht a11 t10))) (x_cif (fun fl fs hs => x_catch X ht hs rfl 44 (x_ev.pass rfl (by decide) q1412 nc_J19_J16 (x_ev.pass rfl (by decide) q1437 nc_J19_J17 (x_ev.take rfl (by decide) q1451 q1466))) (g_lv (pc := 44) (lv' := []) [] rfl (wX0_item_44 hex hl X hr ht a11 t10))) (x_none))))
      refine g_iconst (pc := 32) X 1 dX0_item_32 rfl ?_
      exact g_iret (pc := 33) X hr dX0_item_33
    · refine g_iconst (pc := 14) X (-1) dX0_item_14 rfl ?_
      exact g_iret (pc := 15) X hr dX0_item_15
theorem kX0_item {ex : Nat → Option Nat} {z : Nat} {h0 : Nat} {x1 : Int32} {x2 : Int32} {x3 : Int32} {x4 : Int64} {σ : Sg} {r : Int32} {u : St} (hex : ex = Γ.2.2.2.2) (hl : l.stackTraces = false) (h : fX0_item ex z h0 x1 x2 x3 x4 (σ, 0, 0) = some (r, u)) : g_CT Γ l yX0_item cX0_item 7 (some .int) [(16, 33, 34, 475), (16, 33, 39, 477), (16, 33, 44, 479)] 10 10284 [.ref h0, .int x1, .int x2, .int x3, .long x4] σ z v_i r (g_ι z u) := by
  exact g_metT (ι := g_ι z) (t := (σ, 0, 0)) [.ref h0, .int x1, .int x2, .int x3, .long x4] (Nat.le_of_ble_eq_true rfl) h rfl (fun p e s m args below meth c X hr hn ht => wX0_item hex hl X hr ht h0 x1 x2 x3 x4 (σ, 0, 0))
end CP
