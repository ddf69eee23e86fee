/-! the reference, its methods: seen, copy (printed by gen/model.py) -/
set_option maxRecDepth 100000
abbrev cX3_seen : ByteArray := prog_24_method_97_code
def yX3_seen : MethodName := ⟨RX3, "seen", "(III)I"⟩
def dkwX3_seen_4 : List UInt8 := [16, 252, 54, 7, 42, 182, 0, 251, 21, 7, 172]
abbrev dktX3_seen_4 : List UInt8 := dkwX3_seen_4 ++ []
def dkwX3_seen_3 : List UInt8 := [182, 0, 226, 87, 132, 6, 1, 167, 255, 227, 42, 21, 5, 182, 1, 56, 153, 0, 8, 21, 6, 167, 0, 5]
abbrev dktX3_seen_3 : List UInt8 := dkwX3_seen_3 ++ dktX3_seen_4
def dkwX3_seen_2 : List UInt8 := [21, 6, 17, 0, 200, 162, 0, 27, 42, 21, 5, 182, 1, 56, 154, 0, 18, 42, 42, 182, 0, 223]
abbrev dktX3_seen_2 : List UInt8 := dkwX3_seen_2 ++ dktX3_seen_3
def dkwX3_seen_1 : List UInt8 := [21, 4, 156, 0, 6, 21, 4, 172, 16, 24, 27, 104, 29, 96, 54, 5, 42, 182, 0, 245, 3, 54, 6]
abbrev dktX3_seen_1 : List UInt8 := dkwX3_seen_1 ++ dktX3_seen_2
def dkwX3_seen_0 : List UInt8 := [27, 28, 184, 1, 46, 154, 0, 5, 2, 172, 42, 27, 28, 29, 42, 180, 0, 72, 182, 1, 49, 54, 4]
abbrev dktX3_seen_0 : List UInt8 := dkwX3_seen_0 ++ dktX3_seen_1
theorem dksX3_seen_0 : cX3_seen.data.toList.drop 0 = dktX3_seen_0 := by decide +kernel
theorem dksX3_seen_1 : cX3_seen.data.toList.drop 23 = dktX3_seen_1 := dk_seg dksX3_seen_0 23 rfl rfl
theorem dksX3_seen_2 : cX3_seen.data.toList.drop 46 = dktX3_seen_2 := dk_seg dksX3_seen_1 23 rfl rfl
theorem dksX3_seen_3 : cX3_seen.data.toList.drop 68 = dktX3_seen_3 := dk_seg dksX3_seen_2 22 rfl rfl
theorem dksX3_seen_4 : cX3_seen.data.toList.drop 92 = dktX3_seen_4 := dk_seg dksX3_seen_3 24 rfl rfl
theorem dX3_seen_0 : decode cX3_seen 0 = .ok (.iload_n 1, 1) := dk_27 (dk_at dksX3_seen_0 0 rfl rfl)
theorem dX3_seen_1 : decode cX3_seen 1 = .ok (.iload_n 2, 1) := dk_28 (dk_at dksX3_seen_0 1 rfl rfl)
theorem dX3_seen_2 : decode cX3_seen 2 = .ok (.invokestatic 302, 3) := dk_184 1 46 (dk_at dksX3_seen_0 2 rfl rfl)
theorem dX3_seen_5 : decode cX3_seen 5 = .ok (.ifCond .ne 5, 3) := dk_154 0 5 (dk_at dksX3_seen_0 5 rfl rfl)
theorem dX3_seen_8 : decode cX3_seen 8 = .ok (.iconst (-1), 1) := dk_2 (dk_at dksX3_seen_0 8 rfl rfl)
theorem dX3_seen_9 : decode cX3_seen 9 = .ok (.ireturn, 1) := dk_172 (dk_at dksX3_seen_0 9 rfl rfl)
theorem dX3_seen_10 : decode cX3_seen 10 = .ok (.aload_n 0, 1) := dk_42 (dk_at dksX3_seen_0 10 rfl rfl)
theorem dX3_seen_11 : decode cX3_seen 11 = .ok (.iload_n 1, 1) := dk_27 (dk_at dksX3_seen_0 11 rfl rfl)
theorem dX3_seen_12 : decode cX3_seen 12 = .ok (.iload_n 2, 1) := dk_28 (dk_at dksX3_seen_0 12 rfl rfl)
theorem dX3_seen_13 : decode cX3_seen 13 = .ok (.iload_n 3, 1) := dk_29 (dk_at dksX3_seen_0 13 rfl rfl)
theorem dX3_seen_14 : decode cX3_seen 14 = .ok (.aload_n 0, 1) := dk_42 (dk_at dksX3_seen_0 14 rfl rfl)
theorem dX3_seen_15 : decode cX3_seen 15 = .ok (.getfield 72, 3) := dk_180 0 72 (dk_at dksX3_seen_0 15 rfl rfl)
theorem dX3_seen_18 : decode cX3_seen 18 = .ok (.invokevirtual 305, 3) := dk_182 1 49 (dk_at dksX3_seen_0 18 rfl rfl)
theorem dX3_seen_21 : decode cX3_seen 21 = .ok (.istore 4, 2) := dk_54 4 (dk_at dksX3_seen_0 21 rfl rfl)
theorem dX3_seen_23 : decode cX3_seen 23 = .ok (.iload 4, 2) := dk_21 4 (dk_at dksX3_seen_1 0 rfl rfl)
theorem dX3_seen_25 : decode cX3_seen 25 = .ok (.ifCond .ge 6, 3) := dk_156 0 6 (dk_at dksX3_seen_1 2 rfl rfl)
theorem dX3_seen_28 : decode cX3_seen 28 = .ok (.iload 4, 2) := dk_21 4 (dk_at dksX3_seen_1 5 rfl rfl)
theorem dX3_seen_30 : decode cX3_seen 30 = .ok (.ireturn, 1) := dk_172 (dk_at dksX3_seen_1 7 rfl rfl)
theorem dX3_seen_31 : decode cX3_seen 31 = .ok (.bipush 24, 2) := dk_16 24 (dk_at dksX3_seen_1 8 rfl rfl)
theorem dX3_seen_33 : decode cX3_seen 33 = .ok (.iload_n 1, 1) := dk_27 (dk_at dksX3_seen_1 10 rfl rfl)
theorem dX3_seen_34 : decode cX3_seen 34 = .ok (.imul, 1) := dk_104 (dk_at dksX3_seen_1 11 rfl rfl)
theorem dX3_seen_35 : decode cX3_seen 35 = .ok (.iload_n 3, 1) := dk_29 (dk_at dksX3_seen_1 12 rfl rfl)
theorem dX3_seen_36 : decode cX3_seen 36 = .ok (.iadd, 1) := dk_96 (dk_at dksX3_seen_1 13 rfl rfl)
theorem dX3_seen_37 : decode cX3_seen 37 = .ok (.istore 5, 2) := dk_54 5 (dk_at dksX3_seen_1 14 rfl rfl)
theorem dX3_seen_39 : decode cX3_seen 39 = .ok (.aload_n 0, 1) := dk_42 (dk_at dksX3_seen_1 16 rfl rfl)
theorem dX3_seen_40 : decode cX3_seen 40 = .ok (.invokevirtual 245, 3) := dk_182 0 245 (dk_at dksX3_seen_1 17 rfl rfl)
theorem dX3_seen_43 : decode cX3_seen 43 = .ok (.iconst 0, 1) := dk_3 (dk_at dksX3_seen_1 20 rfl rfl)
theorem dX3_seen_44 : decode cX3_seen 44 = .ok (.istore 6, 2) := dk_54 6 (dk_at dksX3_seen_1 21 rfl rfl)
theorem dX3_seen_46 : decode cX3_seen 46 = .ok (.iload 6, 2) := dk_21 6 (dk_at dksX3_seen_2 0 rfl rfl)
theorem dX3_seen_48 : decode cX3_seen 48 = .ok (.sipush 200, 3) := dk_17 0 200 (dk_at dksX3_seen_2 2 rfl rfl)
theorem dX3_seen_51 : decode cX3_seen 51 = .ok (.if_icmp .ge 27, 3) := dk_162 0 27 (dk_at dksX3_seen_2 5 rfl rfl)
theorem dX3_seen_54 : decode cX3_seen 54 = .ok (.aload_n 0, 1) := dk_42 (dk_at dksX3_seen_2 8 rfl rfl)
theorem dX3_seen_55 : decode cX3_seen 55 = .ok (.iload 5, 2) := dk_21 5 (dk_at dksX3_seen_2 9 rfl rfl)
theorem dX3_seen_57 : decode cX3_seen 57 = .ok (.invokevirtual 312, 3) := dk_182 1 56 (dk_at dksX3_seen_2 11 rfl rfl)
theorem dX3_seen_60 : decode cX3_seen 60 = .ok (.ifCond .ne 18, 3) := dk_154 0 18 (dk_at dksX3_seen_2 14 rfl rfl)
theorem dX3_seen_63 : decode cX3_seen 63 = .ok (.aload_n 0, 1) := dk_42 (dk_at dksX3_seen_2 17 rfl rfl)
theorem dX3_seen_64 : decode cX3_seen 64 = .ok (.aload_n 0, 1) := dk_42 (dk_at dksX3_seen_2 18 rfl rfl)
theorem dX3_seen_65 : decode cX3_seen 65 = .ok (.invokevirtual 223, 3) := dk_182 0 223 (dk_at dksX3_seen_2 19 rfl rfl)
theorem dX3_seen_68 : decode cX3_seen 68 = .ok (.invokevirtual 226, 3) := dk_182 0 226 (dk_at dksX3_seen_3 0 rfl rfl)
theorem dX3_seen_71 : decode cX3_seen 71 = .ok (.pop, 1) := dk_87 (dk_at dksX3_seen_3 3 rfl rfl)
theorem dX3_seen_72 : decode cX3_seen 72 = .ok (.iinc 6 1, 3) := dk_132 6 1 (dk_at dksX3_seen_3 4 rfl rfl)
theorem dX3_seen_75 : decode cX3_seen 75 = .ok (.goto (-29), 3) := dk_167 255 227 (dk_at dksX3_seen_3 7 rfl rfl)
theorem dX3_seen_78 : decode cX3_seen 78 = .ok (.aload_n 0, 1) := dk_42 (dk_at dksX3_seen_3 10 rfl rfl)
theorem dX3_seen_79 : decode cX3_seen 79 = .ok (.iload 5, 2) := dk_21 5 (dk_at dksX3_seen_3 11 rfl rfl)
theorem dX3_seen_81 : decode cX3_seen 81 = .ok (.invokevirtual 312, 3) := dk_182 1 56 (dk_at dksX3_seen_3 13 rfl rfl)
theorem dX3_seen_84 : decode cX3_seen 84 = .ok (.ifCond .eq 8, 3) := dk_153 0 8 (dk_at dksX3_seen_3 16 rfl rfl)
theorem dX3_seen_87 : decode cX3_seen 87 = .ok (.iload 6, 2) := dk_21 6 (dk_at dksX3_seen_3 19 rfl rfl)
theorem dX3_seen_89 : decode cX3_seen 89 = .ok (.goto 5, 3) := dk_167 0 5 (dk_at dksX3_seen_3 21 rfl rfl)
theorem dX3_seen_92 : decode cX3_seen 92 = .ok (.bipush (-4), 2) := dk_16 252 (dk_at dksX3_seen_4 0 rfl rfl)
theorem dX3_seen_94 : decode cX3_seen 94 = .ok (.istore 7, 2) := dk_54 7 (dk_at dksX3_seen_4 2 rfl rfl)
theorem dX3_seen_96 : decode cX3_seen 96 = .ok (.aload_n 0, 1) := dk_42 (dk_at dksX3_seen_4 4 rfl rfl)
theorem dX3_seen_97 : decode cX3_seen 97 = .ok (.invokevirtual 251, 3) := dk_182 0 251 (dk_at dksX3_seen_4 5 rfl rfl)
theorem dX3_seen_100 : decode cX3_seen 100 = .ok (.iload 7, 2) := dk_21 7 (dk_at dksX3_seen_4 8 rfl rfl)
theorem dX3_seen_102 : decode cX3_seen 102 = .ok (.ireturn, 1) := dk_172 (dk_at dksX3_seen_4 10 rfl rfl)
abbrev cX3_copy : ByteArray := prog_24_method_98_code
def yX3_copy : MethodName := ⟨RX3, "copy", "(IIIII)I"⟩
def dkwX3_copy_8 : List UInt8 := [172]
abbrev dktX3_copy_8 : List UInt8 := dkwX3_copy_8 ++ []
def dkwX3_copy_7 : List UInt8 := [29, 104, 21, 4, 96, 21, 6, 96, 42, 180, 0, 69, 21, 6, 47, 80, 132, 6, 1, 167, 255, 224, 21, 5]
abbrev dktX3_copy_7 : List UInt8 := dkwX3_copy_7 ++ dktX3_copy_8
def dkwX3_copy_6 : List UInt8 := [47, 80, 132, 6, 1, 167, 255, 225, 3, 54, 6, 21, 6, 21, 5, 162, 0, 31, 42, 180, 0, 65, 16, 24]
abbrev dktX3_copy_6 : List UInt8 := dkwX3_copy_6 ++ dktX3_copy_7
def dkwX3_copy_5 : List UInt8 := [21, 5, 162, 0, 30, 42, 180, 0, 69, 21, 6, 42, 180, 0, 65, 16, 24, 27, 104, 28, 96, 21, 6, 96]
abbrev dktX3_copy_5 : List UInt8 := dkwX3_copy_5 ++ dktX3_copy_6
def dkwX3_copy_4 : List UInt8 := [180, 0, 62, 29, 46, 133, 21, 5, 133, 101, 184, 0, 75, 154, 0, 6, 16, 243, 172, 3, 54, 6, 21, 6]
abbrev dktX3_copy_4 : List UInt8 := dkwX3_copy_4 ++ dktX3_copy_5
def dkwX3_copy_3 : List UInt8 := [9, 42, 180, 0, 62, 27, 46, 133, 21, 5, 133, 101, 184, 0, 75, 153, 0, 24, 21, 4, 133, 9, 42]
abbrev dktX3_copy_3 : List UInt8 := dkwX3_copy_3 ++ dktX3_copy_4
def dkwX3_copy_2 : List UInt8 := [180, 0, 59, 27, 46, 42, 180, 0, 59, 29, 46, 159, 0, 6, 16, 244, 172, 21, 5, 155, 0, 44, 28, 133]
abbrev dktX3_copy_2 : List UInt8 := dkwX3_copy_2 ++ dktX3_copy_3
def dkwX3_copy_1 : List UInt8 := [2, 172, 42, 180, 0, 59, 27, 46, 155, 0, 12, 42, 180, 0, 59, 29, 46, 156, 0, 6, 16, 245, 172, 42]
abbrev dktX3_copy_1 : List UInt8 := dkwX3_copy_1 ++ dktX3_copy_2
def dkwX3_copy_0 : List UInt8 := [27, 133, 9, 20, 1, 44, 184, 0, 75, 153, 0, 15, 29, 133, 9, 20, 1, 44, 184, 0, 75, 154, 0, 5]
abbrev dktX3_copy_0 : List UInt8 := dkwX3_copy_0 ++ dktX3_copy_1
theorem dksX3_copy_0 : cX3_copy.data.toList.drop 0 = dktX3_copy_0 := by decide +kernel
theorem dksX3_copy_1 : cX3_copy.data.toList.drop 24 = dktX3_copy_1 := dk_seg dksX3_copy_0 24 rfl rfl
theorem dksX3_copy_2 : cX3_copy.data.toList.drop 48 = dktX3_copy_2 := dk_seg dksX3_copy_1 24 rfl rfl
theorem dksX3_copy_3 : cX3_copy.data.toList.drop 72 = dktX3_copy_3 := dk_seg dksX3_copy_2 24 rfl rfl
theorem dksX3_copy_4 : cX3_copy.data.toList.drop 95 = dktX3_copy_4 := dk_seg dksX3_copy_3 23 rfl rfl
theorem dksX3_copy_5 : cX3_copy.data.toList.drop 119 = dktX3_copy_5 := dk_seg dksX3_copy_4 24 rfl rfl
theorem dksX3_copy_6 : cX3_copy.data.toList.drop 143 = dktX3_copy_6 := dk_seg dksX3_copy_5 24 rfl rfl
theorem dksX3_copy_7 : cX3_copy.data.toList.drop 167 = dktX3_copy_7 := dk_seg dksX3_copy_6 24 rfl rfl
theorem dksX3_copy_8 : cX3_copy.data.toList.drop 191 = dktX3_copy_8 := dk_seg dksX3_copy_7 24 rfl rfl
theorem dX3_copy_0 : decode cX3_copy 0 = .ok (.iload_n 1, 1) := dk_27 (dk_at dksX3_copy_0 0 rfl rfl)
theorem dX3_copy_1 : decode cX3_copy 1 = .ok (.i2l, 1) := dk_133 (dk_at dksX3_copy_0 1 rfl rfl)
theorem dX3_copy_2 : decode cX3_copy 2 = .ok (.lconst 0, 1) := dk_9 (dk_at dksX3_copy_0 2 rfl rfl)
theorem dX3_copy_3 : decode cX3_copy 3 = .ok (.ldc2_w 300, 3) := dk_20 1 44 (dk_at dksX3_copy_0 3 rfl rfl)
theorem dX3_copy_6 : decode cX3_copy 6 = .ok (.invokestatic 75, 3) := dk_184 0 75 (dk_at dksX3_copy_0 6 rfl rfl)
theorem dX3_copy_9 : decode cX3_copy 9 = .ok (.ifCond .eq 15, 3) := dk_153 0 15 (dk_at dksX3_copy_0 9 rfl rfl)
theorem dX3_copy_12 : decode cX3_copy 12 = .ok (.iload_n 3, 1) := dk_29 (dk_at dksX3_copy_0 12 rfl rfl)
theorem dX3_copy_13 : decode cX3_copy 13 = .ok (.i2l, 1) := dk_133 (dk_at dksX3_copy_0 13 rfl rfl)
theorem dX3_copy_14 : decode cX3_copy 14 = .ok (.lconst 0, 1) := dk_9 (dk_at dksX3_copy_0 14 rfl rfl)
theorem dX3_copy_15 : decode cX3_copy 15 = .ok (.ldc2_w 300, 3) := dk_20 1 44 (dk_at dksX3_copy_0 15 rfl rfl)
theorem dX3_copy_18 : decode cX3_copy 18 = .ok (.invokestatic 75, 3) := dk_184 0 75 (dk_at dksX3_copy_0 18 rfl rfl)
theorem dX3_copy_21 : decode cX3_copy 21 = .ok (.ifCond .ne 5, 3) := dk_154 0 5 (dk_at dksX3_copy_0 21 rfl rfl)
theorem dX3_copy_24 : decode cX3_copy 24 = .ok (.iconst (-1), 1) := dk_2 (dk_at dksX3_copy_1 0 rfl rfl)
theorem dX3_copy_25 : decode cX3_copy 25 = .ok (.ireturn, 1) := dk_172 (dk_at dksX3_copy_1 1 rfl rfl)
theorem dX3_copy_26 : decode cX3_copy 26 = .ok (.aload_n 0, 1) := dk_42 (dk_at dksX3_copy_1 2 rfl rfl)
theorem dX3_copy_27 : decode cX3_copy 27 = .ok (.getfield 59, 3) := dk_180 0 59 (dk_at dksX3_copy_1 3 rfl rfl)
theorem dX3_copy_30 : decode cX3_copy 30 = .ok (.iload_n 1, 1) := dk_27 (dk_at dksX3_copy_1 6 rfl rfl)
theorem dX3_copy_31 : decode cX3_copy 31 = .ok (.iaload, 1) := dk_46 (dk_at dksX3_copy_1 7 rfl rfl)
theorem dX3_copy_32 : decode cX3_copy 32 = .ok (.ifCond .lt 12, 3) := dk_155 0 12 (dk_at dksX3_copy_1 8 rfl rfl)
theorem dX3_copy_35 : decode cX3_copy 35 = .ok (.aload_n 0, 1) := dk_42 (dk_at dksX3_copy_1 11 rfl rfl)
theorem dX3_copy_36 : decode cX3_copy 36 = .ok (.getfield 59, 3) := dk_180 0 59 (dk_at dksX3_copy_1 12 rfl rfl)
theorem dX3_copy_39 : decode cX3_copy 39 = .ok (.iload_n 3, 1) := dk_29 (dk_at dksX3_copy_1 15 rfl rfl)
theorem dX3_copy_40 : decode cX3_copy 40 = .ok (.iaload, 1) := dk_46 (dk_at dksX3_copy_1 16 rfl rfl)
theorem dX3_copy_41 : decode cX3_copy 41 = .ok (.ifCond .ge 6, 3) := dk_156 0 6 (dk_at dksX3_copy_1 17 rfl rfl)
theorem dX3_copy_44 : decode cX3_copy 44 = .ok (.bipush (-11), 2) := dk_16 245 (dk_at dksX3_copy_1 20 rfl rfl)
theorem dX3_copy_46 : decode cX3_copy 46 = .ok (.ireturn, 1) := dk_172 (dk_at dksX3_copy_1 22 rfl rfl)
theorem dX3_copy_47 : decode cX3_copy 47 = .ok (.aload_n 0, 1) := dk_42 (dk_at dksX3_copy_1 23 rfl rfl)
theorem dX3_copy_48 : decode cX3_copy 48 = .ok (.getfield 59, 3) := dk_180 0 59 (dk_at dksX3_copy_2 0 rfl rfl)
theorem dX3_copy_51 : decode cX3_copy 51 = .ok (.iload_n 1, 1) := dk_27 (dk_at dksX3_copy_2 3 rfl rfl)
theorem dX3_copy_52 : decode cX3_copy 52 = .ok (.iaload, 1) := dk_46 (dk_at dksX3_copy_2 4 rfl rfl)
theorem dX3_copy_53 : decode cX3_copy 53 = .ok (.aload_n 0, 1) := dk_42 (dk_at dksX3_copy_2 5 rfl rfl)
theorem dX3_copy_54 : decode cX3_copy 54 = .ok (.getfield 59, 3) := dk_180 0 59 (dk_at dksX3_copy_2 6 rfl rfl)
theorem dX3_copy_57 : decode cX3_copy 57 = .ok (.iload_n 3, 1) := dk_29 (dk_at dksX3_copy_2 9 rfl rfl)
theorem dX3_copy_58 : decode cX3_copy 58 = .ok (.iaload, 1) := dk_46 (dk_at dksX3_copy_2 10 rfl rfl)
theorem dX3_copy_59 : decode cX3_copy 59 = .ok (.if_icmp .eq 6, 3) := dk_159 0 6 (dk_at dksX3_copy_2 11 rfl rfl)
theorem dX3_copy_62 : decode cX3_copy 62 = .ok (.bipush (-12), 2) := dk_16 244 (dk_at dksX3_copy_2 14 rfl rfl)
theorem dX3_copy_64 : decode cX3_copy 64 = .ok (.ireturn, 1) := dk_172 (dk_at dksX3_copy_2 16 rfl rfl)
theorem dX3_copy_65 : decode cX3_copy 65 = .ok (.iload 5, 2) := dk_21 5 (dk_at dksX3_copy_2 17 rfl rfl)
theorem dX3_copy_67 : decode cX3_copy 67 = .ok (.ifCond .lt 44, 3) := dk_155 0 44 (dk_at dksX3_copy_2 19 rfl rfl)
theorem dX3_copy_70 : decode cX3_copy 70 = .ok (.iload_n 2, 1) := dk_28 (dk_at dksX3_copy_2 22 rfl rfl)
theorem dX3_copy_71 : decode cX3_copy 71 = .ok (.i2l, 1) := dk_133 (dk_at dksX3_copy_2 23 rfl rfl)
theorem dX3_copy_72 : decode cX3_copy 72 = .ok (.lconst 0, 1) := dk_9 (dk_at dksX3_copy_3 0 rfl rfl)
theorem dX3_copy_73 : decode cX3_copy 73 = .ok (.aload_n 0, 1) := dk_42 (dk_at dksX3_copy_3 1 rfl rfl)
theorem dX3_copy_74 : decode cX3_copy 74 = .ok (.getfield 62, 3) := dk_180 0 62 (dk_at dksX3_copy_3 2 rfl rfl)
theorem dX3_copy_77 : decode cX3_copy 77 = .ok (.iload_n 1, 1) := dk_27 (dk_at dksX3_copy_3 5 rfl rfl)
theorem dX3_copy_78 : decode cX3_copy 78 = .ok (.iaload, 1) := dk_46 (dk_at dksX3_copy_3 6 rfl rfl)
theorem dX3_copy_79 : decode cX3_copy 79 = .ok (.i2l, 1) := dk_133 (dk_at dksX3_copy_3 7 rfl rfl)
theorem dX3_copy_80 : decode cX3_copy 80 = .ok (.iload 5, 2) := dk_21 5 (dk_at dksX3_copy_3 8 rfl rfl)
theorem dX3_copy_82 : decode cX3_copy 82 = .ok (.i2l, 1) := dk_133 (dk_at dksX3_copy_3 10 rfl rfl)
theorem dX3_copy_83 : decode cX3_copy 83 = .ok (.lsub, 1) := dk_101 (dk_at dksX3_copy_3 11 rfl rfl)
theorem dX3_copy_84 : decode cX3_copy 84 = .ok (.invokestatic 75, 3) := dk_184 0 75 (dk_at dksX3_copy_3 12 rfl rfl)
theorem dX3_copy_87 : decode cX3_copy 87 = .ok (.ifCond .eq 24, 3) := dk_153 0 24 (dk_at dksX3_copy_3 15 rfl rfl)
theorem dX3_copy_90 : decode cX3_copy 90 = .ok (.iload 4, 2) := dk_21 4 (dk_at dksX3_copy_3 18 rfl rfl)
theorem dX3_copy_92 : decode cX3_copy 92 = .ok (.i2l, 1) := dk_133 (dk_at dksX3_copy_3 20 rfl rfl)
theorem dX3_copy_93 : decode cX3_copy 93 = .ok (.lconst 0, 1) := dk_9 (dk_at dksX3_copy_3 21 rfl rfl)
theorem dX3_copy_94 : decode cX3_copy 94 = .ok (.aload_n 0, 1) := dk_42 (dk_at dksX3_copy_3 22 rfl rfl)
theorem dX3_copy_95 : decode cX3_copy 95 = .ok (.getfield 62, 3) := dk_180 0 62 (dk_at dksX3_copy_4 0 rfl rfl)
theorem dX3_copy_98 : decode cX3_copy 98 = .ok (.iload_n 3, 1) := dk_29 (dk_at dksX3_copy_4 3 rfl rfl)
theorem dX3_copy_99 : decode cX3_copy 99 = .ok (.iaload, 1) := dk_46 (dk_at dksX3_copy_4 4 rfl rfl)
theorem dX3_copy_100 : decode cX3_copy 100 = .ok (.i2l, 1) := dk_133 (dk_at dksX3_copy_4 5 rfl rfl)
theorem dX3_copy_101 : decode cX3_copy 101 = .ok (.iload 5, 2) := dk_21 5 (dk_at dksX3_copy_4 6 rfl rfl)
theorem dX3_copy_103 : decode cX3_copy 103 = .ok (.i2l, 1) := dk_133 (dk_at dksX3_copy_4 8 rfl rfl)
theorem dX3_copy_104 : decode cX3_copy 104 = .ok (.lsub, 1) := dk_101 (dk_at dksX3_copy_4 9 rfl rfl)
theorem dX3_copy_105 : decode cX3_copy 105 = .ok (.invokestatic 75, 3) := dk_184 0 75 (dk_at dksX3_copy_4 10 rfl rfl)
theorem dX3_copy_108 : decode cX3_copy 108 = .ok (.ifCond .ne 6, 3) := dk_154 0 6 (dk_at dksX3_copy_4 13 rfl rfl)
theorem dX3_copy_111 : decode cX3_copy 111 = .ok (.bipush (-13), 2) := dk_16 243 (dk_at dksX3_copy_4 16 rfl rfl)
theorem dX3_copy_113 : decode cX3_copy 113 = .ok (.ireturn, 1) := dk_172 (dk_at dksX3_copy_4 18 rfl rfl)
theorem dX3_copy_114 : decode cX3_copy 114 = .ok (.iconst 0, 1) := dk_3 (dk_at dksX3_copy_4 19 rfl rfl)
theorem dX3_copy_115 : decode cX3_copy 115 = .ok (.istore 6, 2) := dk_54 6 (dk_at dksX3_copy_4 20 rfl rfl)
theorem dX3_copy_117 : decode cX3_copy 117 = .ok (.iload 6, 2) := dk_21 6 (dk_at dksX3_copy_4 22 rfl rfl)
theorem dX3_copy_119 : decode cX3_copy 119 = .ok (.iload 5, 2) := dk_21 5 (dk_at dksX3_copy_5 0 rfl rfl)
theorem dX3_copy_121 : decode cX3_copy 121 = .ok (.if_icmp .ge 30, 3) := dk_162 0 30 (dk_at dksX3_copy_5 2 rfl rfl)
theorem dX3_copy_124 : decode cX3_copy 124 = .ok (.aload_n 0, 1) := dk_42 (dk_at dksX3_copy_5 5 rfl rfl)
theorem dX3_copy_125 : decode cX3_copy 125 = .ok (.getfield 69, 3) := dk_180 0 69 (dk_at dksX3_copy_5 6 rfl rfl)
theorem dX3_copy_128 : decode cX3_copy 128 = .ok (.iload 6, 2) := dk_21 6 (dk_at dksX3_copy_5 9 rfl rfl)
theorem dX3_copy_130 : decode cX3_copy 130 = .ok (.aload_n 0, 1) := dk_42 (dk_at dksX3_copy_5 11 rfl rfl)
theorem dX3_copy_131 : decode cX3_copy 131 = .ok (.getfield 65, 3) := dk_180 0 65 (dk_at dksX3_copy_5 12 rfl rfl)
theorem dX3_copy_134 : decode cX3_copy 134 = .ok (.bipush 24, 2) := dk_16 24 (dk_at dksX3_copy_5 15 rfl rfl)
theorem dX3_copy_136 : decode cX3_copy 136 = .ok (.iload_n 1, 1) := dk_27 (dk_at dksX3_copy_5 17 rfl rfl)
theorem dX3_copy_137 : decode cX3_copy 137 = .ok (.imul, 1) := dk_104 (dk_at dksX3_copy_5 18 rfl rfl)
theorem dX3_copy_138 : decode cX3_copy 138 = .ok (.iload_n 2, 1) := dk_28 (dk_at dksX3_copy_5 19 rfl rfl)
theorem dX3_copy_139 : decode cX3_copy 139 = .ok (.iadd, 1) := dk_96 (dk_at dksX3_copy_5 20 rfl rfl)
theorem dX3_copy_140 : decode cX3_copy 140 = .ok (.iload 6, 2) := dk_21 6 (dk_at dksX3_copy_5 21 rfl rfl)
theorem dX3_copy_142 : decode cX3_copy 142 = .ok (.iadd, 1) := dk_96 (dk_at dksX3_copy_5 23 rfl rfl)
theorem dX3_copy_143 : decode cX3_copy 143 = .ok (.laload, 1) := dk_47 (dk_at dksX3_copy_6 0 rfl rfl)
theorem dX3_copy_144 : decode cX3_copy 144 = .ok (.lastore, 1) := dk_80 (dk_at dksX3_copy_6 1 rfl rfl)
theorem dX3_copy_145 : decode cX3_copy 145 = .ok (.iinc 6 1, 3) := dk_132 6 1 (dk_at dksX3_copy_6 2 rfl rfl)
theorem dX3_copy_148 : decode cX3_copy 148 = .ok (.goto (-31), 3) := dk_167 255 225 (dk_at dksX3_copy_6 5 rfl rfl)
theorem dX3_copy_151 : decode cX3_copy 151 = .ok (.iconst 0, 1) := dk_3 (dk_at dksX3_copy_6 8 rfl rfl)
theorem dX3_copy_152 : decode cX3_copy 152 = .ok (.istore 6, 2) := dk_54 6 (dk_at dksX3_copy_6 9 rfl rfl)
theorem dX3_copy_154 : decode cX3_copy 154 = .ok (.iload 6, 2) := dk_21 6 (dk_at dksX3_copy_6 11 rfl rfl)
theorem dX3_copy_156 : decode cX3_copy 156 = .ok (.iload 5, 2) := dk_21 5 (dk_at dksX3_copy_6 13 rfl rfl)
theorem dX3_copy_158 : decode cX3_copy 158 = .ok (.if_icmp .ge 31, 3) := dk_162 0 31 (dk_at dksX3_copy_6 15 rfl rfl)
theorem dX3_copy_161 : decode cX3_copy 161 = .ok (.aload_n 0, 1) := dk_42 (dk_at dksX3_copy_6 18 rfl rfl)
theorem dX3_copy_162 : decode cX3_copy 162 = .ok (.getfield 65, 3) := dk_180 0 65 (dk_at dksX3_copy_6 19 rfl rfl)
theorem dX3_copy_165 : decode cX3_copy 165 = .ok (.bipush 24, 2) := dk_16 24 (dk_at dksX3_copy_6 22 rfl rfl)
theorem dX3_copy_167 : decode cX3_copy 167 = .ok (.iload_n 3, 1) := dk_29 (dk_at dksX3_copy_7 0 rfl rfl)
theorem dX3_copy_168 : decode cX3_copy 168 = .ok (.imul, 1) := dk_104 (dk_at dksX3_copy_7 1 rfl rfl)
theorem dX3_copy_169 : decode cX3_copy 169 = .ok (.iload 4, 2) := dk_21 4 (dk_at dksX3_copy_7 2 rfl rfl)
theorem dX3_copy_171 : decode cX3_copy 171 = .ok (.iadd, 1) := dk_96 (dk_at dksX3_copy_7 4 rfl rfl)
theorem dX3_copy_172 : decode cX3_copy 172 = .ok (.iload 6, 2) := dk_21 6 (dk_at dksX3_copy_7 5 rfl rfl)
theorem dX3_copy_174 : decode cX3_copy 174 = .ok (.iadd, 1) := dk_96 (dk_at dksX3_copy_7 7 rfl rfl)
theorem dX3_copy_175 : decode cX3_copy 175 = .ok (.aload_n 0, 1) := dk_42 (dk_at dksX3_copy_7 8 rfl rfl)
theorem dX3_copy_176 : decode cX3_copy 176 = .ok (.getfield 69, 3) := dk_180 0 69 (dk_at dksX3_copy_7 9 rfl rfl)
theorem dX3_copy_179 : decode cX3_copy 179 = .ok (.iload 6, 2) := dk_21 6 (dk_at dksX3_copy_7 12 rfl rfl)
theorem dX3_copy_181 : decode cX3_copy 181 = .ok (.laload, 1) := dk_47 (dk_at dksX3_copy_7 14 rfl rfl)
theorem dX3_copy_182 : decode cX3_copy 182 = .ok (.lastore, 1) := dk_80 (dk_at dksX3_copy_7 15 rfl rfl)
theorem dX3_copy_183 : decode cX3_copy 183 = .ok (.iinc 6 1, 3) := dk_132 6 1 (dk_at dksX3_copy_7 16 rfl rfl)
theorem dX3_copy_186 : decode cX3_copy 186 = .ok (.goto (-32), 3) := dk_167 255 224 (dk_at dksX3_copy_7 19 rfl rfl)
theorem dX3_copy_189 : decode cX3_copy 189 = .ok (.iload 5, 2) := dk_21 5 (dk_at dksX3_copy_7 22 rfl rfl)
theorem dX3_copy_191 : decode cX3_copy 191 = .ok (.ireturn, 1) := dk_172 (dk_at dksX3_copy_8 0 rfl rfl)
theorem q1706 : (Jvm.Cond.fieldLink "LameClocksModel" (69 : Nat) "LameClocksModel" "moved" "[J") ∈ lw_all := lw_g (lw_at lw_m7 197 rfl) rfl
theorem q2160 : (Jvm.Cond.code ({ cls := "LameClocksModel", name := "seen", desc := "(III)I" } : Jvm.MethodName) prog_24_method_97_code (8 : Nat) (Option.some Jvm.ClassFile.FieldType.int)) ∈ lw_all := lw_g (lw_at lw_m9 171 rfl) rfl
theorem q2161 : (Jvm.Cond.methodLink "LameClocksModel" (312 : Nat) ({ cls := "LameClocksModel", name := "areSo", desc := "(I)Z" } : Jvm.MethodName)) ∈ lw_all := lw_g (lw_at lw_m9 172 rfl) rfl
theorem q2163 : (Jvm.Cond.instanceMethod ({ cls := "LameClocksModel", name := "areSo", desc := "(I)Z" } : Jvm.MethodName)) ∈ lw_all := lw_g (lw_at lw_m9 174 rfl) rfl
theorem q2168 : (Jvm.Cond.code ({ cls := "LameClocksModel", name := "copy", desc := "(IIIII)I" } : Jvm.MethodName) prog_24_method_98_code (7 : Nat) (Option.some Jvm.ClassFile.FieldType.int)) ∈ lw_all := lw_g (lw_at lw_m9 179 rfl) rfl
theorem dmV_X3_areSo : yX3_areSo.cls = RX3 ∧ yX3_areSo.cls ≠ "java/lang/invoke/MethodHandle" ∧ yX3_areSo.cls ≠ "java/lang/invoke/VarHandle" ∧ (parseMethodDescriptor yX3_areSo.desc).map (fun d => d.parameters.length) = some 1 := by decide +kernel
theorem fo_X3_69 : g_fo RX3 69 [3] 26 := ⟨_, _, _, Or.inl q1706, fun ci h => by rcases List.mem_singleton.mp h with rfl; exact ⟨_, _, _, rfl, by decide, rfl, rfl, Or.inl rfl, in_X3⟩⟩
section MP
variable {Γ : Gc} {p : Program} {l : Launch} {e : Env} {s : State} {m : MethodId} {args : Array Value} {below : List Frame} {meth : Method} {c : Code} {mo : Nat} {ρ : Sg} {sz : Nat} {tF : MS}
def fX3_seen_78 (x5 : Int32) (x6 : Int32) (t : MS) : Option (Int32 × MS) := gm (fX3_areSo x5 t) fun r1 t2 => if r1 = 0 then gm (fX3_bringBack t2) fun _ t4 => some ((-4), t4) else gm (fX3_bringBack t2) fun _ t6 => some (x6, t6)
set_option maxHeartbeats 4000000 in
theorem wX3_seen_78 {rF : Int32} (X : g_X Γ p s m args meth c cX3_seen 8 RX3) (hr : meth.sig.returnType = (Option.some Jvm.ClassFile.FieldType.int)) (x5 : Int32) (x6 : Int32) (t : MS) : Wf Γ p l e 5 112 s m args below meth c 8 (m_ι mo ρ sz) v_i rF tF 78 [(0, .ref mo), (5, .int x5), (6, .int x6)] [] t (fX3_seen_78 x5 x6 t) := by
  unfold fX3_seen_78
  refine g_aload_n (pc := 78) X 0 dX3_seen_78 rfl rfl ?_
  refine g_iload (pc := 79) X 1 dX3_seen_79 rfl ?_
  refine g_mV_i (pc := 81) X (C := RX3) (y := yX3_areSo) (As := [.int x5]) (rest := []) (fr' := 0) (lo' := 0) (fun _ => cwV 1 X.2.2.2.2.1 (lw_V q2161 q2163 qs68 q76 q2164) rfl rfl rfl dmV_X3_areSo ⟨Nat.le_of_ble_eq_true rfl, Nat.le_of_ble_eq_true rfl⟩) dX3_seen_81 MC_o ⟨_, _, rfl⟩ rfl rfl (Nat.le_of_ble_eq_true rfl) (fun _ => rfl) (fun r u h => kX3_areSo h) (fun r1 t2 => ?_)
  refine g_if_eq (pc := 84) X 92 dX3_seen_84 (by decide) ?_ ?_
  · refine g_bipush (pc := 92) X (-4) dX3_seen_92 rfl ?_
    refine g_istore (pc := 94) X (lv' := [(7, .int (-4)), (0, .ref mo), (5, .int x5), (6, .int x6)]) dX3_seen_94 (by decide) rfl ?_
    refine g_aload_n (pc := 96) X 1 dX3_seen_96 rfl rfl ?_
    refine g_mV_v (pc := 97) X (C := RX3) (y := yX3_bringBack) (As := []) (rest := []) (fr' := 0) (lo' := 0) (fun _ => cwV 0 X.2.2.2.2.1 (lw_V q2013 q2015 qs61 q76 q2016) rfl rfl rfl dmV_X3_bringBack ⟨Nat.le_of_ble_eq_true rfl, Nat.le_of_ble_eq_true rfl⟩) dX3_seen_97 MC_o ⟨_, _, rfl⟩ rfl rfl (Nat.le_of_ble_eq_true rfl) (fun _ => rfl) (fun r u h => kX3_bringBack h) (fun r3 t4 => ?_)
    refine g_iload (pc := 100) X 0 dX3_seen_100 rfl ?_
    exact g_iret (pc := 102) X hr dX3_seen_102
  · refine g_iload (pc := 87) X 2 dX3_seen_87 rfl ?_
    refine g_goto (pc := 89) X 94 dX3_seen_89 (by decide) ?_
    refine g_istore (pc := 94) X (lv' := [(7, .int x6), (0, .ref mo), (5, .int x5), (6, .int x6)]) dX3_seen_94 (by decide) rfl ?_
    refine g_aload_n (pc := 96) X 1 dX3_seen_96 rfl rfl ?_
    refine g_mV_v (pc := 97) X (C := RX3) (y := yX3_bringBack) (As := []) (rest := []) (fr' := 0) (lo' := 0) (fun _ => cwV 0 X.2.2.2.2.1 (lw_V q2013 q2015 qs61 q76 q2016) rfl rfl rfl dmV_X3_bringBack ⟨Nat.le_of_ble_eq_true rfl, Nat.le_of_ble_eq_true rfl⟩) dX3_seen_97 MC_o ⟨_, _, rfl⟩ rfl rfl (Nat.le_of_ble_eq_true rfl) (fun _ => rfl) (fun r u h => kX3_bringBack h) (fun r5 t6 => ?_)
    refine g_iload (pc := 100) X 0 dX3_seen_100 rfl ?_
    exact g_iret (pc := 102) X hr dX3_seen_102
def fX3_seen_46 : Nat → Int32 → Int32 → MS → Option (Int32 × MS)
  | 0, _, _, _ => none
  | n + 1, x5, x6, t => if 200 ≤ x6 then fX3_seen_78 x5 x6 t else gm (fX3_areSo x5 t) fun r1 t2 => if r1 = 0 then gm (fX3_skyNow t2) fun r3 t4 => gm (fX3_goOn r3 t4) fun r5 t6 => fX3_seen_46 n x5 (x6 + 1) t6 else fX3_seen_78 x5 x6 t2
set_option maxHeartbeats 4000000 in
theorem wX3_seen_46 {rF : Int32} (X : g_X Γ p s m args meth c cX3_seen 8 RX3) (hr : meth.sig.returnType = (Option.some Jvm.ClassFile.FieldType.int)) (n : Nat) : ∀ (x5 : Int32) (x6 : Int32) (t : MS), Wf Γ p l e 5 112 s m args below meth c 8 (m_ι mo ρ sz) v_i rF tF 46 [(0, .ref mo), (5, .int x5), (6, .int x6)] [] t (fX3_seen_46 n x5 x6 t) := by
  induction n with
  | zero => intro x5 x6 t; exact g_none
  | succ n ih =>
    intro x5 x6 t
    rw [fX3_seen_46]
    refine g_iload (pc := 46) X 2 dX3_seen_46 rfl ?_
    refine g_sipush (pc := 48) X 200 dX3_seen_48 rfl ?_
    refine g_icmp_ge (pc := 51) X 78 dX3_seen_51 (by decide) ?_ ?_
    · exact g_lv (pc := 78) (lv' := [(0, .ref mo), (5, .int x5), (6, .int x6)]) [0, 1, 2] rfl (wX3_seen_78 X hr x5 x6 t)
    · refine g_aload_n (pc := 54) X 0 dX3_seen_54 rfl rfl ?_
      refine g_iload (pc := 55) X 1 dX3_seen_55 rfl ?_
      refine g_mV_i (pc := 57) X (C := RX3) (y := yX3_areSo) (As := [.int x5]) (rest := []) (fr' := 0) (lo' := 0) (fun _ => cwV 1 X.2.2.2.2.1 (lw_V q2161 q2163 qs68 q76 q2164) rfl rfl rfl dmV_X3_areSo ⟨Nat.le_of_ble_eq_true rfl, Nat.le_of_ble_eq_true rfl⟩) dX3_seen_57 MC_o ⟨_, _, rfl⟩ rfl rfl (Nat.le_of_ble_eq_true rfl) (fun _ => rfl) (fun r u h => kX3_areSo h) (fun r1 t2 => ?_)
      refine g_if_ne (pc := 60) X 78 dX3_seen_60 (by decide) ?_ ?_
      · exact g_lv (pc := 78) (lv' := [(0, .ref mo), (5, .int x5), (6, .int x6)]) [0, 1, 2] rfl (wX3_seen_78 X hr x5 x6 t2)
      · refine g_aload_n (pc := 63) X 0 dX3_seen_63 rfl rfl ?_
        refine g_aload_n (pc := 64) X 0 dX3_seen_64 rfl rfl ?_
        refine g_mV_i (pc := 65) X (C := RX3) (y := yX3_skyNow) (As := []) (rest := [.ref mo]) (fr' := 0) (lo' := 0) (fun _ => cwV 0 X.2.2.2.2.1 (lw_V q1930 q1932 qs50 q76 q1933) rfl rfl rfl dmV_X3_skyNow ⟨Nat.le_of_ble_eq_true rfl, Nat.le_of_ble_eq_true rfl⟩) dX3_seen_65 MC_o ⟨_, _, rfl⟩ rfl rfl (Nat.le_of_ble_eq_true rfl) (fun _ => rfl) (fun r u h => kX3_skyNow h) (fun r3 t4 => ?_)
        refine g_mV_i (pc := 68) X (C := RX3) (y := yX3_goOn) (As := [.int r3]) (rest := []) (fr' := 4) (lo' := 86) (fun _ => cwV 1 X.2.2.2.2.1 (lw_V q1934 q1936 qs51 q76 q1937) rfl rfl rfl dmV_X3_goOn ⟨Nat.le_of_ble_eq_true rfl, Nat.le_of_ble_eq_true rfl⟩) dX3_seen_68 MC_o ⟨_, _, rfl⟩ rfl rfl (Nat.le_of_ble_eq_true rfl) (fun _ => rfl) (fun r u h => kX3_goOn h) (fun r5 t6 => ?_)
        refine g_pop (pc := 71) X dX3_seen_71 rfl ?_
        refine g_iinc (pc := 72) X 1 2 (lv' := [(6, .int (x6 + 1)), (0, .ref mo), (5, .int x5)]) dX3_seen_72 rfl rfl (by decide) rfl ?_
        refine g_goto (pc := 75) X 46 dX3_seen_75 (by decide) ?_
        exact g_lv (pc := 46) (lv' := [(0, .ref mo), (5, .int x5), (6, .int (x6 + 1))]) [1, 2, 0] rfl (ih x5 (x6 + 1) t6)
def fX3_seen (x1 : Int32) (x2 : Int32) (x3 : Int32) (t : MS) : Option (Int32 × MS) := gm (fX3_isSheet x1 x2 t) fun r1 t2 => if r1 = 0 then some ((-1), t2) else gm (fX3_lacksRow x1 x2 x3 (t2.1 3) t2) fun r3 t4 => if 0 ≤ r3 then lt ((24 * x1) + x3) fun y5 => gm (fX3_keepAside t4) fun _ t7 => fX3_seen_46 1000 y5 0 t7 else some (r3, t4)
set_option maxHeartbeats 4000000 in
theorem wX3_seen {rF : Int32} (X : g_X Γ p s m args meth c cX3_seen 8 RX3) (hr : meth.sig.returnType = (Option.some Jvm.ClassFile.FieldType.int)) (x1 : Int32) (x2 : Int32) (x3 : Int32) (t : MS) : Wf Γ p l e 5 112 s m args below meth c 8 (m_ι mo ρ sz) v_i rF tF 0 [(0, .ref mo), (1, .int x1), (2, .int x2), (3, .int x3)] [] t (fX3_seen x1 x2 x3 t) := by
  unfold fX3_seen
  refine g_iload_n (pc := 0) X 1 dX3_seen_0 rfl rfl ?_
  refine g_iload_n (pc := 1) X 2 dX3_seen_1 rfl rfl ?_
  refine g_mS_i (pc := 2) X (y := yX3_isSheet) (As := [.int x1, .int x2]) (rest := []) (fr' := 1) (lo' := 25) (fun _ => va_cwS 2 X.2.2.2.2.1 (lw_S q2130 q2131 q76 q2132) rfl rfl rfl dmS_X3_isSheet ⟨Nat.le_of_ble_eq_true rfl, Nat.le_of_ble_eq_true rfl⟩) dX3_seen_2 rfl rfl (Nat.le_of_ble_eq_true rfl) (fun _ => rfl) (fun r u h => kX3_isSheet h) (fun r1 t2 => ?_)
  refine g_if_ne (pc := 5) X 10 dX3_seen_5 (by decide) ?_ ?_
  · refine g_aload_n (pc := 10) X 0 dX3_seen_10 rfl rfl ?_
    refine g_iload_n (pc := 11) X 1 dX3_seen_11 rfl rfl ?_
    refine g_iload_n (pc := 12) X 2 dX3_seen_12 rfl rfl ?_
    refine g_iload_n (pc := 13) X 3 dX3_seen_13 rfl rfl ?_
    refine g_aload_n (pc := 14) X 0 dX3_seen_14 rfl rfl ?_
    refine mg_get (pc := 15) X fo_X3_72 dX3_seen_15 rfl ?_
    refine g_mV_i (pc := 18) X (C := RX3) (y := yX3_lacksRow) (As := [.int x1, .int x2, .int x3, .int (t2.1 3)]) (rest := []) (fr' := 1) (lo' := 25) (fun _ => cwV 4 X.2.2.2.2.1 (lw_V q2142 q2144 qs67 q76 q2145) rfl rfl rfl dmV_X3_lacksRow ⟨Nat.le_of_ble_eq_true rfl, Nat.le_of_ble_eq_true rfl⟩) dX3_seen_18 MC_o ⟨_, _, rfl⟩ rfl rfl (Nat.le_of_ble_eq_true rfl) (fun _ => rfl) (fun r u h => kX3_lacksRow h) (fun r3 t4 => ?_)
    refine g_istore (pc := 21) X (lv' := [(4, .int r3), (0, .ref mo), (1, .int x1), (2, .int x2), (3, .int x3)]) dX3_seen_21 (by decide) rfl ?_
    refine g_iload (pc := 23) X 0 dX3_seen_23 rfl ?_
    refine g_if_ge (pc := 25) X 31 dX3_seen_25 (by decide) ?_ ?_
    · refine g_bipush (pc := 31) X 24 dX3_seen_31 rfl ?_
      refine g_iload_n (pc := 33) X 2 dX3_seen_33 rfl rfl ?_
      refine g_imul (pc := 34) X dX3_seen_34 ?_
      refine g_iload_n (pc := 35) X 4 dX3_seen_35 rfl rfl ?_
      refine g_iadd (pc := 36) X dX3_seen_36 ?_
      refine g_lti (pc := 37) (fun y5 => ?_)
      refine g_istore (pc := 37) X (lv' := [(5, .int y5), (4, .int r3), (0, .ref mo), (1, .int x1), (2, .int x2), (3, .int x3)]) dX3_seen_37 (by decide) rfl ?_
      refine g_aload_n (pc := 39) X 2 dX3_seen_39 rfl rfl ?_
      refine g_mV_v (pc := 40) X (C := RX3) (y := yX3_keepAside) (As := []) (rest := []) (fr' := 0) (lo' := 0) (fun _ => cwV 0 X.2.2.2.2.1 (lw_V q2005 q2007 qs59 q76 q2008) rfl rfl rfl dmV_X3_keepAside ⟨Nat.le_of_ble_eq_true rfl, Nat.le_of_ble_eq_true rfl⟩) dX3_seen_40 MC_o ⟨_, _, rfl⟩ rfl rfl (Nat.le_of_ble_eq_true rfl) (fun _ => rfl) (fun r u h => kX3_keepAside h) (fun r6 t7 => ?_)
      refine g_iconst (pc := 43) X 0 dX3_seen_43 rfl ?_
      refine g_istore (pc := 44) X (lv' := [(6, .int 0), (5, .int y5), (4, .int r3), (0, .ref mo), (1, .int x1), (2, .int x2), (3, .int x3)]) dX3_seen_44 (by decide) rfl ?_
      exact g_lv (pc := 46) (lv' := [(0, .ref mo), (5, .int y5), (6, .int 0)]) [3, 1, 0] rfl (wX3_seen_46 X hr 1000 y5 0 t7)
    · refine g_iload (pc := 28) X 0 dX3_seen_28 rfl ?_
      exact g_iret (pc := 30) X hr dX3_seen_30
  · refine g_iconst (pc := 8) X (-1) dX3_seen_8 rfl ?_
    exact g_iret (pc := 9) X hr dX3_seen_9
theorem kX3_seen {mo : Nat} {ρ : Sg} {sz : Nat} {x1 : Int32} {x2 : Int32} {x3 : Int32} {t : MS} {r : Int32} {u : MS} (h : fX3_seen x1 x2 x3 t = some (r, u)) : g_C Γ l yX3_seen cX3_seen 8 (Option.some Jvm.ClassFile.FieldType.int) 5 112 [.ref mo, .int x1, .int x2, .int x3] (MC mo t ρ) sz v_i r (m_ι mo ρ sz u) :=
  g_met [.ref mo, .int x1, .int x2, .int x3] (by decide) (Nat.le_of_ble_eq_true rfl) h rfl (fun p e s m args below meth c X hr hn => wX3_seen X hr x1 x2 x3 t)
def fX3_copy_154 : Nat → Int32 → Int32 → Int32 → Int32 → MS → Option (Int32 × MS)
  | 0, _, _, _, _, _ => none
  | n + 1, x3, x4, x5, x6, t => if x5 ≤ x6 then some (x5, t) else mldl t 1 24 x6 fun v1 => mstl t 0 96 (((24 * x3) + x4) + x6) v1 fun t2 => fX3_copy_154 n x3 x4 x5 (x6 + 1) t2
set_option maxHeartbeats 4000000 in
theorem wX3_copy_154 {rF : Int32} (X : g_X Γ p s m args meth c cX3_copy 7 RX3) (hr : meth.sig.returnType = (Option.some Jvm.ClassFile.FieldType.int)) (n : Nat) : ∀ (x3 : Int32) (x4 : Int32) (x5 : Int32) (x6 : Int32) (t : MS), Wf Γ p l e 1 25 s m args below meth c 7 (m_ι mo ρ sz) v_i rF tF 154 [(0, .ref mo), (3, .int x3), (4, .int x4), (5, .int x5), (6, .int x6)] [] t (fX3_copy_154 n x3 x4 x5 x6 t) := by
  induction n with
  | zero => intro x3 x4 x5 x6 t; exact g_none
  | succ n ih =>
    intro x3 x4 x5 x6 t
    rw [fX3_copy_154]
    refine g_iload (pc := 154) X 4 dX3_copy_154 rfl ?_
    refine g_iload (pc := 156) X 3 dX3_copy_156 rfl ?_
    refine g_icmp_ge (pc := 158) X 189 dX3_copy_158 (by decide) ?_ ?_
    · refine g_iload (pc := 189) X 3 dX3_copy_189 rfl ?_
      exact g_iret (pc := 191) X hr dX3_copy_191
    · refine g_aload_n (pc := 161) X 0 dX3_copy_161 rfl rfl ?_
      refine mg_get (pc := 162) X fo_X3_65 dX3_copy_162 rfl ?_
      refine g_bipush (pc := 165) X 24 dX3_copy_165 rfl ?_
      refine g_iload_n (pc := 167) X 1 dX3_copy_167 rfl rfl ?_
      refine g_imul (pc := 168) X dX3_copy_168 ?_
      refine g_iload (pc := 169) X 2 dX3_copy_169 rfl ?_
      refine g_iadd (pc := 171) X dX3_copy_171 ?_
      refine g_iload (pc := 172) X 4 dX3_copy_172 rfl ?_
      refine g_iadd (pc := 174) X dX3_copy_174 ?_
      refine g_aload_n (pc := 175) X 0 dX3_copy_175 rfl rfl ?_
      refine mg_get (pc := 176) X fo_X3_69 dX3_copy_176 rfl ?_
      refine g_iload (pc := 179) X 4 dX3_copy_179 rfl ?_
      refine mg_ldl (pc := 181) X (j := 1) dX3_copy_181 (by decide) rfl (fun v1 => ?_)
      refine mg_stl (pc := 182) X (j := 0) dX3_copy_182 (by decide) rfl (fun t2 => ?_)
      refine g_iinc (pc := 183) X 1 4 (lv' := [(6, .int (x6 + 1)), (0, .ref mo), (3, .int x3), (4, .int x4), (5, .int x5)]) dX3_copy_183 rfl rfl (by decide) rfl ?_
      refine g_goto (pc := 186) X 154 dX3_copy_186 (by decide) ?_
      exact g_lv (pc := 154) (lv' := [(0, .ref mo), (3, .int x3), (4, .int x4), (5, .int x5), (6, .int (x6 + 1))]) [1, 2, 3, 4, 0] rfl (ih x3 x4 x5 (x6 + 1) t2)
def fX3_copy_117 : Nat → Int32 → Int32 → Int32 → Int32 → Int32 → Int32 → MS → Option (Int32 × MS)
  | 0, _, _, _, _, _, _, _ => none
  | n + 1, x1, x2, x3, x4, x5, x6, t => if x5 ≤ x6 then fX3_copy_154 1000 x3 x4 x5 0 t else mldl t 0 96 (((24 * x1) + x2) + x6) fun v1 => mstl t 1 24 x6 v1 fun t2 => fX3_copy_117 n x1 x2 x3 x4 x5 (x6 + 1) t2
set_option maxHeartbeats 4000000 in
theorem wX3_copy_117 {rF : Int32} (X : g_X Γ p s m args meth c cX3_copy 7 RX3) (hr : meth.sig.returnType = (Option.some Jvm.ClassFile.FieldType.int)) (n : Nat) : ∀ (x1 : Int32) (x2 : Int32) (x3 : Int32) (x4 : Int32) (x5 : Int32) (x6 : Int32) (t : MS), Wf Γ p l e 1 25 s m args below meth c 7 (m_ι mo ρ sz) v_i rF tF 117 [(0, .ref mo), (1, .int x1), (2, .int x2), (3, .int x3), (4, .int x4), (5, .int x5), (6, .int x6)] [] t (fX3_copy_117 n x1 x2 x3 x4 x5 x6 t) := by
  induction n with
  | zero => intro x1 x2 x3 x4 x5 x6 t; exact g_none
  | succ n ih =>
    intro x1 x2 x3 x4 x5 x6 t
    rw [fX3_copy_117]
    refine g_iload (pc := 117) X 6 dX3_copy_117 rfl ?_
    refine g_iload (pc := 119) X 5 dX3_copy_119 rfl ?_
    refine g_icmp_ge (pc := 121) X 151 dX3_copy_121 (by decide) ?_ ?_
    · refine g_iconst (pc := 151) X 0 dX3_copy_151 rfl ?_
      refine g_istore (pc := 152) X (lv' := [(6, .int 0), (0, .ref mo), (1, .int x1), (2, .int x2), (3, .int x3), (4, .int x4), (5, .int x5)]) dX3_copy_152 (by decide) rfl ?_
      exact g_lv (pc := 154) (lv' := [(0, .ref mo), (3, .int x3), (4, .int x4), (5, .int x5), (6, .int 0)]) [1, 4, 5, 6, 0] rfl (wX3_copy_154 X hr 1000 x3 x4 x5 0 t)
    · refine g_aload_n (pc := 124) X 0 dX3_copy_124 rfl rfl ?_
      refine mg_get (pc := 125) X fo_X3_69 dX3_copy_125 rfl ?_
      refine g_iload (pc := 128) X 6 dX3_copy_128 rfl ?_
      refine g_aload_n (pc := 130) X 0 dX3_copy_130 rfl rfl ?_
      refine mg_get (pc := 131) X fo_X3_65 dX3_copy_131 rfl ?_
      refine g_bipush (pc := 134) X 24 dX3_copy_134 rfl ?_
      refine g_iload_n (pc := 136) X 1 dX3_copy_136 rfl rfl ?_
      refine g_imul (pc := 137) X dX3_copy_137 ?_
      refine g_iload_n (pc := 138) X 2 dX3_copy_138 rfl rfl ?_
      refine g_iadd (pc := 139) X dX3_copy_139 ?_
      refine g_iload (pc := 140) X 6 dX3_copy_140 rfl ?_
      refine g_iadd (pc := 142) X dX3_copy_142 ?_
      refine mg_ldl (pc := 143) X (j := 0) dX3_copy_143 (by decide) rfl (fun v1 => ?_)
      refine mg_stl (pc := 144) X (j := 1) dX3_copy_144 (by decide) rfl (fun t2 => ?_)
      refine g_iinc (pc := 145) X 1 6 (lv' := [(6, .int (x6 + 1)), (0, .ref mo), (1, .int x1), (2, .int x2), (3, .int x3), (4, .int x4), (5, .int x5)]) dX3_copy_145 rfl rfl (by decide) rfl ?_
      refine g_goto (pc := 148) X 117 dX3_copy_148 (by decide) ?_
      exact g_lv (pc := 117) (lv' := [(0, .ref mo), (1, .int x1), (2, .int x2), (3, .int x3), (4, .int x4), (5, .int x5), (6, .int (x6 + 1))]) [1, 2, 3, 4, 5, 6, 0] rfl (ih x1 x2 x3 x4 x5 (x6 + 1) t2)
def fX3_copy (x1 : Int32) (x2 : Int32) (x3 : Int32) (x4 : Int32) (x5 : Int32) (t : MS) : Option (Int32 × MS) := gm (fX3_in x1.toInt64 0 3 t) fun r1 t2 => if r1 = 0 then some ((-1), t2) else gm (fX3_in x3.toInt64 0 3 t2) fun r3 t4 => if r3 = 0 then some ((-1), t4) else mald t4 12 4 x1 fun v5 => if v5 < 0 then some ((-11), t4) else mald t4 12 4 x3 fun v6 => if 0 ≤ v6 then mald t4 12 4 x1 fun v7 => mald t4 12 4 x3 fun v8 => if v7 = v8 then if x5 < 0 then some ((-13), t4) else mald t4 13 4 x1 fun v9 => gm (fX3_in x2.toInt64 0 (v9.toInt64 - x5.toInt64) t4) fun r10 t11 => if r10 = 0 then some ((-13), t11) else mald t11 13 4 x3 fun v12 => gm (fX3_in x4.toInt64 0 (v12.toInt64 - x5.toInt64) t11) fun r13 t14 => if r13 = 0 then some ((-13), t14) else fX3_copy_117 1000 x1 x2 x3 x4 x5 0 t14 else some ((-12), t4) else some ((-11), t4)
set_option maxHeartbeats 4000000 in
theorem wX3_copy {rF : Int32} (X : g_X Γ p s m args meth c cX3_copy 7 RX3) (hr : meth.sig.returnType = (Option.some Jvm.ClassFile.FieldType.int)) (x1 : Int32) (x2 : Int32) (x3 : Int32) (x4 : Int32) (x5 : Int32) (t : MS) : Wf Γ p l e 1 25 s m args below meth c 7 (m_ι mo ρ sz) v_i rF tF 0 [(0, .ref mo), (1, .int x1), (2, .int x2), (3, .int x3), (4, .int x4), (5, .int x5)] [] t (fX3_copy x1 x2 x3 x4 x5 t) := by
  unfold fX3_copy
  refine g_iload_n (pc := 0) X 1 dX3_copy_0 rfl rfl ?_
  refine g_i2l (pc := 1) X dX3_copy_1 ?_
  refine g_lconst (pc := 2) X 0 dX3_copy_2 rfl ?_
  refine g_ldc2 (pc := 3) X 3 dX3_copy_3 q2133 ?_
  refine g_mS_i (pc := 6) X (y := yX3_in) (As := [.long x1.toInt64, .long 0, .long 3]) (rest := []) (fr' := 0) (lo' := 0) (fun _ => va_cwS 3 X.2.2.2.2.1 (lw_S q1767 q1768 q76 q1769) rfl rfl rfl dmS_X3_in ⟨Nat.le_of_ble_eq_true rfl, Nat.le_of_ble_eq_true rfl⟩) dX3_copy_6 rfl rfl (Nat.le_of_ble_eq_true rfl) (fun _ => rfl) (fun r u h => kX3_in h) (fun r1 t2 => ?_)
  refine g_if_eq (pc := 9) X 24 dX3_copy_9 (by decide) ?_ ?_
  · refine g_iconst (pc := 24) X (-1) dX3_copy_24 rfl ?_
    exact g_iret (pc := 25) X hr dX3_copy_25
  · refine g_iload_n (pc := 12) X 3 dX3_copy_12 rfl rfl ?_
    refine g_i2l (pc := 13) X dX3_copy_13 ?_
    refine g_lconst (pc := 14) X 0 dX3_copy_14 rfl ?_
    refine g_ldc2 (pc := 15) X 3 dX3_copy_15 q2133 ?_
    refine g_mS_i (pc := 18) X (y := yX3_in) (As := [.long x3.toInt64, .long 0, .long 3]) (rest := []) (fr' := 0) (lo' := 0) (fun _ => va_cwS 3 X.2.2.2.2.1 (lw_S q1767 q1768 q76 q1769) rfl rfl rfl dmS_X3_in ⟨Nat.le_of_ble_eq_true rfl, Nat.le_of_ble_eq_true rfl⟩) dX3_copy_18 rfl rfl (Nat.le_of_ble_eq_true rfl) (fun _ => rfl) (fun r u h => kX3_in h) (fun r3 t4 => ?_)
    refine g_if_ne (pc := 21) X 26 dX3_copy_21 (by decide) ?_ ?_
    · refine g_aload_n (pc := 26) X 0 dX3_copy_26 rfl rfl ?_
      refine mg_get (pc := 27) X fo_X3_59 dX3_copy_27 rfl ?_
      refine g_iload_n (pc := 30) X 1 dX3_copy_30 rfl rfl ?_
      refine mg_ald (pc := 31) X (j := 12) dX3_copy_31 (by decide) rfl (fun v5 => ?_)
      refine g_if_lt (pc := 32) X 44 dX3_copy_32 (by decide) ?_ ?_
      · refine g_bipush (pc := 44) X (-11) dX3_copy_44 rfl ?_
        exact g_iret (pc := 46) X hr dX3_copy_46
      · refine g_aload_n (pc := 35) X 0 dX3_copy_35 rfl rfl ?_
        refine mg_get (pc := 36) X fo_X3_59 dX3_copy_36 rfl ?_
        refine g_iload_n (pc := 39) X 3 dX3_copy_39 rfl rfl ?_
        refine mg_ald (pc := 40) X (j := 12) dX3_copy_40 (by decide) rfl (fun v6 => ?_)
        refine g_if_ge (pc := 41) X 47 dX3_copy_41 (by decide) ?_ ?_
        · refine g_aload_n (pc := 47) X 0 dX3_copy_47 rfl rfl ?_
          refine mg_get (pc := 48) X fo_X3_59 dX3_copy_48 rfl ?_
          refine g_iload_n (pc := 51) X 1 dX3_copy_51 rfl rfl ?_
          refine mg_ald (pc := 52) X (j := 12) dX3_copy_52 (by decide) rfl (fun v7 => ?_)
          refine g_aload_n (pc := 53) X 0 dX3_copy_53 rfl rfl ?_
          refine mg_get (pc := 54) X fo_X3_59 dX3_copy_54 rfl ?_
          refine g_iload_n (pc := 57) X 3 dX3_copy_57 rfl rfl ?_
          refine mg_ald (pc := 58) X (j := 12) dX3_copy_58 (by decide) rfl (fun v8 => ?_)
          refine g_icmp_eq (pc := 59) X 65 dX3_copy_59 (by decide) ?_ ?_
          · refine g_iload (pc := 65) X 5 dX3_copy_65 rfl ?_
            refine g_if_lt (pc := 67) X 111 dX3_copy_67 (by decide) ?_ ?_
            · refine g_bipush (pc := 111) X (-13) dX3_copy_111 rfl ?_
              exact g_iret (pc := 113) X hr dX3_copy_113
            · refine g_iload_n (pc := 70) X 2 dX3_copy_70 rfl rfl ?_
              refine g_i2l (pc := 71) X dX3_copy_71 ?_
              refine g_lconst (pc := 72) X 0 dX3_copy_72 rfl ?_
              refine g_aload_n (pc := 73) X 0 dX3_copy_73 rfl rfl ?_
              refine mg_get (pc := 74) X fo_X3_62 dX3_copy_74 rfl ?_
              refine g_iload_n (pc := 77) X 1 dX3_copy_77 rfl rfl ?_
              refine mg_ald (pc := 78) X (j := 13) dX3_copy_78 (by decide) rfl (fun v9 => ?_)
              refine g_i2l (pc := 79) X dX3_copy_79 ?_
              refine g_iload (pc := 80) X 5 dX3_copy_80 rfl ?_
              refine g_i2l (pc := 82) X dX3_copy_82 ?_
              refine g_lsub (pc := 83) X dX3_copy_83 ?_
              refine g_mS_i (pc := 84) X (y := yX3_in) (As := [.long x2.toInt64, .long 0, .long (v9.toInt64 - x5.toInt64)]) (rest := []) (fr' := 0) (lo' := 0) (fun _ => va_cwS 3 X.2.2.2.2.1 (lw_S q1767 q1768 q76 q1769) rfl rfl rfl dmS_X3_in ⟨Nat.le_of_ble_eq_true rfl, Nat.le_of_ble_eq_true rfl⟩) dX3_copy_84 rfl rfl (Nat.le_of_ble_eq_true rfl) (fun _ => rfl) (fun r u h => kX3_in h) (fun r10 t11 => ?_)
              refine g_if_eq (pc := 87) X 111 dX3_copy_87 (by decide) ?_ ?_
              · refine g_bipush (pc := 111) X (-13) dX3_copy_111 rfl ?_
                exact g_iret (pc := 113) X hr dX3_copy_113
              · refine g_iload (pc := 90) X 4 dX3_copy_90 rfl ?_
                refine g_i2l (pc := 92) X dX3_copy_92 ?_
                refine g_lconst (pc := 93) X 0 dX3_copy_93 rfl ?_
                refine g_aload_n (pc := 94) X 0 dX3_copy_94 rfl rfl ?_
                refine mg_get (pc := 95) X fo_X3_62 dX3_copy_95 rfl ?_
                refine g_iload_n (pc := 98) X 3 dX3_copy_98 rfl rfl ?_
                refine mg_ald (pc := 99) X (j := 13) dX3_copy_99 (by decide) rfl (fun v12 => ?_)
                refine g_i2l (pc := 100) X dX3_copy_100 ?_
                refine g_iload (pc := 101) X 5 dX3_copy_101 rfl ?_
                refine g_i2l (pc := 103) X dX3_copy_103 ?_
                refine g_lsub (pc := 104) X dX3_copy_104 ?_
                refine g_mS_i (pc := 105) X (y := yX3_in) (As := [.long x4.toInt64, .long 0, .long (v12.toInt64 - x5.toInt64)]) (rest := []) (fr' := 0) (lo' := 0) (fun _ => va_cwS 3 X.2.2.2.2.1 (lw_S q1767 q1768 q76 q1769) rfl rfl rfl dmS_X3_in ⟨Nat.le_of_ble_eq_true rfl, Nat.le_of_ble_eq_true rfl⟩) dX3_copy_105 rfl rfl (Nat.le_of_ble_eq_true rfl) (fun _ => rfl) (fun r u h => kX3_in h) (fun r13 t14 => ?_)
                refine g_if_ne (pc := 108) X 114 dX3_copy_108 (by decide) ?_ ?_
                · refine g_iconst (pc := 114) X 0 dX3_copy_114 rfl ?_
                  refine g_istore (pc := 115) X (lv' := [(6, .int 0), (0, .ref mo), (1, .int x1), (2, .int x2), (3, .int x3), (4, .int x4), (5, .int x5)]) dX3_copy_115 (by decide) rfl ?_
                  exact g_lv (pc := 117) (lv' := [(0, .ref mo), (1, .int x1), (2, .int x2), (3, .int x3), (4, .int x4), (5, .int x5), (6, .int 0)]) [1, 2, 3, 4, 5, 6, 0] rfl (wX3_copy_117 X hr 1000 x1 x2 x3 x4 x5 0 t14)
                · refine g_bipush (pc := 111) X (-13) dX3_copy_111 rfl ?_
                  exact g_iret (pc := 113) X hr dX3_copy_113
          · refine g_bipush (pc := 62) X (-12) dX3_copy_62 rfl ?_
            exact g_iret (pc := 64) X hr dX3_copy_64
        · refine g_bipush (pc := 44) X (-11) dX3_copy_44 rfl ?_
          exact g_iret (pc := 46) X hr dX3_copy_46
    · refine g_iconst (pc := 24) X (-1) dX3_copy_24 rfl ?_
      exact g_iret (pc := 25) X hr dX3_copy_25
theorem kX3_copy {mo : Nat} {ρ : Sg} {sz : Nat} {x1 : Int32} {x2 : Int32} {x3 : Int32} {x4 : Int32} {x5 : Int32} {t : MS} {r : Int32} {u : MS} (h : fX3_copy x1 x2 x3 x4 x5 t = some (r, u)) : g_C Γ l yX3_copy cX3_copy 7 (Option.some Jvm.ClassFile.FieldType.int) 1 25 [.ref mo, .int x1, .int x2, .int x3, .int x4, .int x5] (MC mo t ρ) sz v_i r (m_ι mo ρ sz u) :=
  g_met [.ref mo, .int x1, .int x2, .int x3, .int x4, .int x5] (by decide) (Nat.le_of_ble_eq_true rfl) h rfl (fun p e s m args below meth c X hr hn => wX3_copy X hr x1 x2 x3 x4 x5 t)
end MP
