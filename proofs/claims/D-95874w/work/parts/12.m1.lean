/-! the reference, its methods: kindOf, readNumber, takes, readClock, readStreet, street, note, breathe, goes, isHome, run, strokesOf (printed by gen/model.py) -/
set_option maxRecDepth 100000
abbrev cX3_kindOf : ByteArray := prog_24_method_30_code
def yX3_kindOf : MethodName := ⟨RX3, "kindOf", "(I)I"⟩
def dkwX3_kindOf_2 : List UInt8 := [167, 0, 14, 26, 16, 109, 160, 0, 7, 8, 167, 0, 4, 2, 172]
abbrev dktX3_kindOf_2 : List UInt8 := dkwX3_kindOf_2 ++ []
def dkwX3_kindOf_1 : List UInt8 := [160, 0, 7, 5, 167, 0, 34, 26, 16, 100, 160, 0, 7, 6, 167, 0, 24, 26, 16, 116, 160, 0, 7, 7]
abbrev dktX3_kindOf_1 : List UInt8 := dkwX3_kindOf_1 ++ dktX3_kindOf_2
def dkwX3_kindOf_0 : List UInt8 := [26, 16, 112, 160, 0, 7, 3, 167, 0, 54, 26, 16, 99, 160, 0, 7, 4, 167, 0, 44, 26, 16, 111]
abbrev dktX3_kindOf_0 : List UInt8 := dkwX3_kindOf_0 ++ dktX3_kindOf_1
theorem dksX3_kindOf_0 : cX3_kindOf.data.toList.drop 0 = dktX3_kindOf_0 := by decide +kernel
theorem dksX3_kindOf_1 : cX3_kindOf.data.toList.drop 23 = dktX3_kindOf_1 := dk_seg dksX3_kindOf_0 23 rfl rfl
theorem dksX3_kindOf_2 : cX3_kindOf.data.toList.drop 47 = dktX3_kindOf_2 := dk_seg dksX3_kindOf_1 24 rfl rfl
theorem dX3_kindOf_0 : decode cX3_kindOf 0 = .ok (.iload_n 0, 1) := dk_26 (dk_at dksX3_kindOf_0 0 rfl rfl)
theorem dX3_kindOf_1 : decode cX3_kindOf 1 = .ok (.bipush 112, 2) := dk_16 112 (dk_at dksX3_kindOf_0 1 rfl rfl)
theorem dX3_kindOf_3 : decode cX3_kindOf 3 = .ok (.if_icmp .ne 7, 3) := dk_160 0 7 (dk_at dksX3_kindOf_0 3 rfl rfl)
theorem dX3_kindOf_6 : decode cX3_kindOf 6 = .ok (.iconst 0, 1) := dk_3 (dk_at dksX3_kindOf_0 6 rfl rfl)
theorem dX3_kindOf_7 : decode cX3_kindOf 7 = .ok (.goto 54, 3) := dk_167 0 54 (dk_at dksX3_kindOf_0 7 rfl rfl)
theorem dX3_kindOf_10 : decode cX3_kindOf 10 = .ok (.iload_n 0, 1) := dk_26 (dk_at dksX3_kindOf_0 10 rfl rfl)
theorem dX3_kindOf_11 : decode cX3_kindOf 11 = .ok (.bipush 99, 2) := dk_16 99 (dk_at dksX3_kindOf_0 11 rfl rfl)
theorem dX3_kindOf_13 : decode cX3_kindOf 13 = .ok (.if_icmp .ne 7, 3) := dk_160 0 7 (dk_at dksX3_kindOf_0 13 rfl rfl)
theorem dX3_kindOf_16 : decode cX3_kindOf 16 = .ok (.iconst 1, 1) := dk_4 (dk_at dksX3_kindOf_0 16 rfl rfl)
theorem dX3_kindOf_17 : decode cX3_kindOf 17 = .ok (.goto 44, 3) := dk_167 0 44 (dk_at dksX3_kindOf_0 17 rfl rfl)
theorem dX3_kindOf_20 : decode cX3_kindOf 20 = .ok (.iload_n 0, 1) := dk_26 (dk_at dksX3_kindOf_0 20 rfl rfl)
theorem dX3_kindOf_21 : decode cX3_kindOf 21 = .ok (.bipush 111, 2) := dk_16 111 (dk_at dksX3_kindOf_0 21 rfl rfl)
theorem dX3_kindOf_23 : decode cX3_kindOf 23 = .ok (.if_icmp .ne 7, 3) := dk_160 0 7 (dk_at dksX3_kindOf_1 0 rfl rfl)
theorem dX3_kindOf_26 : decode cX3_kindOf 26 = .ok (.iconst 2, 1) := dk_5 (dk_at dksX3_kindOf_1 3 rfl rfl)
theorem dX3_kindOf_27 : decode cX3_kindOf 27 = .ok (.goto 34, 3) := dk_167 0 34 (dk_at dksX3_kindOf_1 4 rfl rfl)
theorem dX3_kindOf_30 : decode cX3_kindOf 30 = .ok (.iload_n 0, 1) := dk_26 (dk_at dksX3_kindOf_1 7 rfl rfl)
theorem dX3_kindOf_31 : decode cX3_kindOf 31 = .ok (.bipush 100, 2) := dk_16 100 (dk_at dksX3_kindOf_1 8 rfl rfl)
theorem dX3_kindOf_33 : decode cX3_kindOf 33 = .ok (.if_icmp .ne 7, 3) := dk_160 0 7 (dk_at dksX3_kindOf_1 10 rfl rfl)
theorem dX3_kindOf_36 : decode cX3_kindOf 36 = .ok (.iconst 3, 1) := dk_6 (dk_at dksX3_kindOf_1 13 rfl rfl)
theorem dX3_kindOf_37 : decode cX3_kindOf 37 = .ok (.goto 24, 3) := dk_167 0 24 (dk_at dksX3_kindOf_1 14 rfl rfl)
theorem dX3_kindOf_40 : decode cX3_kindOf 40 = .ok (.iload_n 0, 1) := dk_26 (dk_at dksX3_kindOf_1 17 rfl rfl)
theorem dX3_kindOf_41 : decode cX3_kindOf 41 = .ok (.bipush 116, 2) := dk_16 116 (dk_at dksX3_kindOf_1 18 rfl rfl)
theorem dX3_kindOf_43 : decode cX3_kindOf 43 = .ok (.if_icmp .ne 7, 3) := dk_160 0 7 (dk_at dksX3_kindOf_1 20 rfl rfl)
theorem dX3_kindOf_46 : decode cX3_kindOf 46 = .ok (.iconst 4, 1) := dk_7 (dk_at dksX3_kindOf_1 23 rfl rfl)
theorem dX3_kindOf_47 : decode cX3_kindOf 47 = .ok (.goto 14, 3) := dk_167 0 14 (dk_at dksX3_kindOf_2 0 rfl rfl)
theorem dX3_kindOf_50 : decode cX3_kindOf 50 = .ok (.iload_n 0, 1) := dk_26 (dk_at dksX3_kindOf_2 3 rfl rfl)
theorem dX3_kindOf_51 : decode cX3_kindOf 51 = .ok (.bipush 109, 2) := dk_16 109 (dk_at dksX3_kindOf_2 4 rfl rfl)
theorem dX3_kindOf_53 : decode cX3_kindOf 53 = .ok (.if_icmp .ne 7, 3) := dk_160 0 7 (dk_at dksX3_kindOf_2 6 rfl rfl)
theorem dX3_kindOf_56 : decode cX3_kindOf 56 = .ok (.iconst 5, 1) := dk_8 (dk_at dksX3_kindOf_2 9 rfl rfl)
theorem dX3_kindOf_57 : decode cX3_kindOf 57 = .ok (.goto 4, 3) := dk_167 0 4 (dk_at dksX3_kindOf_2 10 rfl rfl)
theorem dX3_kindOf_60 : decode cX3_kindOf 60 = .ok (.iconst (-1), 1) := dk_2 (dk_at dksX3_kindOf_2 13 rfl rfl)
theorem dX3_kindOf_61 : decode cX3_kindOf 61 = .ok (.ireturn, 1) := dk_172 (dk_at dksX3_kindOf_2 14 rfl rfl)
abbrev cX3_readNumber : ByteArray := prog_24_method_22_code
def yX3_readNumber : MethodName := ⟨RX3, "readNumber", "(II)I"⟩
def dkwX3_readNumber_5 : List UInt8 := [172, 21, 4, 172]
abbrev dktX3_readNumber_5 : List UInt8 := dkwX3_readNumber_5 ++ []
def dkwX3_readNumber_4 : List UInt8 := [160, 0, 5, 2, 172, 21, 4, 133, 27, 133, 28, 133, 184, 0, 75, 154, 0, 10, 42, 29, 181, 0, 128, 2]
abbrev dktX3_readNumber_4 : List UInt8 := dkwX3_readNumber_4 ++ dktX3_readNumber_5
def dkwX3_readNumber_3 : List UInt8 := [96, 16, 48, 100, 54, 4, 42, 89, 180, 0, 128, 4, 96, 181, 0, 128, 167, 255, 181, 42, 180, 0, 128, 29]
abbrev dktX3_readNumber_3 : List UInt8 := dkwX3_readNumber_3 ++ dktX3_readNumber_4
def dkwX3_readNumber_2 : List UInt8 := [18, 138, 164, 0, 8, 21, 4, 167, 0, 21, 16, 10, 21, 4, 104, 42, 180, 0, 44, 42, 180, 0, 128, 46]
abbrev dktX3_readNumber_2 : List UInt8 := dkwX3_readNumber_2 ++ dktX3_readNumber_3
def dkwX3_readNumber_1 : List UInt8 := [42, 180, 0, 44, 42, 180, 0, 128, 46, 133, 20, 0, 134, 20, 0, 136, 184, 0, 75, 153, 0, 48, 21, 4]
abbrev dktX3_readNumber_1 : List UInt8 := dkwX3_readNumber_1 ++ dktX3_readNumber_2
def dkwX3_readNumber_0 : List UInt8 := [42, 182, 0, 131, 87, 42, 180, 0, 128, 62, 3, 54, 4, 42, 180, 0, 128, 42, 180, 0, 125, 162, 0, 70]
abbrev dktX3_readNumber_0 : List UInt8 := dkwX3_readNumber_0 ++ dktX3_readNumber_1
theorem dksX3_readNumber_0 : cX3_readNumber.data.toList.drop 0 = dktX3_readNumber_0 := by decide +kernel
theorem dksX3_readNumber_1 : cX3_readNumber.data.toList.drop 24 = dktX3_readNumber_1 := dk_seg dksX3_readNumber_0 24 rfl rfl
theorem dksX3_readNumber_2 : cX3_readNumber.data.toList.drop 48 = dktX3_readNumber_2 := dk_seg dksX3_readNumber_1 24 rfl rfl
theorem dksX3_readNumber_3 : cX3_readNumber.data.toList.drop 72 = dktX3_readNumber_3 := dk_seg dksX3_readNumber_2 24 rfl rfl
theorem dksX3_readNumber_4 : cX3_readNumber.data.toList.drop 96 = dktX3_readNumber_4 := dk_seg dksX3_readNumber_3 24 rfl rfl
theorem dksX3_readNumber_5 : cX3_readNumber.data.toList.drop 120 = dktX3_readNumber_5 := dk_seg dksX3_readNumber_4 24 rfl rfl
theorem dX3_readNumber_0 : decode cX3_readNumber 0 = .ok (.aload_n 0, 1) := dk_42 (dk_at dksX3_readNumber_0 0 rfl rfl)
theorem dX3_readNumber_1 : decode cX3_readNumber 1 = .ok (.invokevirtual 131, 3) := dk_182 0 131 (dk_at dksX3_readNumber_0 1 rfl rfl)
theorem dX3_readNumber_4 : decode cX3_readNumber 4 = .ok (.pop, 1) := dk_87 (dk_at dksX3_readNumber_0 4 rfl rfl)
theorem dX3_readNumber_5 : decode cX3_readNumber 5 = .ok (.aload_n 0, 1) := dk_42 (dk_at dksX3_readNumber_0 5 rfl rfl)
theorem dX3_readNumber_6 : decode cX3_readNumber 6 = .ok (.getfield 128, 3) := dk_180 0 128 (dk_at dksX3_readNumber_0 6 rfl rfl)
theorem dX3_readNumber_9 : decode cX3_readNumber 9 = .ok (.istore_n 3, 1) := dk_62 (dk_at dksX3_readNumber_0 9 rfl rfl)
theorem dX3_readNumber_10 : decode cX3_readNumber 10 = .ok (.iconst 0, 1) := dk_3 (dk_at dksX3_readNumber_0 10 rfl rfl)
theorem dX3_readNumber_11 : decode cX3_readNumber 11 = .ok (.istore 4, 2) := dk_54 4 (dk_at dksX3_readNumber_0 11 rfl rfl)
theorem dX3_readNumber_13 : decode cX3_readNumber 13 = .ok (.aload_n 0, 1) := dk_42 (dk_at dksX3_readNumber_0 13 rfl rfl)
theorem dX3_readNumber_14 : decode cX3_readNumber 14 = .ok (.getfield 128, 3) := dk_180 0 128 (dk_at dksX3_readNumber_0 14 rfl rfl)
theorem dX3_readNumber_17 : decode cX3_readNumber 17 = .ok (.aload_n 0, 1) := dk_42 (dk_at dksX3_readNumber_0 17 rfl rfl)
theorem dX3_readNumber_18 : decode cX3_readNumber 18 = .ok (.getfield 125, 3) := dk_180 0 125 (dk_at dksX3_readNumber_0 18 rfl rfl)
theorem dX3_readNumber_21 : decode cX3_readNumber 21 = .ok (.if_icmp .ge 70, 3) := dk_162 0 70 (dk_at dksX3_readNumber_0 21 rfl rfl)
theorem dX3_readNumber_24 : decode cX3_readNumber 24 = .ok (.aload_n 0, 1) := dk_42 (dk_at dksX3_readNumber_1 0 rfl rfl)
theorem dX3_readNumber_25 : decode cX3_readNumber 25 = .ok (.getfield 44, 3) := dk_180 0 44 (dk_at dksX3_readNumber_1 1 rfl rfl)
theorem dX3_readNumber_28 : decode cX3_readNumber 28 = .ok (.aload_n 0, 1) := dk_42 (dk_at dksX3_readNumber_1 4 rfl rfl)
theorem dX3_readNumber_29 : decode cX3_readNumber 29 = .ok (.getfield 128, 3) := dk_180 0 128 (dk_at dksX3_readNumber_1 5 rfl rfl)
theorem dX3_readNumber_32 : decode cX3_readNumber 32 = .ok (.iaload, 1) := dk_46 (dk_at dksX3_readNumber_1 8 rfl rfl)
theorem dX3_readNumber_33 : decode cX3_readNumber 33 = .ok (.i2l, 1) := dk_133 (dk_at dksX3_readNumber_1 9 rfl rfl)
theorem dX3_readNumber_34 : decode cX3_readNumber 34 = .ok (.ldc2_w 134, 3) := dk_20 0 134 (dk_at dksX3_readNumber_1 10 rfl rfl)
theorem dX3_readNumber_37 : decode cX3_readNumber 37 = .ok (.ldc2_w 136, 3) := dk_20 0 136 (dk_at dksX3_readNumber_1 13 rfl rfl)
theorem dX3_readNumber_40 : decode cX3_readNumber 40 = .ok (.invokestatic 75, 3) := dk_184 0 75 (dk_at dksX3_readNumber_1 16 rfl rfl)
theorem dX3_readNumber_43 : decode cX3_readNumber 43 = .ok (.ifCond .eq 48, 3) := dk_153 0 48 (dk_at dksX3_readNumber_1 19 rfl rfl)
theorem dX3_readNumber_46 : decode cX3_readNumber 46 = .ok (.iload 4, 2) := dk_21 4 (dk_at dksX3_readNumber_1 22 rfl rfl)
theorem dX3_readNumber_48 : decode cX3_readNumber 48 = .ok (.ldc 138, 2) := dk_18 138 (dk_at dksX3_readNumber_2 0 rfl rfl)
theorem dX3_readNumber_50 : decode cX3_readNumber 50 = .ok (.if_icmp .le 8, 3) := dk_164 0 8 (dk_at dksX3_readNumber_2 2 rfl rfl)
theorem dX3_readNumber_53 : decode cX3_readNumber 53 = .ok (.iload 4, 2) := dk_21 4 (dk_at dksX3_readNumber_2 5 rfl rfl)
theorem dX3_readNumber_55 : decode cX3_readNumber 55 = .ok (.goto 21, 3) := dk_167 0 21 (dk_at dksX3_readNumber_2 7 rfl rfl)
theorem dX3_readNumber_58 : decode cX3_readNumber 58 = .ok (.bipush 10, 2) := dk_16 10 (dk_at dksX3_readNumber_2 10 rfl rfl)
theorem dX3_readNumber_60 : decode cX3_readNumber 60 = .ok (.iload 4, 2) := dk_21 4 (dk_at dksX3_readNumber_2 12 rfl rfl)
theorem dX3_readNumber_62 : decode cX3_readNumber 62 = .ok (.imul, 1) := dk_104 (dk_at dksX3_readNumber_2 14 rfl rfl)
theorem dX3_readNumber_63 : decode cX3_readNumber 63 = .ok (.aload_n 0, 1) := dk_42 (dk_at dksX3_readNumber_2 15 rfl rfl)
theorem dX3_readNumber_64 : decode cX3_readNumber 64 = .ok (.getfield 44, 3) := dk_180 0 44 (dk_at dksX3_readNumber_2 16 rfl rfl)
theorem dX3_readNumber_67 : decode cX3_readNumber 67 = .ok (.aload_n 0, 1) := dk_42 (dk_at dksX3_readNumber_2 19 rfl rfl)
theorem dX3_readNumber_68 : decode cX3_readNumber 68 = .ok (.getfield 128, 3) := dk_180 0 128 (dk_at dksX3_readNumber_2 20 rfl rfl)
theorem dX3_readNumber_71 : decode cX3_readNumber 71 = .ok (.iaload, 1) := dk_46 (dk_at dksX3_readNumber_2 23 rfl rfl)
theorem dX3_readNumber_72 : decode cX3_readNumber 72 = .ok (.iadd, 1) := dk_96 (dk_at dksX3_readNumber_3 0 rfl rfl)
theorem dX3_readNumber_73 : decode cX3_readNumber 73 = .ok (.bipush 48, 2) := dk_16 48 (dk_at dksX3_readNumber_3 1 rfl rfl)
theorem dX3_readNumber_75 : decode cX3_readNumber 75 = .ok (.isub, 1) := dk_100 (dk_at dksX3_readNumber_3 3 rfl rfl)
theorem dX3_readNumber_76 : decode cX3_readNumber 76 = .ok (.istore 4, 2) := dk_54 4 (dk_at dksX3_readNumber_3 4 rfl rfl)
theorem dX3_readNumber_78 : decode cX3_readNumber 78 = .ok (.aload_n 0, 1) := dk_42 (dk_at dksX3_readNumber_3 6 rfl rfl)
theorem dX3_readNumber_79 : decode cX3_readNumber 79 = .ok (.dup, 1) := dk_89 (dk_at dksX3_readNumber_3 7 rfl rfl)
theorem dX3_readNumber_80 : decode cX3_readNumber 80 = .ok (.getfield 128, 3) := dk_180 0 128 (dk_at dksX3_readNumber_3 8 rfl rfl)
theorem dX3_readNumber_83 : decode cX3_readNumber 83 = .ok (.iconst 1, 1) := dk_4 (dk_at dksX3_readNumber_3 11 rfl rfl)
theorem dX3_readNumber_84 : decode cX3_readNumber 84 = .ok (.iadd, 1) := dk_96 (dk_at dksX3_readNumber_3 12 rfl rfl)
theorem dX3_readNumber_85 : decode cX3_readNumber 85 = .ok (.putfield 128, 3) := dk_181 0 128 (dk_at dksX3_readNumber_3 13 rfl rfl)
theorem dX3_readNumber_88 : decode cX3_readNumber 88 = .ok (.goto (-75), 3) := dk_167 255 181 (dk_at dksX3_readNumber_3 16 rfl rfl)
theorem dX3_readNumber_91 : decode cX3_readNumber 91 = .ok (.aload_n 0, 1) := dk_42 (dk_at dksX3_readNumber_3 19 rfl rfl)
theorem dX3_readNumber_92 : decode cX3_readNumber 92 = .ok (.getfield 128, 3) := dk_180 0 128 (dk_at dksX3_readNumber_3 20 rfl rfl)
theorem dX3_readNumber_95 : decode cX3_readNumber 95 = .ok (.iload_n 3, 1) := dk_29 (dk_at dksX3_readNumber_3 23 rfl rfl)
theorem dX3_readNumber_96 : decode cX3_readNumber 96 = .ok (.if_icmp .ne 5, 3) := dk_160 0 5 (dk_at dksX3_readNumber_4 0 rfl rfl)
theorem dX3_readNumber_99 : decode cX3_readNumber 99 = .ok (.iconst (-1), 1) := dk_2 (dk_at dksX3_readNumber_4 3 rfl rfl)
theorem dX3_readNumber_100 : decode cX3_readNumber 100 = .ok (.ireturn, 1) := dk_172 (dk_at dksX3_readNumber_4 4 rfl rfl)
theorem dX3_readNumber_101 : decode cX3_readNumber 101 = .ok (.iload 4, 2) := dk_21 4 (dk_at dksX3_readNumber_4 5 rfl rfl)
theorem dX3_readNumber_103 : decode cX3_readNumber 103 = .ok (.i2l, 1) := dk_133 (dk_at dksX3_readNumber_4 7 rfl rfl)
theorem dX3_readNumber_104 : decode cX3_readNumber 104 = .ok (.iload_n 1, 1) := dk_27 (dk_at dksX3_readNumber_4 8 rfl rfl)
theorem dX3_readNumber_105 : decode cX3_readNumber 105 = .ok (.i2l, 1) := dk_133 (dk_at dksX3_readNumber_4 9 rfl rfl)
theorem dX3_readNumber_106 : decode cX3_readNumber 106 = .ok (.iload_n 2, 1) := dk_28 (dk_at dksX3_readNumber_4 10 rfl rfl)
theorem dX3_readNumber_107 : decode cX3_readNumber 107 = .ok (.i2l, 1) := dk_133 (dk_at dksX3_readNumber_4 11 rfl rfl)
theorem dX3_readNumber_108 : decode cX3_readNumber 108 = .ok (.invokestatic 75, 3) := dk_184 0 75 (dk_at dksX3_readNumber_4 12 rfl rfl)
theorem dX3_readNumber_111 : decode cX3_readNumber 111 = .ok (.ifCond .ne 10, 3) := dk_154 0 10 (dk_at dksX3_readNumber_4 15 rfl rfl)
theorem dX3_readNumber_114 : decode cX3_readNumber 114 = .ok (.aload_n 0, 1) := dk_42 (dk_at dksX3_readNumber_4 18 rfl rfl)
theorem dX3_readNumber_115 : decode cX3_readNumber 115 = .ok (.iload_n 3, 1) := dk_29 (dk_at dksX3_readNumber_4 19 rfl rfl)
theorem dX3_readNumber_116 : decode cX3_readNumber 116 = .ok (.putfield 128, 3) := dk_181 0 128 (dk_at dksX3_readNumber_4 20 rfl rfl)
theorem dX3_readNumber_119 : decode cX3_readNumber 119 = .ok (.iconst (-1), 1) := dk_2 (dk_at dksX3_readNumber_4 23 rfl rfl)
theorem dX3_readNumber_120 : decode cX3_readNumber 120 = .ok (.ireturn, 1) := dk_172 (dk_at dksX3_readNumber_5 0 rfl rfl)
theorem dX3_readNumber_121 : decode cX3_readNumber 121 = .ok (.iload 4, 2) := dk_21 4 (dk_at dksX3_readNumber_5 1 rfl rfl)
theorem dX3_readNumber_123 : decode cX3_readNumber 123 = .ok (.ireturn, 1) := dk_172 (dk_at dksX3_readNumber_5 3 rfl rfl)
abbrev cX3_takes : ByteArray := prog_24_method_21_code
def yX3_takes : MethodName := ⟨RX3, "takes", "(I)Z"⟩
def dkwX3_takes_1 : List UInt8 := [167, 0, 4, 3, 96, 181, 0, 128, 28, 172]
abbrev dktX3_takes_1 : List UInt8 := dkwX3_takes_1 ++ []
def dkwX3_takes_0 : List UInt8 := [42, 182, 0, 131, 27, 160, 0, 7, 4, 167, 0, 4, 3, 61, 42, 89, 180, 0, 128, 28, 153, 0, 7, 4]
abbrev dktX3_takes_0 : List UInt8 := dkwX3_takes_0 ++ dktX3_takes_1
theorem dksX3_takes_0 : cX3_takes.data.toList.drop 0 = dktX3_takes_0 := by decide +kernel
theorem dksX3_takes_1 : cX3_takes.data.toList.drop 24 = dktX3_takes_1 := dk_seg dksX3_takes_0 24 rfl rfl
theorem dX3_takes_0 : decode cX3_takes 0 = .ok (.aload_n 0, 1) := dk_42 (dk_at dksX3_takes_0 0 rfl rfl)
theorem dX3_takes_1 : decode cX3_takes 1 = .ok (.invokevirtual 131, 3) := dk_182 0 131 (dk_at dksX3_takes_0 1 rfl rfl)
theorem dX3_takes_4 : decode cX3_takes 4 = .ok (.iload_n 1, 1) := dk_27 (dk_at dksX3_takes_0 4 rfl rfl)
theorem dX3_takes_5 : decode cX3_takes 5 = .ok (.if_icmp .ne 7, 3) := dk_160 0 7 (dk_at dksX3_takes_0 5 rfl rfl)
theorem dX3_takes_8 : decode cX3_takes 8 = .ok (.iconst 1, 1) := dk_4 (dk_at dksX3_takes_0 8 rfl rfl)
theorem dX3_takes_9 : decode cX3_takes 9 = .ok (.goto 4, 3) := dk_167 0 4 (dk_at dksX3_takes_0 9 rfl rfl)
theorem dX3_takes_12 : decode cX3_takes 12 = .ok (.iconst 0, 1) := dk_3 (dk_at dksX3_takes_0 12 rfl rfl)
theorem dX3_takes_13 : decode cX3_takes 13 = .ok (.istore_n 2, 1) := dk_61 (dk_at dksX3_takes_0 13 rfl rfl)
theorem dX3_takes_14 : decode cX3_takes 14 = .ok (.aload_n 0, 1) := dk_42 (dk_at dksX3_takes_0 14 rfl rfl)
theorem dX3_takes_15 : decode cX3_takes 15 = .ok (.dup, 1) := dk_89 (dk_at dksX3_takes_0 15 rfl rfl)
theorem dX3_takes_16 : decode cX3_takes 16 = .ok (.getfield 128, 3) := dk_180 0 128 (dk_at dksX3_takes_0 16 rfl rfl)
theorem dX3_takes_19 : decode cX3_takes 19 = .ok (.iload_n 2, 1) := dk_28 (dk_at dksX3_takes_0 19 rfl rfl)
theorem dX3_takes_20 : decode cX3_takes 20 = .ok (.ifCond .eq 7, 3) := dk_153 0 7 (dk_at dksX3_takes_0 20 rfl rfl)
theorem dX3_takes_23 : decode cX3_takes 23 = .ok (.iconst 1, 1) := dk_4 (dk_at dksX3_takes_0 23 rfl rfl)
theorem dX3_takes_24 : decode cX3_takes 24 = .ok (.goto 4, 3) := dk_167 0 4 (dk_at dksX3_takes_1 0 rfl rfl)
theorem dX3_takes_27 : decode cX3_takes 27 = .ok (.iconst 0, 1) := dk_3 (dk_at dksX3_takes_1 3 rfl rfl)
theorem dX3_takes_28 : decode cX3_takes 28 = .ok (.iadd, 1) := dk_96 (dk_at dksX3_takes_1 4 rfl rfl)
theorem dX3_takes_29 : decode cX3_takes 29 = .ok (.putfield 128, 3) := dk_181 0 128 (dk_at dksX3_takes_1 5 rfl rfl)
theorem dX3_takes_32 : decode cX3_takes 32 = .ok (.iload_n 2, 1) := dk_28 (dk_at dksX3_takes_1 8 rfl rfl)
theorem dX3_takes_33 : decode cX3_takes 33 = .ok (.ireturn, 1) := dk_172 (dk_at dksX3_takes_1 9 rfl rfl)
abbrev cX3_readClock : ByteArray := prog_24_method_31_code
def yX3_readClock : MethodName := ⟨RX3, "readClock", "(I)Z"⟩
def dkwX3_readClock_7 : List UInt8 := [155, 0, 7, 4, 167, 0, 4, 3, 172]
abbrev dktX3_readClock_7 : List UInt8 := dkwX3_readClock_7 ++ []
def dkwX3_readClock_6 : List UInt8 := [153, 0, 13, 42, 3, 16, 99, 182, 0, 162, 167, 0, 4, 3, 79, 42, 180, 0, 47, 27, 6, 96, 46]
abbrev dktX3_readClock_6 : List UInt8 := dkwX3_readClock_6 ++ dktX3_readClock_7
def dkwX3_readClock_5 : List UInt8 := [180, 0, 47, 27, 5, 96, 28, 29, 104, 79, 42, 180, 0, 47, 27, 6, 96, 42, 16, 42, 182, 0, 166]
abbrev dktX3_readClock_5 : List UInt8 := dkwX3_readClock_5 ++ dktX3_readClock_6
def dkwX3_readClock_4 : List UInt8 := [154, 0, 7, 3, 167, 0, 10, 42, 3, 16, 30, 182, 0, 162, 62, 29, 156, 0, 5, 3, 172, 42]
abbrev dktX3_readClock_4 : List UInt8 := dkwX3_readClock_4 ++ dktX3_readClock_5
def dkwX3_readClock_3 : List UInt8 := [153, 0, 7, 4, 167, 0, 17, 42, 16, 45, 182, 0, 166, 153, 0, 7, 2, 167, 0, 4, 3, 61, 28]
abbrev dktX3_readClock_3 : List UInt8 := dkwX3_readClock_3 ++ dktX3_readClock_4
def dkwX3_readClock_2 : List UInt8 := [182, 0, 162, 79, 42, 180, 0, 47, 27, 4, 96, 46, 156, 0, 5, 3, 172, 42, 16, 43, 182, 0, 166]
abbrev dktX3_readClock_2 : List UInt8 := dkwX3_readClock_2 ++ dktX3_readClock_3
def dkwX3_readClock_1 : List UInt8 := [42, 89, 180, 0, 128, 4, 96, 181, 0, 128, 42, 180, 0, 47, 27, 4, 96, 42, 3, 17, 2, 207]
abbrev dktX3_readClock_1 : List UInt8 := dkwX3_readClock_1 ++ dktX3_readClock_2
def dkwX3_readClock_0 : List UInt8 := [42, 180, 0, 47, 27, 42, 182, 0, 131, 184, 0, 159, 79, 42, 180, 0, 47, 27, 46, 156, 0, 5, 3, 172]
abbrev dktX3_readClock_0 : List UInt8 := dkwX3_readClock_0 ++ dktX3_readClock_1
theorem dksX3_readClock_0 : cX3_readClock.data.toList.drop 0 = dktX3_readClock_0 := by decide +kernel
theorem dksX3_readClock_1 : cX3_readClock.data.toList.drop 24 = dktX3_readClock_1 := dk_seg dksX3_readClock_0 24 rfl rfl
theorem dksX3_readClock_2 : cX3_readClock.data.toList.drop 46 = dktX3_readClock_2 := dk_seg dksX3_readClock_1 22 rfl rfl
theorem dksX3_readClock_3 : cX3_readClock.data.toList.drop 69 = dktX3_readClock_3 := dk_seg dksX3_readClock_2 23 rfl rfl
theorem dksX3_readClock_4 : cX3_readClock.data.toList.drop 92 = dktX3_readClock_4 := dk_seg dksX3_readClock_3 23 rfl rfl
theorem dksX3_readClock_5 : cX3_readClock.data.toList.drop 114 = dktX3_readClock_5 := dk_seg dksX3_readClock_4 22 rfl rfl
theorem dksX3_readClock_6 : cX3_readClock.data.toList.drop 137 = dktX3_readClock_6 := dk_seg dksX3_readClock_5 23 rfl rfl
theorem dksX3_readClock_7 : cX3_readClock.data.toList.drop 160 = dktX3_readClock_7 := dk_seg dksX3_readClock_6 23 rfl rfl
theorem dX3_readClock_0 : decode cX3_readClock 0 = .ok (.aload_n 0, 1) := dk_42 (dk_at dksX3_readClock_0 0 rfl rfl)
theorem dX3_readClock_1 : decode cX3_readClock 1 = .ok (.getfield 47, 3) := dk_180 0 47 (dk_at dksX3_readClock_0 1 rfl rfl)
theorem dX3_readClock_4 : decode cX3_readClock 4 = .ok (.iload_n 1, 1) := dk_27 (dk_at dksX3_readClock_0 4 rfl rfl)
theorem dX3_readClock_5 : decode cX3_readClock 5 = .ok (.aload_n 0, 1) := dk_42 (dk_at dksX3_readClock_0 5 rfl rfl)
theorem dX3_readClock_6 : decode cX3_readClock 6 = .ok (.invokevirtual 131, 3) := dk_182 0 131 (dk_at dksX3_readClock_0 6 rfl rfl)
theorem dX3_readClock_9 : decode cX3_readClock 9 = .ok (.invokestatic 159, 3) := dk_184 0 159 (dk_at dksX3_readClock_0 9 rfl rfl)
theorem dX3_readClock_12 : decode cX3_readClock 12 = .ok (.iastore, 1) := dk_79 (dk_at dksX3_readClock_0 12 rfl rfl)
theorem dX3_readClock_13 : decode cX3_readClock 13 = .ok (.aload_n 0, 1) := dk_42 (dk_at dksX3_readClock_0 13 rfl rfl)
theorem dX3_readClock_14 : decode cX3_readClock 14 = .ok (.getfield 47, 3) := dk_180 0 47 (dk_at dksX3_readClock_0 14 rfl rfl)
theorem dX3_readClock_17 : decode cX3_readClock 17 = .ok (.iload_n 1, 1) := dk_27 (dk_at dksX3_readClock_0 17 rfl rfl)
theorem dX3_readClock_18 : decode cX3_readClock 18 = .ok (.iaload, 1) := dk_46 (dk_at dksX3_readClock_0 18 rfl rfl)
theorem dX3_readClock_19 : decode cX3_readClock 19 = .ok (.ifCond .ge 5, 3) := dk_156 0 5 (dk_at dksX3_readClock_0 19 rfl rfl)
theorem dX3_readClock_22 : decode cX3_readClock 22 = .ok (.iconst 0, 1) := dk_3 (dk_at dksX3_readClock_0 22 rfl rfl)
theorem dX3_readClock_23 : decode cX3_readClock 23 = .ok (.ireturn, 1) := dk_172 (dk_at dksX3_readClock_0 23 rfl rfl)
theorem dX3_readClock_24 : decode cX3_readClock 24 = .ok (.aload_n 0, 1) := dk_42 (dk_at dksX3_readClock_1 0 rfl rfl)
theorem dX3_readClock_25 : decode cX3_readClock 25 = .ok (.dup, 1) := dk_89 (dk_at dksX3_readClock_1 1 rfl rfl)
theorem dX3_readClock_26 : decode cX3_readClock 26 = .ok (.getfield 128, 3) := dk_180 0 128 (dk_at dksX3_readClock_1 2 rfl rfl)
theorem dX3_readClock_29 : decode cX3_readClock 29 = .ok (.iconst 1, 1) := dk_4 (dk_at dksX3_readClock_1 5 rfl rfl)
theorem dX3_readClock_30 : decode cX3_readClock 30 = .ok (.iadd, 1) := dk_96 (dk_at dksX3_readClock_1 6 rfl rfl)
theorem dX3_readClock_31 : decode cX3_readClock 31 = .ok (.putfield 128, 3) := dk_181 0 128 (dk_at dksX3_readClock_1 7 rfl rfl)
theorem dX3_readClock_34 : decode cX3_readClock 34 = .ok (.aload_n 0, 1) := dk_42 (dk_at dksX3_readClock_1 10 rfl rfl)
theorem dX3_readClock_35 : decode cX3_readClock 35 = .ok (.getfield 47, 3) := dk_180 0 47 (dk_at dksX3_readClock_1 11 rfl rfl)
theorem dX3_readClock_38 : decode cX3_readClock 38 = .ok (.iload_n 1, 1) := dk_27 (dk_at dksX3_readClock_1 14 rfl rfl)
theorem dX3_readClock_39 : decode cX3_readClock 39 = .ok (.iconst 1, 1) := dk_4 (dk_at dksX3_readClock_1 15 rfl rfl)
theorem dX3_readClock_40 : decode cX3_readClock 40 = .ok (.iadd, 1) := dk_96 (dk_at dksX3_readClock_1 16 rfl rfl)
theorem dX3_readClock_41 : decode cX3_readClock 41 = .ok (.aload_n 0, 1) := dk_42 (dk_at dksX3_readClock_1 17 rfl rfl)
theorem dX3_readClock_42 : decode cX3_readClock 42 = .ok (.iconst 0, 1) := dk_3 (dk_at dksX3_readClock_1 18 rfl rfl)
theorem dX3_readClock_43 : decode cX3_readClock 43 = .ok (.sipush 719, 3) := dk_17 2 207 (dk_at dksX3_readClock_1 19 rfl rfl)
theorem dX3_readClock_46 : decode cX3_readClock 46 = .ok (.invokevirtual 162, 3) := dk_182 0 162 (dk_at dksX3_readClock_2 0 rfl rfl)
theorem dX3_readClock_49 : decode cX3_readClock 49 = .ok (.iastore, 1) := dk_79 (dk_at dksX3_readClock_2 3 rfl rfl)
theorem dX3_readClock_50 : decode cX3_readClock 50 = .ok (.aload_n 0, 1) := dk_42 (dk_at dksX3_readClock_2 4 rfl rfl)
theorem dX3_readClock_51 : decode cX3_readClock 51 = .ok (.getfield 47, 3) := dk_180 0 47 (dk_at dksX3_readClock_2 5 rfl rfl)
theorem dX3_readClock_54 : decode cX3_readClock 54 = .ok (.iload_n 1, 1) := dk_27 (dk_at dksX3_readClock_2 8 rfl rfl)
theorem dX3_readClock_55 : decode cX3_readClock 55 = .ok (.iconst 1, 1) := dk_4 (dk_at dksX3_readClock_2 9 rfl rfl)
theorem dX3_readClock_56 : decode cX3_readClock 56 = .ok (.iadd, 1) := dk_96 (dk_at dksX3_readClock_2 10 rfl rfl)
theorem dX3_readClock_57 : decode cX3_readClock 57 = .ok (.iaload, 1) := dk_46 (dk_at dksX3_readClock_2 11 rfl rfl)
theorem dX3_readClock_58 : decode cX3_readClock 58 = .ok (.ifCond .ge 5, 3) := dk_156 0 5 (dk_at dksX3_readClock_2 12 rfl rfl)
theorem dX3_readClock_61 : decode cX3_readClock 61 = .ok (.iconst 0, 1) := dk_3 (dk_at dksX3_readClock_2 15 rfl rfl)
theorem dX3_readClock_62 : decode cX3_readClock 62 = .ok (.ireturn, 1) := dk_172 (dk_at dksX3_readClock_2 16 rfl rfl)
theorem dX3_readClock_63 : decode cX3_readClock 63 = .ok (.aload_n 0, 1) := dk_42 (dk_at dksX3_readClock_2 17 rfl rfl)
theorem dX3_readClock_64 : decode cX3_readClock 64 = .ok (.bipush 43, 2) := dk_16 43 (dk_at dksX3_readClock_2 18 rfl rfl)
theorem dX3_readClock_66 : decode cX3_readClock 66 = .ok (.invokevirtual 166, 3) := dk_182 0 166 (dk_at dksX3_readClock_2 20 rfl rfl)
theorem dX3_readClock_69 : decode cX3_readClock 69 = .ok (.ifCond .eq 7, 3) := dk_153 0 7 (dk_at dksX3_readClock_3 0 rfl rfl)
theorem dX3_readClock_72 : decode cX3_readClock 72 = .ok (.iconst 1, 1) := dk_4 (dk_at dksX3_readClock_3 3 rfl rfl)
theorem dX3_readClock_73 : decode cX3_readClock 73 = .ok (.goto 17, 3) := dk_167 0 17 (dk_at dksX3_readClock_3 4 rfl rfl)
theorem dX3_readClock_76 : decode cX3_readClock 76 = .ok (.aload_n 0, 1) := dk_42 (dk_at dksX3_readClock_3 7 rfl rfl)
theorem dX3_readClock_77 : decode cX3_readClock 77 = .ok (.bipush 45, 2) := dk_16 45 (dk_at dksX3_readClock_3 8 rfl rfl)
theorem dX3_readClock_79 : decode cX3_readClock 79 = .ok (.invokevirtual 166, 3) := dk_182 0 166 (dk_at dksX3_readClock_3 10 rfl rfl)
theorem dX3_readClock_82 : decode cX3_readClock 82 = .ok (.ifCond .eq 7, 3) := dk_153 0 7 (dk_at dksX3_readClock_3 13 rfl rfl)
theorem dX3_readClock_85 : decode cX3_readClock 85 = .ok (.iconst (-1), 1) := dk_2 (dk_at dksX3_readClock_3 16 rfl rfl)
theorem dX3_readClock_86 : decode cX3_readClock 86 = .ok (.goto 4, 3) := dk_167 0 4 (dk_at dksX3_readClock_3 17 rfl rfl)
theorem dX3_readClock_89 : decode cX3_readClock 89 = .ok (.iconst 0, 1) := dk_3 (dk_at dksX3_readClock_3 20 rfl rfl)
theorem dX3_readClock_90 : decode cX3_readClock 90 = .ok (.istore_n 2, 1) := dk_61 (dk_at dksX3_readClock_3 21 rfl rfl)
theorem dX3_readClock_91 : decode cX3_readClock 91 = .ok (.iload_n 2, 1) := dk_28 (dk_at dksX3_readClock_3 22 rfl rfl)
theorem dX3_readClock_92 : decode cX3_readClock 92 = .ok (.ifCond .ne 7, 3) := dk_154 0 7 (dk_at dksX3_readClock_4 0 rfl rfl)
theorem dX3_readClock_95 : decode cX3_readClock 95 = .ok (.iconst 0, 1) := dk_3 (dk_at dksX3_readClock_4 3 rfl rfl)
theorem dX3_readClock_96 : decode cX3_readClock 96 = .ok (.goto 10, 3) := dk_167 0 10 (dk_at dksX3_readClock_4 4 rfl rfl)
theorem dX3_readClock_99 : decode cX3_readClock 99 = .ok (.aload_n 0, 1) := dk_42 (dk_at dksX3_readClock_4 7 rfl rfl)
theorem dX3_readClock_100 : decode cX3_readClock 100 = .ok (.iconst 0, 1) := dk_3 (dk_at dksX3_readClock_4 8 rfl rfl)
theorem dX3_readClock_101 : decode cX3_readClock 101 = .ok (.bipush 30, 2) := dk_16 30 (dk_at dksX3_readClock_4 9 rfl rfl)
theorem dX3_readClock_103 : decode cX3_readClock 103 = .ok (.invokevirtual 162, 3) := dk_182 0 162 (dk_at dksX3_readClock_4 11 rfl rfl)
theorem dX3_readClock_106 : decode cX3_readClock 106 = .ok (.istore_n 3, 1) := dk_62 (dk_at dksX3_readClock_4 14 rfl rfl)
theorem dX3_readClock_107 : decode cX3_readClock 107 = .ok (.iload_n 3, 1) := dk_29 (dk_at dksX3_readClock_4 15 rfl rfl)
theorem dX3_readClock_108 : decode cX3_readClock 108 = .ok (.ifCond .ge 5, 3) := dk_156 0 5 (dk_at dksX3_readClock_4 16 rfl rfl)
theorem dX3_readClock_111 : decode cX3_readClock 111 = .ok (.iconst 0, 1) := dk_3 (dk_at dksX3_readClock_4 19 rfl rfl)
theorem dX3_readClock_112 : decode cX3_readClock 112 = .ok (.ireturn, 1) := dk_172 (dk_at dksX3_readClock_4 20 rfl rfl)
theorem dX3_readClock_113 : decode cX3_readClock 113 = .ok (.aload_n 0, 1) := dk_42 (dk_at dksX3_readClock_4 21 rfl rfl)
theorem dX3_readClock_114 : decode cX3_readClock 114 = .ok (.getfield 47, 3) := dk_180 0 47 (dk_at dksX3_readClock_5 0 rfl rfl)
theorem dX3_readClock_117 : decode cX3_readClock 117 = .ok (.iload_n 1, 1) := dk_27 (dk_at dksX3_readClock_5 3 rfl rfl)
theorem dX3_readClock_118 : decode cX3_readClock 118 = .ok (.iconst 2, 1) := dk_5 (dk_at dksX3_readClock_5 4 rfl rfl)
theorem dX3_readClock_119 : decode cX3_readClock 119 = .ok (.iadd, 1) := dk_96 (dk_at dksX3_readClock_5 5 rfl rfl)
theorem dX3_readClock_120 : decode cX3_readClock 120 = .ok (.iload_n 2, 1) := dk_28 (dk_at dksX3_readClock_5 6 rfl rfl)
theorem dX3_readClock_121 : decode cX3_readClock 121 = .ok (.iload_n 3, 1) := dk_29 (dk_at dksX3_readClock_5 7 rfl rfl)
theorem dX3_readClock_122 : decode cX3_readClock 122 = .ok (.imul, 1) := dk_104 (dk_at dksX3_readClock_5 8 rfl rfl)
theorem dX3_readClock_123 : decode cX3_readClock 123 = .ok (.iastore, 1) := dk_79 (dk_at dksX3_readClock_5 9 rfl rfl)
theorem dX3_readClock_124 : decode cX3_readClock 124 = .ok (.aload_n 0, 1) := dk_42 (dk_at dksX3_readClock_5 10 rfl rfl)
theorem dX3_readClock_125 : decode cX3_readClock 125 = .ok (.getfield 47, 3) := dk_180 0 47 (dk_at dksX3_readClock_5 11 rfl rfl)
theorem dX3_readClock_128 : decode cX3_readClock 128 = .ok (.iload_n 1, 1) := dk_27 (dk_at dksX3_readClock_5 14 rfl rfl)
theorem dX3_readClock_129 : decode cX3_readClock 129 = .ok (.iconst 3, 1) := dk_6 (dk_at dksX3_readClock_5 15 rfl rfl)
theorem dX3_readClock_130 : decode cX3_readClock 130 = .ok (.iadd, 1) := dk_96 (dk_at dksX3_readClock_5 16 rfl rfl)
theorem dX3_readClock_131 : decode cX3_readClock 131 = .ok (.aload_n 0, 1) := dk_42 (dk_at dksX3_readClock_5 17 rfl rfl)
theorem dX3_readClock_132 : decode cX3_readClock 132 = .ok (.bipush 42, 2) := dk_16 42 (dk_at dksX3_readClock_5 18 rfl rfl)
theorem dX3_readClock_134 : decode cX3_readClock 134 = .ok (.invokevirtual 166, 3) := dk_182 0 166 (dk_at dksX3_readClock_5 20 rfl rfl)
theorem dX3_readClock_137 : decode cX3_readClock 137 = .ok (.ifCond .eq 13, 3) := dk_153 0 13 (dk_at dksX3_readClock_6 0 rfl rfl)
theorem dX3_readClock_140 : decode cX3_readClock 140 = .ok (.aload_n 0, 1) := dk_42 (dk_at dksX3_readClock_6 3 rfl rfl)
theorem dX3_readClock_141 : decode cX3_readClock 141 = .ok (.iconst 0, 1) := dk_3 (dk_at dksX3_readClock_6 4 rfl rfl)
theorem dX3_readClock_142 : decode cX3_readClock 142 = .ok (.bipush 99, 2) := dk_16 99 (dk_at dksX3_readClock_6 5 rfl rfl)
theorem dX3_readClock_144 : decode cX3_readClock 144 = .ok (.invokevirtual 162, 3) := dk_182 0 162 (dk_at dksX3_readClock_6 7 rfl rfl)
theorem dX3_readClock_147 : decode cX3_readClock 147 = .ok (.goto 4, 3) := dk_167 0 4 (dk_at dksX3_readClock_6 10 rfl rfl)
theorem dX3_readClock_150 : decode cX3_readClock 150 = .ok (.iconst 0, 1) := dk_3 (dk_at dksX3_readClock_6 13 rfl rfl)
theorem dX3_readClock_151 : decode cX3_readClock 151 = .ok (.iastore, 1) := dk_79 (dk_at dksX3_readClock_6 14 rfl rfl)
theorem dX3_readClock_152 : decode cX3_readClock 152 = .ok (.aload_n 0, 1) := dk_42 (dk_at dksX3_readClock_6 15 rfl rfl)
theorem dX3_readClock_153 : decode cX3_readClock 153 = .ok (.getfield 47, 3) := dk_180 0 47 (dk_at dksX3_readClock_6 16 rfl rfl)
theorem dX3_readClock_156 : decode cX3_readClock 156 = .ok (.iload_n 1, 1) := dk_27 (dk_at dksX3_readClock_6 19 rfl rfl)
theorem dX3_readClock_157 : decode cX3_readClock 157 = .ok (.iconst 3, 1) := dk_6 (dk_at dksX3_readClock_6 20 rfl rfl)
theorem dX3_readClock_158 : decode cX3_readClock 158 = .ok (.iadd, 1) := dk_96 (dk_at dksX3_readClock_6 21 rfl rfl)
theorem dX3_readClock_159 : decode cX3_readClock 159 = .ok (.iaload, 1) := dk_46 (dk_at dksX3_readClock_6 22 rfl rfl)
theorem dX3_readClock_160 : decode cX3_readClock 160 = .ok (.ifCond .lt 7, 3) := dk_155 0 7 (dk_at dksX3_readClock_7 0 rfl rfl)
theorem dX3_readClock_163 : decode cX3_readClock 163 = .ok (.iconst 1, 1) := dk_4 (dk_at dksX3_readClock_7 3 rfl rfl)
theorem dX3_readClock_164 : decode cX3_readClock 164 = .ok (.goto 4, 3) := dk_167 0 4 (dk_at dksX3_readClock_7 4 rfl rfl)
theorem dX3_readClock_167 : decode cX3_readClock 167 = .ok (.iconst 0, 1) := dk_3 (dk_at dksX3_readClock_7 7 rfl rfl)
theorem dX3_readClock_168 : decode cX3_readClock 168 = .ok (.ireturn, 1) := dk_172 (dk_at dksX3_readClock_7 8 rfl rfl)
abbrev cX3_readStreet : ByteArray := prog_24_method_32_code
def yX3_readStreet : MethodName := ⟨RX3, "readStreet", "()Z"⟩
def dkwX3_readStreet_3 : List UInt8 := [167, 255, 193, 3, 172]
abbrev dktX3_readStreet_3 : List UInt8 := dkwX3_readStreet_3 ++ []
def dkwX3_readStreet_2 : List UInt8 := [160, 0, 9, 27, 16, 8, 160, 0, 5, 3, 172, 42, 89, 180, 0, 128, 4, 96, 181, 0, 128, 132, 1, 1]
abbrev dktX3_readStreet_2 : List UInt8 := dkwX3_readStreet_2 ++ dktX3_readStreet_3
def dkwX3_readStreet_1 : List UInt8 := [172, 42, 27, 4, 96, 181, 0, 139, 42, 182, 0, 131, 61, 28, 156, 0, 5, 4, 172, 28, 16, 44]
abbrev dktX3_readStreet_1 : List UInt8 := dkwX3_readStreet_1 ++ dktX3_readStreet_2
def dkwX3_readStreet_0 : List UInt8 := [42, 3, 181, 0, 128, 3, 60, 27, 16, 9, 162, 0, 63, 42, 7, 27, 104, 182, 0, 169, 154, 0, 5, 3]
abbrev dktX3_readStreet_0 : List UInt8 := dkwX3_readStreet_0 ++ dktX3_readStreet_1
theorem dksX3_readStreet_0 : cX3_readStreet.data.toList.drop 0 = dktX3_readStreet_0 := by decide +kernel
theorem dksX3_readStreet_1 : cX3_readStreet.data.toList.drop 24 = dktX3_readStreet_1 := dk_seg dksX3_readStreet_0 24 rfl rfl
theorem dksX3_readStreet_2 : cX3_readStreet.data.toList.drop 46 = dktX3_readStreet_2 := dk_seg dksX3_readStreet_1 22 rfl rfl
theorem dksX3_readStreet_3 : cX3_readStreet.data.toList.drop 70 = dktX3_readStreet_3 := dk_seg dksX3_readStreet_2 24 rfl rfl
theorem dX3_readStreet_0 : decode cX3_readStreet 0 = .ok (.aload_n 0, 1) := dk_42 (dk_at dksX3_readStreet_0 0 rfl rfl)
theorem dX3_readStreet_1 : decode cX3_readStreet 1 = .ok (.iconst 0, 1) := dk_3 (dk_at dksX3_readStreet_0 1 rfl rfl)
theorem dX3_readStreet_2 : decode cX3_readStreet 2 = .ok (.putfield 128, 3) := dk_181 0 128 (dk_at dksX3_readStreet_0 2 rfl rfl)
theorem dX3_readStreet_5 : decode cX3_readStreet 5 = .ok (.iconst 0, 1) := dk_3 (dk_at dksX3_readStreet_0 5 rfl rfl)
theorem dX3_readStreet_6 : decode cX3_readStreet 6 = .ok (.istore_n 1, 1) := dk_60 (dk_at dksX3_readStreet_0 6 rfl rfl)
theorem dX3_readStreet_7 : decode cX3_readStreet 7 = .ok (.iload_n 1, 1) := dk_27 (dk_at dksX3_readStreet_0 7 rfl rfl)
theorem dX3_readStreet_8 : decode cX3_readStreet 8 = .ok (.bipush 9, 2) := dk_16 9 (dk_at dksX3_readStreet_0 8 rfl rfl)
theorem dX3_readStreet_10 : decode cX3_readStreet 10 = .ok (.if_icmp .ge 63, 3) := dk_162 0 63 (dk_at dksX3_readStreet_0 10 rfl rfl)
theorem dX3_readStreet_13 : decode cX3_readStreet 13 = .ok (.aload_n 0, 1) := dk_42 (dk_at dksX3_readStreet_0 13 rfl rfl)
theorem dX3_readStreet_14 : decode cX3_readStreet 14 = .ok (.iconst 4, 1) := dk_7 (dk_at dksX3_readStreet_0 14 rfl rfl)
theorem dX3_readStreet_15 : decode cX3_readStreet 15 = .ok (.iload_n 1, 1) := dk_27 (dk_at dksX3_readStreet_0 15 rfl rfl)
theorem dX3_readStreet_16 : decode cX3_readStreet 16 = .ok (.imul, 1) := dk_104 (dk_at dksX3_readStreet_0 16 rfl rfl)
theorem dX3_readStreet_17 : decode cX3_readStreet 17 = .ok (.invokevirtual 169, 3) := dk_182 0 169 (dk_at dksX3_readStreet_0 17 rfl rfl)
theorem dX3_readStreet_20 : decode cX3_readStreet 20 = .ok (.ifCond .ne 5, 3) := dk_154 0 5 (dk_at dksX3_readStreet_0 20 rfl rfl)
theorem dX3_readStreet_23 : decode cX3_readStreet 23 = .ok (.iconst 0, 1) := dk_3 (dk_at dksX3_readStreet_0 23 rfl rfl)
theorem dX3_readStreet_24 : decode cX3_readStreet 24 = .ok (.ireturn, 1) := dk_172 (dk_at dksX3_readStreet_1 0 rfl rfl)
theorem dX3_readStreet_25 : decode cX3_readStreet 25 = .ok (.aload_n 0, 1) := dk_42 (dk_at dksX3_readStreet_1 1 rfl rfl)
theorem dX3_readStreet_26 : decode cX3_readStreet 26 = .ok (.iload_n 1, 1) := dk_27 (dk_at dksX3_readStreet_1 2 rfl rfl)
theorem dX3_readStreet_27 : decode cX3_readStreet 27 = .ok (.iconst 1, 1) := dk_4 (dk_at dksX3_readStreet_1 3 rfl rfl)
theorem dX3_readStreet_28 : decode cX3_readStreet 28 = .ok (.iadd, 1) := dk_96 (dk_at dksX3_readStreet_1 4 rfl rfl)
theorem dX3_readStreet_29 : decode cX3_readStreet 29 = .ok (.putfield 139, 3) := dk_181 0 139 (dk_at dksX3_readStreet_1 5 rfl rfl)
theorem dX3_readStreet_32 : decode cX3_readStreet 32 = .ok (.aload_n 0, 1) := dk_42 (dk_at dksX3_readStreet_1 8 rfl rfl)
theorem dX3_readStreet_33 : decode cX3_readStreet 33 = .ok (.invokevirtual 131, 3) := dk_182 0 131 (dk_at dksX3_readStreet_1 9 rfl rfl)
theorem dX3_readStreet_36 : decode cX3_readStreet 36 = .ok (.istore_n 2, 1) := dk_61 (dk_at dksX3_readStreet_1 12 rfl rfl)
theorem dX3_readStreet_37 : decode cX3_readStreet 37 = .ok (.iload_n 2, 1) := dk_28 (dk_at dksX3_readStreet_1 13 rfl rfl)
theorem dX3_readStreet_38 : decode cX3_readStreet 38 = .ok (.ifCond .ge 5, 3) := dk_156 0 5 (dk_at dksX3_readStreet_1 14 rfl rfl)
theorem dX3_readStreet_41 : decode cX3_readStreet 41 = .ok (.iconst 1, 1) := dk_4 (dk_at dksX3_readStreet_1 17 rfl rfl)
theorem dX3_readStreet_42 : decode cX3_readStreet 42 = .ok (.ireturn, 1) := dk_172 (dk_at dksX3_readStreet_1 18 rfl rfl)
theorem dX3_readStreet_43 : decode cX3_readStreet 43 = .ok (.iload_n 2, 1) := dk_28 (dk_at dksX3_readStreet_1 19 rfl rfl)
theorem dX3_readStreet_44 : decode cX3_readStreet 44 = .ok (.bipush 44, 2) := dk_16 44 (dk_at dksX3_readStreet_1 20 rfl rfl)
theorem dX3_readStreet_46 : decode cX3_readStreet 46 = .ok (.if_icmp .ne 9, 3) := dk_160 0 9 (dk_at dksX3_readStreet_2 0 rfl rfl)
theorem dX3_readStreet_49 : decode cX3_readStreet 49 = .ok (.iload_n 1, 1) := dk_27 (dk_at dksX3_readStreet_2 3 rfl rfl)
theorem dX3_readStreet_50 : decode cX3_readStreet 50 = .ok (.bipush 8, 2) := dk_16 8 (dk_at dksX3_readStreet_2 4 rfl rfl)
theorem dX3_readStreet_52 : decode cX3_readStreet 52 = .ok (.if_icmp .ne 5, 3) := dk_160 0 5 (dk_at dksX3_readStreet_2 6 rfl rfl)
theorem dX3_readStreet_55 : decode cX3_readStreet 55 = .ok (.iconst 0, 1) := dk_3 (dk_at dksX3_readStreet_2 9 rfl rfl)
theorem dX3_readStreet_56 : decode cX3_readStreet 56 = .ok (.ireturn, 1) := dk_172 (dk_at dksX3_readStreet_2 10 rfl rfl)
theorem dX3_readStreet_57 : decode cX3_readStreet 57 = .ok (.aload_n 0, 1) := dk_42 (dk_at dksX3_readStreet_2 11 rfl rfl)
theorem dX3_readStreet_58 : decode cX3_readStreet 58 = .ok (.dup, 1) := dk_89 (dk_at dksX3_readStreet_2 12 rfl rfl)
theorem dX3_readStreet_59 : decode cX3_readStreet 59 = .ok (.getfield 128, 3) := dk_180 0 128 (dk_at dksX3_readStreet_2 13 rfl rfl)
theorem dX3_readStreet_62 : decode cX3_readStreet 62 = .ok (.iconst 1, 1) := dk_4 (dk_at dksX3_readStreet_2 16 rfl rfl)
theorem dX3_readStreet_63 : decode cX3_readStreet 63 = .ok (.iadd, 1) := dk_96 (dk_at dksX3_readStreet_2 17 rfl rfl)
theorem dX3_readStreet_64 : decode cX3_readStreet 64 = .ok (.putfield 128, 3) := dk_181 0 128 (dk_at dksX3_readStreet_2 18 rfl rfl)
theorem dX3_readStreet_67 : decode cX3_readStreet 67 = .ok (.iinc 1 1, 3) := dk_132 1 1 (dk_at dksX3_readStreet_2 21 rfl rfl)
theorem dX3_readStreet_70 : decode cX3_readStreet 70 = .ok (.goto (-63), 3) := dk_167 255 193 (dk_at dksX3_readStreet_3 0 rfl rfl)
theorem dX3_readStreet_73 : decode cX3_readStreet 73 = .ok (.iconst 0, 1) := dk_3 (dk_at dksX3_readStreet_3 3 rfl rfl)
theorem dX3_readStreet_74 : decode cX3_readStreet 74 = .ok (.ireturn, 1) := dk_172 (dk_at dksX3_readStreet_3 4 rfl rfl)
abbrev cX3_street : ByteArray := prog_24_method_33_code
def yX3_street : MethodName := ⟨RX3, "street", "()I"⟩
def dkwX3_street_4 : List UInt8 := [46, 182, 0, 89, 132, 2, 1, 167, 255, 203, 42, 180, 0, 72, 172]
abbrev dktX3_street_4 : List UInt8 := dkwX3_street_4 ++ []
def dkwX3_street_3 : List UInt8 := [28, 104, 4, 96, 46, 42, 180, 0, 47, 7, 28, 104, 5, 96, 46, 42, 180, 0, 47, 7, 28, 104, 6, 96]
abbrev dktX3_street_3 : List UInt8 := dkwX3_street_3 ++ dktX3_street_4
def dkwX3_street_2 : List UInt8 := [3, 61, 28, 42, 180, 0, 139, 162, 0, 51, 42, 42, 180, 0, 47, 7, 28, 104, 46, 42, 180, 0, 47, 7]
abbrev dktX3_street_2 : List UInt8 := dkwX3_street_2 ++ dktX3_street_3
def dkwX3_street_1 : List UInt8 := [181, 0, 93, 42, 3, 181, 0, 96, 42, 180, 0, 7, 16, 61, 3, 79, 42, 180, 0, 7, 16, 62, 3, 79]
abbrev dktX3_street_1 : List UInt8 := dkwX3_street_1 ++ dktX3_street_2
def dkwX3_street_0 : List UInt8 := [42, 42, 182, 0, 172, 182, 0, 152, 60, 27, 156, 0, 5, 27, 172, 42, 3, 181, 0, 72, 42, 3]
abbrev dktX3_street_0 : List UInt8 := dkwX3_street_0 ++ dktX3_street_1
theorem dksX3_street_0 : cX3_street.data.toList.drop 0 = dktX3_street_0 := by decide +kernel
theorem dksX3_street_1 : cX3_street.data.toList.drop 22 = dktX3_street_1 := dk_seg dksX3_street_0 22 rfl rfl
theorem dksX3_street_2 : cX3_street.data.toList.drop 46 = dktX3_street_2 := dk_seg dksX3_street_1 24 rfl rfl
theorem dksX3_street_3 : cX3_street.data.toList.drop 70 = dktX3_street_3 := dk_seg dksX3_street_2 24 rfl rfl
theorem dksX3_street_4 : cX3_street.data.toList.drop 94 = dktX3_street_4 := dk_seg dksX3_street_3 24 rfl rfl
theorem dX3_street_0 : decode cX3_street 0 = .ok (.aload_n 0, 1) := dk_42 (dk_at dksX3_street_0 0 rfl rfl)
theorem dX3_street_1 : decode cX3_street 1 = .ok (.aload_n 0, 1) := dk_42 (dk_at dksX3_street_0 1 rfl rfl)
theorem dX3_street_2 : decode cX3_street 2 = .ok (.invokevirtual 172, 3) := dk_182 0 172 (dk_at dksX3_street_0 2 rfl rfl)
theorem dX3_street_5 : decode cX3_street 5 = .ok (.invokevirtual 152, 3) := dk_182 0 152 (dk_at dksX3_street_0 5 rfl rfl)
theorem dX3_street_8 : decode cX3_street 8 = .ok (.istore_n 1, 1) := dk_60 (dk_at dksX3_street_0 8 rfl rfl)
theorem dX3_street_9 : decode cX3_street 9 = .ok (.iload_n 1, 1) := dk_27 (dk_at dksX3_street_0 9 rfl rfl)
theorem dX3_street_10 : decode cX3_street 10 = .ok (.ifCond .ge 5, 3) := dk_156 0 5 (dk_at dksX3_street_0 10 rfl rfl)
theorem dX3_street_13 : decode cX3_street 13 = .ok (.iload_n 1, 1) := dk_27 (dk_at dksX3_street_0 13 rfl rfl)
theorem dX3_street_14 : decode cX3_street 14 = .ok (.ireturn, 1) := dk_172 (dk_at dksX3_street_0 14 rfl rfl)
theorem dX3_street_15 : decode cX3_street 15 = .ok (.aload_n 0, 1) := dk_42 (dk_at dksX3_street_0 15 rfl rfl)
theorem dX3_street_16 : decode cX3_street 16 = .ok (.iconst 0, 1) := dk_3 (dk_at dksX3_street_0 16 rfl rfl)
theorem dX3_street_17 : decode cX3_street 17 = .ok (.putfield 72, 3) := dk_181 0 72 (dk_at dksX3_street_0 17 rfl rfl)
theorem dX3_street_20 : decode cX3_street 20 = .ok (.aload_n 0, 1) := dk_42 (dk_at dksX3_street_0 20 rfl rfl)
theorem dX3_street_21 : decode cX3_street 21 = .ok (.iconst 0, 1) := dk_3 (dk_at dksX3_street_0 21 rfl rfl)
theorem dX3_street_22 : decode cX3_street 22 = .ok (.putfield 93, 3) := dk_181 0 93 (dk_at dksX3_street_1 0 rfl rfl)
theorem dX3_street_25 : decode cX3_street 25 = .ok (.aload_n 0, 1) := dk_42 (dk_at dksX3_street_1 3 rfl rfl)
theorem dX3_street_26 : decode cX3_street 26 = .ok (.iconst 0, 1) := dk_3 (dk_at dksX3_street_1 4 rfl rfl)
theorem dX3_street_27 : decode cX3_street 27 = .ok (.putfield 96, 3) := dk_181 0 96 (dk_at dksX3_street_1 5 rfl rfl)
theorem dX3_street_30 : decode cX3_street 30 = .ok (.aload_n 0, 1) := dk_42 (dk_at dksX3_street_1 8 rfl rfl)
theorem dX3_street_31 : decode cX3_street 31 = .ok (.getfield 7, 3) := dk_180 0 7 (dk_at dksX3_street_1 9 rfl rfl)
theorem dX3_street_34 : decode cX3_street 34 = .ok (.bipush 61, 2) := dk_16 61 (dk_at dksX3_street_1 12 rfl rfl)
theorem dX3_street_36 : decode cX3_street 36 = .ok (.iconst 0, 1) := dk_3 (dk_at dksX3_street_1 14 rfl rfl)
theorem dX3_street_37 : decode cX3_street 37 = .ok (.iastore, 1) := dk_79 (dk_at dksX3_street_1 15 rfl rfl)
theorem dX3_street_38 : decode cX3_street 38 = .ok (.aload_n 0, 1) := dk_42 (dk_at dksX3_street_1 16 rfl rfl)
theorem dX3_street_39 : decode cX3_street 39 = .ok (.getfield 7, 3) := dk_180 0 7 (dk_at dksX3_street_1 17 rfl rfl)
theorem dX3_street_42 : decode cX3_street 42 = .ok (.bipush 62, 2) := dk_16 62 (dk_at dksX3_street_1 20 rfl rfl)
theorem dX3_street_44 : decode cX3_street 44 = .ok (.iconst 0, 1) := dk_3 (dk_at dksX3_street_1 22 rfl rfl)
theorem dX3_street_45 : decode cX3_street 45 = .ok (.iastore, 1) := dk_79 (dk_at dksX3_street_1 23 rfl rfl)
theorem dX3_street_46 : decode cX3_street 46 = .ok (.iconst 0, 1) := dk_3 (dk_at dksX3_street_2 0 rfl rfl)
theorem dX3_street_47 : decode cX3_street 47 = .ok (.istore_n 2, 1) := dk_61 (dk_at dksX3_street_2 1 rfl rfl)
theorem dX3_street_48 : decode cX3_street 48 = .ok (.iload_n 2, 1) := dk_28 (dk_at dksX3_street_2 2 rfl rfl)
theorem dX3_street_49 : decode cX3_street 49 = .ok (.aload_n 0, 1) := dk_42 (dk_at dksX3_street_2 3 rfl rfl)
theorem dX3_street_50 : decode cX3_street 50 = .ok (.getfield 139, 3) := dk_180 0 139 (dk_at dksX3_street_2 4 rfl rfl)
theorem dX3_street_53 : decode cX3_street 53 = .ok (.if_icmp .ge 51, 3) := dk_162 0 51 (dk_at dksX3_street_2 7 rfl rfl)
theorem dX3_street_56 : decode cX3_street 56 = .ok (.aload_n 0, 1) := dk_42 (dk_at dksX3_street_2 10 rfl rfl)
theorem dX3_street_57 : decode cX3_street 57 = .ok (.aload_n 0, 1) := dk_42 (dk_at dksX3_street_2 11 rfl rfl)
theorem dX3_street_58 : decode cX3_street 58 = .ok (.getfield 47, 3) := dk_180 0 47 (dk_at dksX3_street_2 12 rfl rfl)
theorem dX3_street_61 : decode cX3_street 61 = .ok (.iconst 4, 1) := dk_7 (dk_at dksX3_street_2 15 rfl rfl)
theorem dX3_street_62 : decode cX3_street 62 = .ok (.iload_n 2, 1) := dk_28 (dk_at dksX3_street_2 16 rfl rfl)
theorem dX3_street_63 : decode cX3_street 63 = .ok (.imul, 1) := dk_104 (dk_at dksX3_street_2 17 rfl rfl)
theorem dX3_street_64 : decode cX3_street 64 = .ok (.iaload, 1) := dk_46 (dk_at dksX3_street_2 18 rfl rfl)
theorem dX3_street_65 : decode cX3_street 65 = .ok (.aload_n 0, 1) := dk_42 (dk_at dksX3_street_2 19 rfl rfl)
theorem dX3_street_66 : decode cX3_street 66 = .ok (.getfield 47, 3) := dk_180 0 47 (dk_at dksX3_street_2 20 rfl rfl)
theorem dX3_street_69 : decode cX3_street 69 = .ok (.iconst 4, 1) := dk_7 (dk_at dksX3_street_2 23 rfl rfl)
theorem dX3_street_70 : decode cX3_street 70 = .ok (.iload_n 2, 1) := dk_28 (dk_at dksX3_street_3 0 rfl rfl)
theorem dX3_street_71 : decode cX3_street 71 = .ok (.imul, 1) := dk_104 (dk_at dksX3_street_3 1 rfl rfl)
theorem dX3_street_72 : decode cX3_street 72 = .ok (.iconst 1, 1) := dk_4 (dk_at dksX3_street_3 2 rfl rfl)
theorem dX3_street_73 : decode cX3_street 73 = .ok (.iadd, 1) := dk_96 (dk_at dksX3_street_3 3 rfl rfl)
theorem dX3_street_74 : decode cX3_street 74 = .ok (.iaload, 1) := dk_46 (dk_at dksX3_street_3 4 rfl rfl)
theorem dX3_street_75 : decode cX3_street 75 = .ok (.aload_n 0, 1) := dk_42 (dk_at dksX3_street_3 5 rfl rfl)
theorem dX3_street_76 : decode cX3_street 76 = .ok (.getfield 47, 3) := dk_180 0 47 (dk_at dksX3_street_3 6 rfl rfl)
theorem dX3_street_79 : decode cX3_street 79 = .ok (.iconst 4, 1) := dk_7 (dk_at dksX3_street_3 9 rfl rfl)
theorem dX3_street_80 : decode cX3_street 80 = .ok (.iload_n 2, 1) := dk_28 (dk_at dksX3_street_3 10 rfl rfl)
theorem dX3_street_81 : decode cX3_street 81 = .ok (.imul, 1) := dk_104 (dk_at dksX3_street_3 11 rfl rfl)
theorem dX3_street_82 : decode cX3_street 82 = .ok (.iconst 2, 1) := dk_5 (dk_at dksX3_street_3 12 rfl rfl)
theorem dX3_street_83 : decode cX3_street 83 = .ok (.iadd, 1) := dk_96 (dk_at dksX3_street_3 13 rfl rfl)
theorem dX3_street_84 : decode cX3_street 84 = .ok (.iaload, 1) := dk_46 (dk_at dksX3_street_3 14 rfl rfl)
theorem dX3_street_85 : decode cX3_street 85 = .ok (.aload_n 0, 1) := dk_42 (dk_at dksX3_street_3 15 rfl rfl)
theorem dX3_street_86 : decode cX3_street 86 = .ok (.getfield 47, 3) := dk_180 0 47 (dk_at dksX3_street_3 16 rfl rfl)
theorem dX3_street_89 : decode cX3_street 89 = .ok (.iconst 4, 1) := dk_7 (dk_at dksX3_street_3 19 rfl rfl)
theorem dX3_street_90 : decode cX3_street 90 = .ok (.iload_n 2, 1) := dk_28 (dk_at dksX3_street_3 20 rfl rfl)
theorem dX3_street_91 : decode cX3_street 91 = .ok (.imul, 1) := dk_104 (dk_at dksX3_street_3 21 rfl rfl)
theorem dX3_street_92 : decode cX3_street 92 = .ok (.iconst 3, 1) := dk_6 (dk_at dksX3_street_3 22 rfl rfl)
theorem dX3_street_93 : decode cX3_street 93 = .ok (.iadd, 1) := dk_96 (dk_at dksX3_street_3 23 rfl rfl)
theorem dX3_street_94 : decode cX3_street 94 = .ok (.iaload, 1) := dk_46 (dk_at dksX3_street_4 0 rfl rfl)
theorem dX3_street_95 : decode cX3_street 95 = .ok (.invokevirtual 89, 3) := dk_182 0 89 (dk_at dksX3_street_4 1 rfl rfl)
theorem dX3_street_98 : decode cX3_street 98 = .ok (.iinc 2 1, 3) := dk_132 2 1 (dk_at dksX3_street_4 4 rfl rfl)
theorem dX3_street_101 : decode cX3_street 101 = .ok (.goto (-53), 3) := dk_167 255 203 (dk_at dksX3_street_4 7 rfl rfl)
theorem dX3_street_104 : decode cX3_street 104 = .ok (.aload_n 0, 1) := dk_42 (dk_at dksX3_street_4 10 rfl rfl)
theorem dX3_street_105 : decode cX3_street 105 = .ok (.getfield 72, 3) := dk_180 0 72 (dk_at dksX3_street_4 11 rfl rfl)
theorem dX3_street_108 : decode cX3_street 108 = .ok (.ireturn, 1) := dk_172 (dk_at dksX3_street_4 14 rfl rfl)
abbrev cX3_note : ByteArray := prog_24_method_50_code
def yX3_note : MethodName := ⟨RX3, "note", "(III)V"⟩
def dkwX3_note_4 : List UInt8 := [180, 0, 96, 4, 96, 181, 0, 96, 177]
abbrev dktX3_note_4 : List UInt8 := dkwX3_note_4 ++ []
def dkwX3_note_3 : List UInt8 := [180, 0, 96, 104, 4, 96, 28, 79, 42, 180, 0, 38, 6, 42, 180, 0, 96, 104, 5, 96, 29, 79, 42, 89]
abbrev dktX3_note_3 : List UInt8 := dkwX3_note_3 ++ dktX3_note_4
def dkwX3_note_2 : List UInt8 := [100, 181, 0, 96, 42, 180, 0, 38, 6, 42, 180, 0, 96, 104, 27, 79, 42, 180, 0, 38, 6, 42]
abbrev dktX3_note_2 : List UInt8 := dkwX3_note_2 ++ dktX3_note_3
def dkwX3_note_1 : List UInt8 := [21, 4, 42, 180, 0, 38, 21, 4, 6, 96, 46, 79, 132, 4, 1, 167, 255, 230, 42, 89, 180, 0, 96, 4]
abbrev dktX3_note_1 : List UInt8 := dkwX3_note_1 ++ dktX3_note_2
def dkwX3_note_0 : List UInt8 := [42, 180, 0, 96, 16, 10, 160, 0, 45, 3, 54, 4, 21, 4, 16, 27, 162, 0, 25, 42, 180, 0, 38]
abbrev dktX3_note_0 : List UInt8 := dkwX3_note_0 ++ dktX3_note_1
theorem dksX3_note_0 : cX3_note.data.toList.drop 0 = dktX3_note_0 := by decide +kernel
theorem dksX3_note_1 : cX3_note.data.toList.drop 23 = dktX3_note_1 := dk_seg dksX3_note_0 23 rfl rfl
theorem dksX3_note_2 : cX3_note.data.toList.drop 47 = dktX3_note_2 := dk_seg dksX3_note_1 24 rfl rfl
theorem dksX3_note_3 : cX3_note.data.toList.drop 69 = dktX3_note_3 := dk_seg dksX3_note_2 22 rfl rfl
theorem dksX3_note_4 : cX3_note.data.toList.drop 93 = dktX3_note_4 := dk_seg dksX3_note_3 24 rfl rfl
theorem dX3_note_0 : decode cX3_note 0 = .ok (.aload_n 0, 1) := dk_42 (dk_at dksX3_note_0 0 rfl rfl)
theorem dX3_note_1 : decode cX3_note 1 = .ok (.getfield 96, 3) := dk_180 0 96 (dk_at dksX3_note_0 1 rfl rfl)
theorem dX3_note_4 : decode cX3_note 4 = .ok (.bipush 10, 2) := dk_16 10 (dk_at dksX3_note_0 4 rfl rfl)
theorem dX3_note_6 : decode cX3_note 6 = .ok (.if_icmp .ne 45, 3) := dk_160 0 45 (dk_at dksX3_note_0 6 rfl rfl)
theorem dX3_note_9 : decode cX3_note 9 = .ok (.iconst 0, 1) := dk_3 (dk_at dksX3_note_0 9 rfl rfl)
theorem dX3_note_10 : decode cX3_note 10 = .ok (.istore 4, 2) := dk_54 4 (dk_at dksX3_note_0 10 rfl rfl)
theorem dX3_note_12 : decode cX3_note 12 = .ok (.iload 4, 2) := dk_21 4 (dk_at dksX3_note_0 12 rfl rfl)
theorem dX3_note_14 : decode cX3_note 14 = .ok (.bipush 27, 2) := dk_16 27 (dk_at dksX3_note_0 14 rfl rfl)
theorem dX3_note_16 : decode cX3_note 16 = .ok (.if_icmp .ge 25, 3) := dk_162 0 25 (dk_at dksX3_note_0 16 rfl rfl)
theorem dX3_note_19 : decode cX3_note 19 = .ok (.aload_n 0, 1) := dk_42 (dk_at dksX3_note_0 19 rfl rfl)
theorem dX3_note_20 : decode cX3_note 20 = .ok (.getfield 38, 3) := dk_180 0 38 (dk_at dksX3_note_0 20 rfl rfl)
theorem dX3_note_23 : decode cX3_note 23 = .ok (.iload 4, 2) := dk_21 4 (dk_at dksX3_note_1 0 rfl rfl)
theorem dX3_note_25 : decode cX3_note 25 = .ok (.aload_n 0, 1) := dk_42 (dk_at dksX3_note_1 2 rfl rfl)
theorem dX3_note_26 : decode cX3_note 26 = .ok (.getfield 38, 3) := dk_180 0 38 (dk_at dksX3_note_1 3 rfl rfl)
theorem dX3_note_29 : decode cX3_note 29 = .ok (.iload 4, 2) := dk_21 4 (dk_at dksX3_note_1 6 rfl rfl)
theorem dX3_note_31 : decode cX3_note 31 = .ok (.iconst 3, 1) := dk_6 (dk_at dksX3_note_1 8 rfl rfl)
theorem dX3_note_32 : decode cX3_note 32 = .ok (.iadd, 1) := dk_96 (dk_at dksX3_note_1 9 rfl rfl)
theorem dX3_note_33 : decode cX3_note 33 = .ok (.iaload, 1) := dk_46 (dk_at dksX3_note_1 10 rfl rfl)
theorem dX3_note_34 : decode cX3_note 34 = .ok (.iastore, 1) := dk_79 (dk_at dksX3_note_1 11 rfl rfl)
theorem dX3_note_35 : decode cX3_note 35 = .ok (.iinc 4 1, 3) := dk_132 4 1 (dk_at dksX3_note_1 12 rfl rfl)
theorem dX3_note_38 : decode cX3_note 38 = .ok (.goto (-26), 3) := dk_167 255 230 (dk_at dksX3_note_1 15 rfl rfl)
theorem dX3_note_41 : decode cX3_note 41 = .ok (.aload_n 0, 1) := dk_42 (dk_at dksX3_note_1 18 rfl rfl)
theorem dX3_note_42 : decode cX3_note 42 = .ok (.dup, 1) := dk_89 (dk_at dksX3_note_1 19 rfl rfl)
theorem dX3_note_43 : decode cX3_note 43 = .ok (.getfield 96, 3) := dk_180 0 96 (dk_at dksX3_note_1 20 rfl rfl)
theorem dX3_note_46 : decode cX3_note 46 = .ok (.iconst 1, 1) := dk_4 (dk_at dksX3_note_1 23 rfl rfl)
theorem dX3_note_47 : decode cX3_note 47 = .ok (.isub, 1) := dk_100 (dk_at dksX3_note_2 0 rfl rfl)
theorem dX3_note_48 : decode cX3_note 48 = .ok (.putfield 96, 3) := dk_181 0 96 (dk_at dksX3_note_2 1 rfl rfl)
theorem dX3_note_51 : decode cX3_note 51 = .ok (.aload_n 0, 1) := dk_42 (dk_at dksX3_note_2 4 rfl rfl)
theorem dX3_note_52 : decode cX3_note 52 = .ok (.getfield 38, 3) := dk_180 0 38 (dk_at dksX3_note_2 5 rfl rfl)
theorem dX3_note_55 : decode cX3_note 55 = .ok (.iconst 3, 1) := dk_6 (dk_at dksX3_note_2 8 rfl rfl)
theorem dX3_note_56 : decode cX3_note 56 = .ok (.aload_n 0, 1) := dk_42 (dk_at dksX3_note_2 9 rfl rfl)
theorem dX3_note_57 : decode cX3_note 57 = .ok (.getfield 96, 3) := dk_180 0 96 (dk_at dksX3_note_2 10 rfl rfl)
theorem dX3_note_60 : decode cX3_note 60 = .ok (.imul, 1) := dk_104 (dk_at dksX3_note_2 13 rfl rfl)
theorem dX3_note_61 : decode cX3_note 61 = .ok (.iload_n 1, 1) := dk_27 (dk_at dksX3_note_2 14 rfl rfl)
theorem dX3_note_62 : decode cX3_note 62 = .ok (.iastore, 1) := dk_79 (dk_at dksX3_note_2 15 rfl rfl)
theorem dX3_note_63 : decode cX3_note 63 = .ok (.aload_n 0, 1) := dk_42 (dk_at dksX3_note_2 16 rfl rfl)
theorem dX3_note_64 : decode cX3_note 64 = .ok (.getfield 38, 3) := dk_180 0 38 (dk_at dksX3_note_2 17 rfl rfl)
theorem dX3_note_67 : decode cX3_note 67 = .ok (.iconst 3, 1) := dk_6 (dk_at dksX3_note_2 20 rfl rfl)
theorem dX3_note_68 : decode cX3_note 68 = .ok (.aload_n 0, 1) := dk_42 (dk_at dksX3_note_2 21 rfl rfl)
theorem dX3_note_69 : decode cX3_note 69 = .ok (.getfield 96, 3) := dk_180 0 96 (dk_at dksX3_note_3 0 rfl rfl)
theorem dX3_note_72 : decode cX3_note 72 = .ok (.imul, 1) := dk_104 (dk_at dksX3_note_3 3 rfl rfl)
theorem dX3_note_73 : decode cX3_note 73 = .ok (.iconst 1, 1) := dk_4 (dk_at dksX3_note_3 4 rfl rfl)
theorem dX3_note_74 : decode cX3_note 74 = .ok (.iadd, 1) := dk_96 (dk_at dksX3_note_3 5 rfl rfl)
theorem dX3_note_75 : decode cX3_note 75 = .ok (.iload_n 2, 1) := dk_28 (dk_at dksX3_note_3 6 rfl rfl)
theorem dX3_note_76 : decode cX3_note 76 = .ok (.iastore, 1) := dk_79 (dk_at dksX3_note_3 7 rfl rfl)
theorem dX3_note_77 : decode cX3_note 77 = .ok (.aload_n 0, 1) := dk_42 (dk_at dksX3_note_3 8 rfl rfl)
theorem dX3_note_78 : decode cX3_note 78 = .ok (.getfield 38, 3) := dk_180 0 38 (dk_at dksX3_note_3 9 rfl rfl)
theorem dX3_note_81 : decode cX3_note 81 = .ok (.iconst 3, 1) := dk_6 (dk_at dksX3_note_3 12 rfl rfl)
theorem dX3_note_82 : decode cX3_note 82 = .ok (.aload_n 0, 1) := dk_42 (dk_at dksX3_note_3 13 rfl rfl)
theorem dX3_note_83 : decode cX3_note 83 = .ok (.getfield 96, 3) := dk_180 0 96 (dk_at dksX3_note_3 14 rfl rfl)
theorem dX3_note_86 : decode cX3_note 86 = .ok (.imul, 1) := dk_104 (dk_at dksX3_note_3 17 rfl rfl)
theorem dX3_note_87 : decode cX3_note 87 = .ok (.iconst 2, 1) := dk_5 (dk_at dksX3_note_3 18 rfl rfl)
theorem dX3_note_88 : decode cX3_note 88 = .ok (.iadd, 1) := dk_96 (dk_at dksX3_note_3 19 rfl rfl)
theorem dX3_note_89 : decode cX3_note 89 = .ok (.iload_n 3, 1) := dk_29 (dk_at dksX3_note_3 20 rfl rfl)
theorem dX3_note_90 : decode cX3_note 90 = .ok (.iastore, 1) := dk_79 (dk_at dksX3_note_3 21 rfl rfl)
theorem dX3_note_91 : decode cX3_note 91 = .ok (.aload_n 0, 1) := dk_42 (dk_at dksX3_note_3 22 rfl rfl)
theorem dX3_note_92 : decode cX3_note 92 = .ok (.dup, 1) := dk_89 (dk_at dksX3_note_3 23 rfl rfl)
theorem dX3_note_93 : decode cX3_note 93 = .ok (.getfield 96, 3) := dk_180 0 96 (dk_at dksX3_note_4 0 rfl rfl)
theorem dX3_note_96 : decode cX3_note 96 = .ok (.iconst 1, 1) := dk_4 (dk_at dksX3_note_4 3 rfl rfl)
theorem dX3_note_97 : decode cX3_note 97 = .ok (.iadd, 1) := dk_96 (dk_at dksX3_note_4 4 rfl rfl)
theorem dX3_note_98 : decode cX3_note 98 = .ok (.putfield 96, 3) := dk_181 0 96 (dk_at dksX3_note_4 5 rfl rfl)
theorem dX3_note_101 : decode cX3_note 101 = .ok (.return_, 1) := dk_177 (dk_at dksX3_note_4 8 rfl rfl)
abbrev cX3_breathe : ByteArray := prog_24_method_56_code
def yX3_breathe : MethodName := ⟨RX3, "breathe", "(I)I"⟩
def dkwX3_breathe_1 : List UInt8 := [16, 254, 172, 42, 6, 27, 28, 182, 0, 229, 42, 180, 0, 7, 27, 16, 12, 79, 28, 172]
abbrev dktX3_breathe_1 : List UInt8 := dkwX3_breathe_1 ++ []
def dkwX3_breathe_0 : List UInt8 := [42, 27, 182, 0, 114, 154, 0, 5, 2, 172, 42, 180, 0, 7, 27, 46, 61, 28, 16, 12, 160, 0, 6]
abbrev dktX3_breathe_0 : List UInt8 := dkwX3_breathe_0 ++ dktX3_breathe_1
theorem dksX3_breathe_0 : cX3_breathe.data.toList.drop 0 = dktX3_breathe_0 := by decide +kernel
theorem dksX3_breathe_1 : cX3_breathe.data.toList.drop 23 = dktX3_breathe_1 := dk_seg dksX3_breathe_0 23 rfl rfl
theorem dX3_breathe_0 : decode cX3_breathe 0 = .ok (.aload_n 0, 1) := dk_42 (dk_at dksX3_breathe_0 0 rfl rfl)
theorem dX3_breathe_1 : decode cX3_breathe 1 = .ok (.iload_n 1, 1) := dk_27 (dk_at dksX3_breathe_0 1 rfl rfl)
theorem dX3_breathe_2 : decode cX3_breathe 2 = .ok (.invokevirtual 114, 3) := dk_182 0 114 (dk_at dksX3_breathe_0 2 rfl rfl)
theorem dX3_breathe_5 : decode cX3_breathe 5 = .ok (.ifCond .ne 5, 3) := dk_154 0 5 (dk_at dksX3_breathe_0 5 rfl rfl)
theorem dX3_breathe_8 : decode cX3_breathe 8 = .ok (.iconst (-1), 1) := dk_2 (dk_at dksX3_breathe_0 8 rfl rfl)
theorem dX3_breathe_9 : decode cX3_breathe 9 = .ok (.ireturn, 1) := dk_172 (dk_at dksX3_breathe_0 9 rfl rfl)
theorem dX3_breathe_10 : decode cX3_breathe 10 = .ok (.aload_n 0, 1) := dk_42 (dk_at dksX3_breathe_0 10 rfl rfl)
theorem dX3_breathe_11 : decode cX3_breathe 11 = .ok (.getfield 7, 3) := dk_180 0 7 (dk_at dksX3_breathe_0 11 rfl rfl)
theorem dX3_breathe_14 : decode cX3_breathe 14 = .ok (.iload_n 1, 1) := dk_27 (dk_at dksX3_breathe_0 14 rfl rfl)
theorem dX3_breathe_15 : decode cX3_breathe 15 = .ok (.iaload, 1) := dk_46 (dk_at dksX3_breathe_0 15 rfl rfl)
theorem dX3_breathe_16 : decode cX3_breathe 16 = .ok (.istore_n 2, 1) := dk_61 (dk_at dksX3_breathe_0 16 rfl rfl)
theorem dX3_breathe_17 : decode cX3_breathe 17 = .ok (.iload_n 2, 1) := dk_28 (dk_at dksX3_breathe_0 17 rfl rfl)
theorem dX3_breathe_18 : decode cX3_breathe 18 = .ok (.bipush 12, 2) := dk_16 12 (dk_at dksX3_breathe_0 18 rfl rfl)
theorem dX3_breathe_20 : decode cX3_breathe 20 = .ok (.if_icmp .ne 6, 3) := dk_160 0 6 (dk_at dksX3_breathe_0 20 rfl rfl)
theorem dX3_breathe_23 : decode cX3_breathe 23 = .ok (.bipush (-2), 2) := dk_16 254 (dk_at dksX3_breathe_1 0 rfl rfl)
theorem dX3_breathe_25 : decode cX3_breathe 25 = .ok (.ireturn, 1) := dk_172 (dk_at dksX3_breathe_1 2 rfl rfl)
theorem dX3_breathe_26 : decode cX3_breathe 26 = .ok (.aload_n 0, 1) := dk_42 (dk_at dksX3_breathe_1 3 rfl rfl)
theorem dX3_breathe_27 : decode cX3_breathe 27 = .ok (.iconst 3, 1) := dk_6 (dk_at dksX3_breathe_1 4 rfl rfl)
theorem dX3_breathe_28 : decode cX3_breathe 28 = .ok (.iload_n 1, 1) := dk_27 (dk_at dksX3_breathe_1 5 rfl rfl)
theorem dX3_breathe_29 : decode cX3_breathe 29 = .ok (.iload_n 2, 1) := dk_28 (dk_at dksX3_breathe_1 6 rfl rfl)
theorem dX3_breathe_30 : decode cX3_breathe 30 = .ok (.invokevirtual 229, 3) := dk_182 0 229 (dk_at dksX3_breathe_1 7 rfl rfl)
theorem dX3_breathe_33 : decode cX3_breathe 33 = .ok (.aload_n 0, 1) := dk_42 (dk_at dksX3_breathe_1 10 rfl rfl)
theorem dX3_breathe_34 : decode cX3_breathe 34 = .ok (.getfield 7, 3) := dk_180 0 7 (dk_at dksX3_breathe_1 11 rfl rfl)
theorem dX3_breathe_37 : decode cX3_breathe 37 = .ok (.iload_n 1, 1) := dk_27 (dk_at dksX3_breathe_1 14 rfl rfl)
theorem dX3_breathe_38 : decode cX3_breathe 38 = .ok (.bipush 12, 2) := dk_16 12 (dk_at dksX3_breathe_1 15 rfl rfl)
theorem dX3_breathe_40 : decode cX3_breathe 40 = .ok (.iastore, 1) := dk_79 (dk_at dksX3_breathe_1 17 rfl rfl)
theorem dX3_breathe_41 : decode cX3_breathe 41 = .ok (.iload_n 2, 1) := dk_28 (dk_at dksX3_breathe_1 18 rfl rfl)
theorem dX3_breathe_42 : decode cX3_breathe 42 = .ok (.ireturn, 1) := dk_172 (dk_at dksX3_breathe_1 19 rfl rfl)
abbrev cX3_goes : ByteArray := prog_24_method_45_code
def yX3_goes : MethodName := ⟨RX3, "goes", "(II)Z"⟩
def dkwX3_goes_3 : List UInt8 := [167, 0, 4, 3, 172]
abbrev dktX3_goes_3 : List UInt8 := dkwX3_goes_3 ++ []
def dkwX3_goes_2 : List UInt8 := [42, 180, 0, 13, 27, 46, 8, 160, 0, 20, 42, 180, 0, 7, 16, 60, 46, 16, 6, 112, 154, 0, 7, 4]
abbrev dktX3_goes_2 : List UInt8 := dkwX3_goes_2 ++ dktX3_goes_3
def dkwX3_goes_1 : List UInt8 := [16, 42, 27, 96, 46, 4, 96, 46, 62, 29, 16, 12, 159, 0, 35, 29, 42, 27, 182, 0, 111, 159, 0, 26]
abbrev dktX3_goes_1 : List UInt8 := dkwX3_goes_1 ++ dktX3_goes_2
def dkwX3_goes_0 : List UInt8 := [42, 180, 0, 13, 27, 46, 6, 160, 0, 9, 28, 153, 0, 5, 3, 172, 42, 180, 0, 7, 42, 180, 0, 7]
abbrev dktX3_goes_0 : List UInt8 := dkwX3_goes_0 ++ dktX3_goes_1
theorem dksX3_goes_0 : cX3_goes.data.toList.drop 0 = dktX3_goes_0 := by decide +kernel
theorem dksX3_goes_1 : cX3_goes.data.toList.drop 24 = dktX3_goes_1 := dk_seg dksX3_goes_0 24 rfl rfl
theorem dksX3_goes_2 : cX3_goes.data.toList.drop 48 = dktX3_goes_2 := dk_seg dksX3_goes_1 24 rfl rfl
theorem dksX3_goes_3 : cX3_goes.data.toList.drop 72 = dktX3_goes_3 := dk_seg dksX3_goes_2 24 rfl rfl
theorem dX3_goes_0 : decode cX3_goes 0 = .ok (.aload_n 0, 1) := dk_42 (dk_at dksX3_goes_0 0 rfl rfl)
theorem dX3_goes_1 : decode cX3_goes 1 = .ok (.getfield 13, 3) := dk_180 0 13 (dk_at dksX3_goes_0 1 rfl rfl)
theorem dX3_goes_4 : decode cX3_goes 4 = .ok (.iload_n 1, 1) := dk_27 (dk_at dksX3_goes_0 4 rfl rfl)
theorem dX3_goes_5 : decode cX3_goes 5 = .ok (.iaload, 1) := dk_46 (dk_at dksX3_goes_0 5 rfl rfl)
theorem dX3_goes_6 : decode cX3_goes 6 = .ok (.iconst 3, 1) := dk_6 (dk_at dksX3_goes_0 6 rfl rfl)
theorem dX3_goes_7 : decode cX3_goes 7 = .ok (.if_icmp .ne 9, 3) := dk_160 0 9 (dk_at dksX3_goes_0 7 rfl rfl)
theorem dX3_goes_10 : decode cX3_goes 10 = .ok (.iload_n 2, 1) := dk_28 (dk_at dksX3_goes_0 10 rfl rfl)
theorem dX3_goes_11 : decode cX3_goes 11 = .ok (.ifCond .eq 5, 3) := dk_153 0 5 (dk_at dksX3_goes_0 11 rfl rfl)
theorem dX3_goes_14 : decode cX3_goes 14 = .ok (.iconst 0, 1) := dk_3 (dk_at dksX3_goes_0 14 rfl rfl)
theorem dX3_goes_15 : decode cX3_goes 15 = .ok (.ireturn, 1) := dk_172 (dk_at dksX3_goes_0 15 rfl rfl)
theorem dX3_goes_16 : decode cX3_goes 16 = .ok (.aload_n 0, 1) := dk_42 (dk_at dksX3_goes_0 16 rfl rfl)
theorem dX3_goes_17 : decode cX3_goes 17 = .ok (.getfield 7, 3) := dk_180 0 7 (dk_at dksX3_goes_0 17 rfl rfl)
theorem dX3_goes_20 : decode cX3_goes 20 = .ok (.aload_n 0, 1) := dk_42 (dk_at dksX3_goes_0 20 rfl rfl)
theorem dX3_goes_21 : decode cX3_goes 21 = .ok (.getfield 7, 3) := dk_180 0 7 (dk_at dksX3_goes_0 21 rfl rfl)
theorem dX3_goes_24 : decode cX3_goes 24 = .ok (.bipush 42, 2) := dk_16 42 (dk_at dksX3_goes_1 0 rfl rfl)
theorem dX3_goes_26 : decode cX3_goes 26 = .ok (.iload_n 1, 1) := dk_27 (dk_at dksX3_goes_1 2 rfl rfl)
theorem dX3_goes_27 : decode cX3_goes 27 = .ok (.iadd, 1) := dk_96 (dk_at dksX3_goes_1 3 rfl rfl)
theorem dX3_goes_28 : decode cX3_goes 28 = .ok (.iaload, 1) := dk_46 (dk_at dksX3_goes_1 4 rfl rfl)
theorem dX3_goes_29 : decode cX3_goes 29 = .ok (.iconst 1, 1) := dk_4 (dk_at dksX3_goes_1 5 rfl rfl)
theorem dX3_goes_30 : decode cX3_goes 30 = .ok (.iadd, 1) := dk_96 (dk_at dksX3_goes_1 6 rfl rfl)
theorem dX3_goes_31 : decode cX3_goes 31 = .ok (.iaload, 1) := dk_46 (dk_at dksX3_goes_1 7 rfl rfl)
theorem dX3_goes_32 : decode cX3_goes 32 = .ok (.istore_n 3, 1) := dk_62 (dk_at dksX3_goes_1 8 rfl rfl)
theorem dX3_goes_33 : decode cX3_goes 33 = .ok (.iload_n 3, 1) := dk_29 (dk_at dksX3_goes_1 9 rfl rfl)
theorem dX3_goes_34 : decode cX3_goes 34 = .ok (.bipush 12, 2) := dk_16 12 (dk_at dksX3_goes_1 10 rfl rfl)
theorem dX3_goes_36 : decode cX3_goes 36 = .ok (.if_icmp .eq 35, 3) := dk_159 0 35 (dk_at dksX3_goes_1 12 rfl rfl)
theorem dX3_goes_39 : decode cX3_goes 39 = .ok (.iload_n 3, 1) := dk_29 (dk_at dksX3_goes_1 15 rfl rfl)
theorem dX3_goes_40 : decode cX3_goes 40 = .ok (.aload_n 0, 1) := dk_42 (dk_at dksX3_goes_1 16 rfl rfl)
theorem dX3_goes_41 : decode cX3_goes 41 = .ok (.iload_n 1, 1) := dk_27 (dk_at dksX3_goes_1 17 rfl rfl)
theorem dX3_goes_42 : decode cX3_goes 42 = .ok (.invokevirtual 111, 3) := dk_182 0 111 (dk_at dksX3_goes_1 18 rfl rfl)
theorem dX3_goes_45 : decode cX3_goes 45 = .ok (.if_icmp .eq 26, 3) := dk_159 0 26 (dk_at dksX3_goes_1 21 rfl rfl)
theorem dX3_goes_48 : decode cX3_goes 48 = .ok (.aload_n 0, 1) := dk_42 (dk_at dksX3_goes_2 0 rfl rfl)
theorem dX3_goes_49 : decode cX3_goes 49 = .ok (.getfield 13, 3) := dk_180 0 13 (dk_at dksX3_goes_2 1 rfl rfl)
theorem dX3_goes_52 : decode cX3_goes 52 = .ok (.iload_n 1, 1) := dk_27 (dk_at dksX3_goes_2 4 rfl rfl)
theorem dX3_goes_53 : decode cX3_goes 53 = .ok (.iaload, 1) := dk_46 (dk_at dksX3_goes_2 5 rfl rfl)
theorem dX3_goes_54 : decode cX3_goes 54 = .ok (.iconst 5, 1) := dk_8 (dk_at dksX3_goes_2 6 rfl rfl)
theorem dX3_goes_55 : decode cX3_goes 55 = .ok (.if_icmp .ne 20, 3) := dk_160 0 20 (dk_at dksX3_goes_2 7 rfl rfl)
theorem dX3_goes_58 : decode cX3_goes 58 = .ok (.aload_n 0, 1) := dk_42 (dk_at dksX3_goes_2 10 rfl rfl)
theorem dX3_goes_59 : decode cX3_goes 59 = .ok (.getfield 7, 3) := dk_180 0 7 (dk_at dksX3_goes_2 11 rfl rfl)
theorem dX3_goes_62 : decode cX3_goes 62 = .ok (.bipush 60, 2) := dk_16 60 (dk_at dksX3_goes_2 14 rfl rfl)
theorem dX3_goes_64 : decode cX3_goes 64 = .ok (.iaload, 1) := dk_46 (dk_at dksX3_goes_2 16 rfl rfl)
theorem dX3_goes_65 : decode cX3_goes 65 = .ok (.bipush 6, 2) := dk_16 6 (dk_at dksX3_goes_2 17 rfl rfl)
theorem dX3_goes_67 : decode cX3_goes 67 = .ok (.irem, 1) := dk_112 (dk_at dksX3_goes_2 19 rfl rfl)
theorem dX3_goes_68 : decode cX3_goes 68 = .ok (.ifCond .ne 7, 3) := dk_154 0 7 (dk_at dksX3_goes_2 20 rfl rfl)
theorem dX3_goes_71 : decode cX3_goes 71 = .ok (.iconst 1, 1) := dk_4 (dk_at dksX3_goes_2 23 rfl rfl)
theorem dX3_goes_72 : decode cX3_goes 72 = .ok (.goto 4, 3) := dk_167 0 4 (dk_at dksX3_goes_3 0 rfl rfl)
theorem dX3_goes_75 : decode cX3_goes 75 = .ok (.iconst 0, 1) := dk_3 (dk_at dksX3_goes_3 3 rfl rfl)
theorem dX3_goes_76 : decode cX3_goes 76 = .ok (.ireturn, 1) := dk_172 (dk_at dksX3_goes_3 4 rfl rfl)
abbrev cX3_isHome : ByteArray := prog_24_method_6_code
def yX3_isHome : MethodName := ⟨RX3, "isHome", "(I)Z"⟩
def dkwX3_isHome_0 : List UInt8 := [42, 180, 0, 7, 16, 42, 27, 96, 46, 42, 180, 0, 19, 4, 100, 160, 0, 7, 4, 167, 0, 4, 3, 172]
abbrev dktX3_isHome_0 : List UInt8 := dkwX3_isHome_0 ++ []
theorem dksX3_isHome_0 : cX3_isHome.data.toList.drop 0 = dktX3_isHome_0 := by decide +kernel
theorem dX3_isHome_0 : decode cX3_isHome 0 = .ok (.aload_n 0, 1) := dk_42 (dk_at dksX3_isHome_0 0 rfl rfl)
theorem dX3_isHome_1 : decode cX3_isHome 1 = .ok (.getfield 7, 3) := dk_180 0 7 (dk_at dksX3_isHome_0 1 rfl rfl)
theorem dX3_isHome_4 : decode cX3_isHome 4 = .ok (.bipush 42, 2) := dk_16 42 (dk_at dksX3_isHome_0 4 rfl rfl)
theorem dX3_isHome_6 : decode cX3_isHome 6 = .ok (.iload_n 1, 1) := dk_27 (dk_at dksX3_isHome_0 6 rfl rfl)
theorem dX3_isHome_7 : decode cX3_isHome 7 = .ok (.iadd, 1) := dk_96 (dk_at dksX3_isHome_0 7 rfl rfl)
theorem dX3_isHome_8 : decode cX3_isHome 8 = .ok (.iaload, 1) := dk_46 (dk_at dksX3_isHome_0 8 rfl rfl)
theorem dX3_isHome_9 : decode cX3_isHome 9 = .ok (.aload_n 0, 1) := dk_42 (dk_at dksX3_isHome_0 9 rfl rfl)
theorem dX3_isHome_10 : decode cX3_isHome 10 = .ok (.getfield 19, 3) := dk_180 0 19 (dk_at dksX3_isHome_0 10 rfl rfl)
theorem dX3_isHome_13 : decode cX3_isHome 13 = .ok (.iconst 1, 1) := dk_4 (dk_at dksX3_isHome_0 13 rfl rfl)
theorem dX3_isHome_14 : decode cX3_isHome 14 = .ok (.isub, 1) := dk_100 (dk_at dksX3_isHome_0 14 rfl rfl)
theorem dX3_isHome_15 : decode cX3_isHome 15 = .ok (.if_icmp .ne 7, 3) := dk_160 0 7 (dk_at dksX3_isHome_0 15 rfl rfl)
theorem dX3_isHome_18 : decode cX3_isHome 18 = .ok (.iconst 1, 1) := dk_4 (dk_at dksX3_isHome_0 18 rfl rfl)
theorem dX3_isHome_19 : decode cX3_isHome 19 = .ok (.goto 4, 3) := dk_167 0 4 (dk_at dksX3_isHome_0 19 rfl rfl)
theorem dX3_isHome_22 : decode cX3_isHome 22 = .ok (.iconst 0, 1) := dk_3 (dk_at dksX3_isHome_0 22 rfl rfl)
theorem dX3_isHome_23 : decode cX3_isHome 23 = .ok (.ireturn, 1) := dk_172 (dk_at dksX3_isHome_0 23 rfl rfl)
abbrev cX3_run : ByteArray := prog_24_method_46_code
def yX3_run : MethodName := ⟨RX3, "run", "(I)V"⟩
def dkwX3_run_3 : List UInt8 := [16, 33, 27, 96, 92, 46, 4, 100, 79, 177]
abbrev dktX3_run_3 : List UInt8 := dkwX3_run_3 ++ []
def dkwX3_run_2 : List UInt8 := [46, 16, 60, 96, 42, 180, 0, 16, 27, 46, 96, 17, 2, 208, 96, 17, 2, 208, 112, 79, 42, 180, 0, 7]
abbrev dktX3_run_2 : List UInt8 := dkwX3_run_2 ++ dktX3_run_3
def dkwX3_run_1 : List UInt8 := [16, 33, 27, 96, 46, 158, 0, 52, 42, 180, 0, 7, 16, 24, 27, 96, 42, 180, 0, 7, 16, 24, 27, 96]
abbrev dktX3_run_1 : List UInt8 := dkwX3_run_1 ++ dktX3_run_2
def dkwX3_run_0 : List UInt8 := [42, 180, 0, 13, 27, 46, 5, 159, 0, 74, 42, 180, 0, 13, 27, 46, 6, 159, 0, 64, 42, 180, 0, 7]
abbrev dktX3_run_0 : List UInt8 := dkwX3_run_0 ++ dktX3_run_1
theorem dksX3_run_0 : cX3_run.data.toList.drop 0 = dktX3_run_0 := by decide +kernel
theorem dksX3_run_1 : cX3_run.data.toList.drop 24 = dktX3_run_1 := dk_seg dksX3_run_0 24 rfl rfl
theorem dksX3_run_2 : cX3_run.data.toList.drop 48 = dktX3_run_2 := dk_seg dksX3_run_1 24 rfl rfl
theorem dksX3_run_3 : cX3_run.data.toList.drop 72 = dktX3_run_3 := dk_seg dksX3_run_2 24 rfl rfl
theorem dX3_run_0 : decode cX3_run 0 = .ok (.aload_n 0, 1) := dk_42 (dk_at dksX3_run_0 0 rfl rfl)
theorem dX3_run_1 : decode cX3_run 1 = .ok (.getfield 13, 3) := dk_180 0 13 (dk_at dksX3_run_0 1 rfl rfl)
theorem dX3_run_4 : decode cX3_run 4 = .ok (.iload_n 1, 1) := dk_27 (dk_at dksX3_run_0 4 rfl rfl)
theorem dX3_run_5 : decode cX3_run 5 = .ok (.iaload, 1) := dk_46 (dk_at dksX3_run_0 5 rfl rfl)
theorem dX3_run_6 : decode cX3_run 6 = .ok (.iconst 2, 1) := dk_5 (dk_at dksX3_run_0 6 rfl rfl)
theorem dX3_run_7 : decode cX3_run 7 = .ok (.if_icmp .eq 74, 3) := dk_159 0 74 (dk_at dksX3_run_0 7 rfl rfl)
theorem dX3_run_10 : decode cX3_run 10 = .ok (.aload_n 0, 1) := dk_42 (dk_at dksX3_run_0 10 rfl rfl)
theorem dX3_run_11 : decode cX3_run 11 = .ok (.getfield 13, 3) := dk_180 0 13 (dk_at dksX3_run_0 11 rfl rfl)
theorem dX3_run_14 : decode cX3_run 14 = .ok (.iload_n 1, 1) := dk_27 (dk_at dksX3_run_0 14 rfl rfl)
theorem dX3_run_15 : decode cX3_run 15 = .ok (.iaload, 1) := dk_46 (dk_at dksX3_run_0 15 rfl rfl)
theorem dX3_run_16 : decode cX3_run 16 = .ok (.iconst 3, 1) := dk_6 (dk_at dksX3_run_0 16 rfl rfl)
theorem dX3_run_17 : decode cX3_run 17 = .ok (.if_icmp .eq 64, 3) := dk_159 0 64 (dk_at dksX3_run_0 17 rfl rfl)
theorem dX3_run_20 : decode cX3_run 20 = .ok (.aload_n 0, 1) := dk_42 (dk_at dksX3_run_0 20 rfl rfl)
theorem dX3_run_21 : decode cX3_run 21 = .ok (.getfield 7, 3) := dk_180 0 7 (dk_at dksX3_run_0 21 rfl rfl)
theorem dX3_run_24 : decode cX3_run 24 = .ok (.bipush 33, 2) := dk_16 33 (dk_at dksX3_run_1 0 rfl rfl)
theorem dX3_run_26 : decode cX3_run 26 = .ok (.iload_n 1, 1) := dk_27 (dk_at dksX3_run_1 2 rfl rfl)
theorem dX3_run_27 : decode cX3_run 27 = .ok (.iadd, 1) := dk_96 (dk_at dksX3_run_1 3 rfl rfl)
theorem dX3_run_28 : decode cX3_run 28 = .ok (.iaload, 1) := dk_46 (dk_at dksX3_run_1 4 rfl rfl)
theorem dX3_run_29 : decode cX3_run 29 = .ok (.ifCond .le 52, 3) := dk_158 0 52 (dk_at dksX3_run_1 5 rfl rfl)
theorem dX3_run_32 : decode cX3_run 32 = .ok (.aload_n 0, 1) := dk_42 (dk_at dksX3_run_1 8 rfl rfl)
theorem dX3_run_33 : decode cX3_run 33 = .ok (.getfield 7, 3) := dk_180 0 7 (dk_at dksX3_run_1 9 rfl rfl)
theorem dX3_run_36 : decode cX3_run 36 = .ok (.bipush 24, 2) := dk_16 24 (dk_at dksX3_run_1 12 rfl rfl)
theorem dX3_run_38 : decode cX3_run 38 = .ok (.iload_n 1, 1) := dk_27 (dk_at dksX3_run_1 14 rfl rfl)
theorem dX3_run_39 : decode cX3_run 39 = .ok (.iadd, 1) := dk_96 (dk_at dksX3_run_1 15 rfl rfl)
theorem dX3_run_40 : decode cX3_run 40 = .ok (.aload_n 0, 1) := dk_42 (dk_at dksX3_run_1 16 rfl rfl)
theorem dX3_run_41 : decode cX3_run 41 = .ok (.getfield 7, 3) := dk_180 0 7 (dk_at dksX3_run_1 17 rfl rfl)
theorem dX3_run_44 : decode cX3_run 44 = .ok (.bipush 24, 2) := dk_16 24 (dk_at dksX3_run_1 20 rfl rfl)
theorem dX3_run_46 : decode cX3_run 46 = .ok (.iload_n 1, 1) := dk_27 (dk_at dksX3_run_1 22 rfl rfl)
theorem dX3_run_47 : decode cX3_run 47 = .ok (.iadd, 1) := dk_96 (dk_at dksX3_run_1 23 rfl rfl)
theorem dX3_run_48 : decode cX3_run 48 = .ok (.iaload, 1) := dk_46 (dk_at dksX3_run_2 0 rfl rfl)
theorem dX3_run_49 : decode cX3_run 49 = .ok (.bipush 60, 2) := dk_16 60 (dk_at dksX3_run_2 1 rfl rfl)
theorem dX3_run_51 : decode cX3_run 51 = .ok (.iadd, 1) := dk_96 (dk_at dksX3_run_2 3 rfl rfl)
theorem dX3_run_52 : decode cX3_run 52 = .ok (.aload_n 0, 1) := dk_42 (dk_at dksX3_run_2 4 rfl rfl)
theorem dX3_run_53 : decode cX3_run 53 = .ok (.getfield 16, 3) := dk_180 0 16 (dk_at dksX3_run_2 5 rfl rfl)
theorem dX3_run_56 : decode cX3_run 56 = .ok (.iload_n 1, 1) := dk_27 (dk_at dksX3_run_2 8 rfl rfl)
theorem dX3_run_57 : decode cX3_run 57 = .ok (.iaload, 1) := dk_46 (dk_at dksX3_run_2 9 rfl rfl)
theorem dX3_run_58 : decode cX3_run 58 = .ok (.iadd, 1) := dk_96 (dk_at dksX3_run_2 10 rfl rfl)
theorem dX3_run_59 : decode cX3_run 59 = .ok (.sipush 720, 3) := dk_17 2 208 (dk_at dksX3_run_2 11 rfl rfl)
theorem dX3_run_62 : decode cX3_run 62 = .ok (.iadd, 1) := dk_96 (dk_at dksX3_run_2 14 rfl rfl)
theorem dX3_run_63 : decode cX3_run 63 = .ok (.sipush 720, 3) := dk_17 2 208 (dk_at dksX3_run_2 15 rfl rfl)
theorem dX3_run_66 : decode cX3_run 66 = .ok (.irem, 1) := dk_112 (dk_at dksX3_run_2 18 rfl rfl)
theorem dX3_run_67 : decode cX3_run 67 = .ok (.iastore, 1) := dk_79 (dk_at dksX3_run_2 19 rfl rfl)
theorem dX3_run_68 : decode cX3_run 68 = .ok (.aload_n 0, 1) := dk_42 (dk_at dksX3_run_2 20 rfl rfl)
theorem dX3_run_69 : decode cX3_run 69 = .ok (.getfield 7, 3) := dk_180 0 7 (dk_at dksX3_run_2 21 rfl rfl)
theorem dX3_run_72 : decode cX3_run 72 = .ok (.bipush 33, 2) := dk_16 33 (dk_at dksX3_run_3 0 rfl rfl)
theorem dX3_run_74 : decode cX3_run 74 = .ok (.iload_n 1, 1) := dk_27 (dk_at dksX3_run_3 2 rfl rfl)
theorem dX3_run_75 : decode cX3_run 75 = .ok (.iadd, 1) := dk_96 (dk_at dksX3_run_3 3 rfl rfl)
theorem dX3_run_76 : decode cX3_run 76 = .ok (.dup2, 1) := dk_92 (dk_at dksX3_run_3 4 rfl rfl)
theorem dX3_run_77 : decode cX3_run 77 = .ok (.iaload, 1) := dk_46 (dk_at dksX3_run_3 5 rfl rfl)
theorem dX3_run_78 : decode cX3_run 78 = .ok (.iconst 1, 1) := dk_4 (dk_at dksX3_run_3 6 rfl rfl)
theorem dX3_run_79 : decode cX3_run 79 = .ok (.isub, 1) := dk_100 (dk_at dksX3_run_3 7 rfl rfl)
theorem dX3_run_80 : decode cX3_run 80 = .ok (.iastore, 1) := dk_79 (dk_at dksX3_run_3 8 rfl rfl)
theorem dX3_run_81 : decode cX3_run 81 = .ok (.return_, 1) := dk_177 (dk_at dksX3_run_3 9 rfl rfl)
abbrev cX3_strokesOf : ByteArray := prog_24_method_13_code
def yX3_strokesOf : MethodName := ⟨RX3, "strokesOf", "(I)I"⟩
def dkwX3_strokesOf_0 : List UInt8 := [26, 154, 0, 8, 16, 12, 167, 0, 4, 26, 172]
abbrev dktX3_strokesOf_0 : List UInt8 := dkwX3_strokesOf_0 ++ []
theorem dksX3_strokesOf_0 : cX3_strokesOf.data.toList.drop 0 = dktX3_strokesOf_0 := by decide +kernel
theorem dX3_strokesOf_0 : decode cX3_strokesOf 0 = .ok (.iload_n 0, 1) := dk_26 (dk_at dksX3_strokesOf_0 0 rfl rfl)
theorem dX3_strokesOf_1 : decode cX3_strokesOf 1 = .ok (.ifCond .ne 8, 3) := dk_154 0 8 (dk_at dksX3_strokesOf_0 1 rfl rfl)
theorem dX3_strokesOf_4 : decode cX3_strokesOf 4 = .ok (.bipush 12, 2) := dk_16 12 (dk_at dksX3_strokesOf_0 4 rfl rfl)
theorem dX3_strokesOf_6 : decode cX3_strokesOf 6 = .ok (.goto 4, 3) := dk_167 0 4 (dk_at dksX3_strokesOf_0 6 rfl rfl)
theorem dX3_strokesOf_9 : decode cX3_strokesOf 9 = .ok (.iload_n 0, 1) := dk_26 (dk_at dksX3_strokesOf_0 9 rfl rfl)
theorem dX3_strokesOf_10 : decode cX3_strokesOf 10 = .ok (.ireturn, 1) := dk_172 (dk_at dksX3_strokesOf_0 10 rfl rfl)
theorem q1691 : (Jvm.Cond.fieldLink "LameClocksModel" (38 : Nat) "LameClocksModel" "undos" "[I") ∈ lw_all := lw_g (lw_at lw_m7 182 rfl) rfl
theorem q1865 : (Jvm.Cond.code ({ cls := "LameClocksModel", name := "street", desc := "()I" } : Jvm.MethodName) prog_24_method_33_code (3 : Nat) (Option.some Jvm.ClassFile.FieldType.int)) ∈ lw_all := lw_g (lw_at lw_m8 116 rfl) rfl
theorem q1866 : (Jvm.Cond.methodLink "LameClocksModel" (172 : Nat) ({ cls := "LameClocksModel", name := "readStreet", desc := "()Z" } : Jvm.MethodName)) ∈ lw_all := lw_g (lw_at lw_m8 117 rfl) rfl
theorem q1868 : (Jvm.Cond.instanceMethod ({ cls := "LameClocksModel", name := "readStreet", desc := "()Z" } : Jvm.MethodName)) ∈ lw_all := lw_g (lw_at lw_m8 119 rfl) rfl
theorem q1869 : (Jvm.Cond.code ({ cls := "LameClocksModel", name := "readStreet", desc := "()Z" } : Jvm.MethodName) prog_24_method_32_code (3 : Nat) (Option.some Jvm.ClassFile.FieldType.boolean)) ∈ lw_all := lw_g (lw_at lw_m8 120 rfl) rfl
theorem q1870 : (Jvm.Cond.methodLink "LameClocksModel" (169 : Nat) ({ cls := "LameClocksModel", name := "readClock", desc := "(I)Z" } : Jvm.MethodName)) ∈ lw_all := lw_g (lw_at lw_m8 121 rfl) rfl
theorem q1872 : (Jvm.Cond.instanceMethod ({ cls := "LameClocksModel", name := "readClock", desc := "(I)Z" } : Jvm.MethodName)) ∈ lw_all := lw_g (lw_at lw_m8 123 rfl) rfl
theorem q1873 : (Jvm.Cond.code ({ cls := "LameClocksModel", name := "readClock", desc := "(I)Z" } : Jvm.MethodName) prog_24_method_31_code (4 : Nat) (Option.some Jvm.ClassFile.FieldType.boolean)) ∈ lw_all := lw_g (lw_at lw_m8 124 rfl) rfl
theorem q1874 : (Jvm.Cond.methodLink "LameClocksModel" (159 : Nat) ({ cls := "LameClocksModel", name := "kindOf", desc := "(I)I" } : Jvm.MethodName)) ∈ lw_all := lw_g (lw_at lw_m8 125 rfl) rfl
theorem q1875 : (Jvm.Cond.static ({ cls := "LameClocksModel", name := "kindOf", desc := "(I)I" } : Jvm.MethodName)) ∈ lw_all := lw_g (lw_at lw_m8 126 rfl) rfl
theorem q1876 : (Jvm.Cond.code ({ cls := "LameClocksModel", name := "kindOf", desc := "(I)I" } : Jvm.MethodName) prog_24_method_30_code (1 : Nat) (Option.some Jvm.ClassFile.FieldType.int)) ∈ lw_all := lw_g (lw_at lw_m8 127 rfl) rfl
theorem q1877 : (Jvm.Cond.methodLink "LameClocksModel" (162 : Nat) ({ cls := "LameClocksModel", name := "readNumber", desc := "(II)I" } : Jvm.MethodName)) ∈ lw_all := lw_g (lw_at lw_m8 128 rfl) rfl
theorem q1879 : (Jvm.Cond.instanceMethod ({ cls := "LameClocksModel", name := "readNumber", desc := "(II)I" } : Jvm.MethodName)) ∈ lw_all := lw_g (lw_at lw_m8 130 rfl) rfl
theorem q1880 : (Jvm.Cond.code ({ cls := "LameClocksModel", name := "readNumber", desc := "(II)I" } : Jvm.MethodName) prog_24_method_22_code (5 : Nat) (Option.some Jvm.ClassFile.FieldType.int)) ∈ lw_all := lw_g (lw_at lw_m8 131 rfl) rfl
theorem q1881 : (Jvm.Cond.constant "LameClocksModel" (138 : Nat) (99999 : Int32)) ∈ lw_all := lw_g (lw_at lw_m8 132 rfl) rfl
theorem q1882 : (Jvm.Cond.methodLink "LameClocksModel" (166 : Nat) ({ cls := "LameClocksModel", name := "takes", desc := "(I)Z" } : Jvm.MethodName)) ∈ lw_all := lw_g (lw_at lw_m8 133 rfl) rfl
theorem q1884 : (Jvm.Cond.instanceMethod ({ cls := "LameClocksModel", name := "takes", desc := "(I)Z" } : Jvm.MethodName)) ∈ lw_all := lw_g (lw_at lw_m8 135 rfl) rfl
theorem q1885 : (Jvm.Cond.code ({ cls := "LameClocksModel", name := "takes", desc := "(I)Z" } : Jvm.MethodName) prog_24_method_21_code (3 : Nat) (Option.some Jvm.ClassFile.FieldType.boolean)) ∈ lw_all := lw_g (lw_at lw_m8 136 rfl) rfl
theorem q1906 : (Jvm.Cond.methodLink "LameClocksModel" (229 : Nat) ({ cls := "LameClocksModel", name := "note", desc := "(III)V" } : Jvm.MethodName)) ∈ lw_all := lw_g (lw_at lw_m8 157 rfl) rfl
theorem q1908 : (Jvm.Cond.instanceMethod ({ cls := "LameClocksModel", name := "note", desc := "(III)V" } : Jvm.MethodName)) ∈ lw_all := lw_g (lw_at lw_m8 159 rfl) rfl
theorem q1909 : (Jvm.Cond.code ({ cls := "LameClocksModel", name := "note", desc := "(III)V" } : Jvm.MethodName) prog_24_method_50_code (5 : Nat) (Option.none : Option Jvm.ClassFile.FieldType)) ∈ lw_all := lw_g (lw_at lw_m8 160 rfl) rfl
theorem q1925 : (Jvm.Cond.code ({ cls := "LameClocksModel", name := "breathe", desc := "(I)I" } : Jvm.MethodName) prog_24_method_56_code (3 : Nat) (Option.some Jvm.ClassFile.FieldType.int)) ∈ lw_all := lw_g (lw_at lw_m8 176 rfl) rfl
theorem q1941 : (Jvm.Cond.code ({ cls := "LameClocksModel", name := "isHome", desc := "(I)Z" } : Jvm.MethodName) prog_24_method_6_code (2 : Nat) (Option.some Jvm.ClassFile.FieldType.boolean)) ∈ lw_all := lw_g (lw_at lw_m8 192 rfl) rfl
theorem q1945 : (Jvm.Cond.code ({ cls := "LameClocksModel", name := "goes", desc := "(II)Z" } : Jvm.MethodName) prog_24_method_45_code (4 : Nat) (Option.some Jvm.ClassFile.FieldType.boolean)) ∈ lw_all := lw_g (lw_at lw_m8 196 rfl) rfl
theorem q1948 : (Jvm.Cond.code ({ cls := "LameClocksModel", name := "strokesOf", desc := "(I)I" } : Jvm.MethodName) prog_24_method_13_code (1 : Nat) (Option.some Jvm.ClassFile.FieldType.int)) ∈ lw_all := lw_g (lw_at lw_m8 199 rfl) rfl
theorem q1952 : (Jvm.Cond.code ({ cls := "LameClocksModel", name := "run", desc := "(I)V" } : Jvm.MethodName) prog_24_method_46_code (2 : Nat) (Option.none : Option Jvm.ClassFile.FieldType)) ∈ lw_all := lw_g (lw_at lw_m8 203 rfl) rfl
theorem dmV_X3_takes : yX3_takes.cls = RX3 ∧ yX3_takes.cls ≠ "java/lang/invoke/MethodHandle" ∧ yX3_takes.cls ≠ "java/lang/invoke/VarHandle" ∧ (parseMethodDescriptor yX3_takes.desc).map (fun d => d.parameters.length) = some 1 := by decide +kernel
theorem dmV_X3_readNumber : yX3_readNumber.cls = RX3 ∧ yX3_readNumber.cls ≠ "java/lang/invoke/MethodHandle" ∧ yX3_readNumber.cls ≠ "java/lang/invoke/VarHandle" ∧ (parseMethodDescriptor yX3_readNumber.desc).map (fun d => d.parameters.length) = some 2 := by decide +kernel
theorem dmS_X3_kindOf : yX3_kindOf.cls ≠ "java/lang/invoke/MethodHandle" ∧ yX3_kindOf.cls ≠ "java/lang/invoke/VarHandle" ∧ (parseMethodDescriptor yX3_kindOf.desc).map (fun d => d.parameters.length) = some 1 := by decide +kernel
theorem dmV_X3_readClock : yX3_readClock.cls = RX3 ∧ yX3_readClock.cls ≠ "java/lang/invoke/MethodHandle" ∧ yX3_readClock.cls ≠ "java/lang/invoke/VarHandle" ∧ (parseMethodDescriptor yX3_readClock.desc).map (fun d => d.parameters.length) = some 1 := by decide +kernel
theorem dmV_X3_readStreet : yX3_readStreet.cls = RX3 ∧ yX3_readStreet.cls ≠ "java/lang/invoke/MethodHandle" ∧ yX3_readStreet.cls ≠ "java/lang/invoke/VarHandle" ∧ (parseMethodDescriptor yX3_readStreet.desc).map (fun d => d.parameters.length) = some 0 := by decide +kernel
theorem fo_X3_96 : g_fo RX3 96 [3] 12 := ⟨_, _, _, Or.inl q1692, fun ci h => by rcases List.mem_singleton.mp h with rfl; exact ⟨_, _, _, rfl, by decide, rfl, rfl, Or.inl rfl, in_X3⟩⟩
theorem fo_X3_38 : g_fo RX3 38 [3] 11 := ⟨_, _, _, Or.inl q1691, fun ci h => by rcases List.mem_singleton.mp h with rfl; exact ⟨_, _, _, rfl, by decide, rfl, rfl, Or.inl rfl, in_X3⟩⟩
theorem dmV_X3_note : yX3_note.cls = RX3 ∧ yX3_note.cls ≠ "java/lang/invoke/MethodHandle" ∧ yX3_note.cls ≠ "java/lang/invoke/VarHandle" ∧ (parseMethodDescriptor yX3_note.desc).map (fun d => d.parameters.length) = some 3 := by decide +kernel
section MP
variable {Γ : Gc} {p : Program} {l : Launch} {e : Env} {s : State} {m : MethodId} {args : Array Value} {below : List Frame} {meth : Method} {c : Code} {mo : Nat} {ρ : Sg} {sz : Nat} {tF : MS}
def fX3_kindOf (x0 : Int32) (t : MS) : Option (Int32 × MS) := if x0 = 112 then some (0, t) else if x0 = 99 then some (1, t) else if x0 = 111 then some (2, t) else if x0 = 100 then some (3, t) else if x0 = 116 then some (4, t) else if x0 = 109 then some (5, t) else some ((-1), t)
set_option maxHeartbeats 4000000 in
theorem wX3_kindOf {rF : Int32} (X : g_X Γ p s m args meth c cX3_kindOf 1 RX3) (hr : meth.sig.returnType = (Option.some Jvm.ClassFile.FieldType.int)) (x0 : Int32) (t : MS) : Wf Γ p l e 0 0 s m args below meth c 1 (m_ι mo ρ sz) v_i rF tF 0 [(0, .int x0)] [] t (fX3_kindOf x0 t) := by
  unfold fX3_kindOf
  refine g_iload_n (pc := 0) X 0 dX3_kindOf_0 rfl rfl ?_
  refine g_bipush (pc := 1) X 112 dX3_kindOf_1 rfl ?_
  refine g_icmp_ne (pc := 3) X 10 dX3_kindOf_3 (by decide) ?_ ?_
  · refine g_iload_n (pc := 10) X 0 dX3_kindOf_10 rfl rfl ?_
    refine g_bipush (pc := 11) X 99 dX3_kindOf_11 rfl ?_
    refine g_icmp_ne (pc := 13) X 20 dX3_kindOf_13 (by decide) ?_ ?_
    · refine g_iload_n (pc := 20) X 0 dX3_kindOf_20 rfl rfl ?_
      refine g_bipush (pc := 21) X 111 dX3_kindOf_21 rfl ?_
      refine g_icmp_ne (pc := 23) X 30 dX3_kindOf_23 (by decide) ?_ ?_
      · refine g_iload_n (pc := 30) X 0 dX3_kindOf_30 rfl rfl ?_
        refine g_bipush (pc := 31) X 100 dX3_kindOf_31 rfl ?_
        refine g_icmp_ne (pc := 33) X 40 dX3_kindOf_33 (by decide) ?_ ?_
        · refine g_iload_n (pc := 40) X 0 dX3_kindOf_40 rfl rfl ?_
          refine g_bipush (pc := 41) X 116 dX3_kindOf_41 rfl ?_
          refine g_icmp_ne (pc := 43) X 50 dX3_kindOf_43 (by decide) ?_ ?_
          · refine g_iload_n (pc := 50) X 0 dX3_kindOf_50 rfl rfl ?_
            refine g_bipush (pc := 51) X 109 dX3_kindOf_51 rfl ?_
            refine g_icmp_ne (pc := 53) X 60 dX3_kindOf_53 (by decide) ?_ ?_
            · refine g_iconst (pc := 60) X (-1) dX3_kindOf_60 rfl ?_
              exact g_iret (pc := 61) X hr dX3_kindOf_61
            · refine g_iconst (pc := 56) X 5 dX3_kindOf_56 rfl ?_
              refine g_goto (pc := 57) X 61 dX3_kindOf_57 (by decide) ?_
              exact g_iret (pc := 61) X hr dX3_kindOf_61
          · refine g_iconst (pc := 46) X 4 dX3_kindOf_46 rfl ?_
            refine g_goto (pc := 47) X 61 dX3_kindOf_47 (by decide) ?_
            exact g_iret (pc := 61) X hr dX3_kindOf_61
        · refine g_iconst (pc := 36) X 3 dX3_kindOf_36 rfl ?_
          refine g_goto (pc := 37) X 61 dX3_kindOf_37 (by decide) ?_
          exact g_iret (pc := 61) X hr dX3_kindOf_61
      · refine g_iconst (pc := 26) X 2 dX3_kindOf_26 rfl ?_
        refine g_goto (pc := 27) X 61 dX3_kindOf_27 (by decide) ?_
        exact g_iret (pc := 61) X hr dX3_kindOf_61
    · refine g_iconst (pc := 16) X 1 dX3_kindOf_16 rfl ?_
      refine g_goto (pc := 17) X 61 dX3_kindOf_17 (by decide) ?_
      exact g_iret (pc := 61) X hr dX3_kindOf_61
  · refine g_iconst (pc := 6) X 0 dX3_kindOf_6 rfl ?_
    refine g_goto (pc := 7) X 61 dX3_kindOf_7 (by decide) ?_
    exact g_iret (pc := 61) X hr dX3_kindOf_61
theorem kX3_kindOf {mo : Nat} {ρ : Sg} {sz : Nat} {x0 : Int32} {t : MS} {r : Int32} {u : MS} (h : fX3_kindOf x0 t = some (r, u)) : g_C Γ l yX3_kindOf cX3_kindOf 1 (Option.some Jvm.ClassFile.FieldType.int) 0 0 [.int x0] (MC mo t ρ) sz v_i r (m_ι mo ρ sz u) :=
  g_met [.int x0] (by decide) (Nat.le_of_ble_eq_true rfl) h rfl (fun p e s m args below meth c X hr hn => wX3_kindOf X hr x0 t)
def fX3_readNumber_76 (kc13 : Int32 → Int32 → Int32 → Int32 → MS → Option (Int32 × MS)) (x1 : Int32) (x2 : Int32) (x3 : Int32) (s0 : Int32) (t : MS) : Option (Int32 × MS) := lt (setI t 16 ((t.1 16) + 1)) fun t1 => kc13 x1 x2 x3 s0 t1
set_option maxHeartbeats 4000000 in
theorem wX3_readNumber_76 {rF : Int32} (X : g_X Γ p s m args meth c cX3_readNumber 5 RX3) (hr : meth.sig.returnType = (Option.some Jvm.ClassFile.FieldType.int)) {kc13 : Int32 → Int32 → Int32 → Int32 → MS → Option (Int32 × MS)} (hk13 : ∀ (x1 : Int32) (x2 : Int32) (x3 : Int32) (x4 : Int32) (t : MS), Wf Γ p l e 1 25 s m args below meth c 5 (m_ι mo ρ sz) v_i rF tF 13 [(0, .ref mo), (1, .int x1), (2, .int x2), (3, .int x3), (4, .int x4)] [] t (kc13 x1 x2 x3 x4 t)) (x1 : Int32) (x2 : Int32) (x3 : Int32) (s0 : Int32) (t : MS) : Wf Γ p l e 1 25 s m args below meth c 5 (m_ι mo ρ sz) v_i rF tF 76 [(0, .ref mo), (1, .int x1), (2, .int x2), (3, .int x3)] [.int s0] t (fX3_readNumber_76 kc13 x1 x2 x3 s0 t) := by
  unfold fX3_readNumber_76
  refine g_istore (pc := 76) X (lv' := [(4, .int s0), (0, .ref mo), (1, .int x1), (2, .int x2), (3, .int x3)]) dX3_readNumber_76 (by decide) rfl ?_
  refine g_aload_n (pc := 78) X 1 dX3_readNumber_78 rfl rfl ?_
  refine g_dup (pc := 79) X dX3_readNumber_79 rfl ?_
  refine mg_get (pc := 80) X fo_X3_128 dX3_readNumber_80 rfl ?_
  refine g_iconst (pc := 83) X 1 dX3_readNumber_83 rfl ?_
  refine g_iadd (pc := 84) X dX3_readNumber_84 ?_
  refine mg_put (pc := 85) X fp_X3_128 dX3_readNumber_85 rfl rfl (by decide) rfl (fun t1 => ?_)
  refine g_goto (pc := 88) X 13 dX3_readNumber_88 (by decide) ?_
  exact g_lv (pc := 13) (lv' := [(0, .ref mo), (1, .int x1), (2, .int x2), (3, .int x3), (4, .int s0)]) [1, 2, 3, 4, 0] rfl (hk13 x1 x2 x3 s0 t1)
def fX3_readNumber_91 (x1 : Int32) (x2 : Int32) (x3 : Int32) (x4 : Int32) (t : MS) : Option (Int32 × MS) := if t.1 16 = x3 then some ((-1), t) else gm (fX3_in x4.toInt64 x1.toInt64 x2.toInt64 t) fun r1 t2 => if r1 = 0 then lt (setI t2 16 x3) fun t3 => some ((-1), t3) else some (x4, t2)
set_option maxHeartbeats 4000000 in
theorem wX3_readNumber_91 {rF : Int32} (X : g_X Γ p s m args meth c cX3_readNumber 5 RX3) (hr : meth.sig.returnType = (Option.some Jvm.ClassFile.FieldType.int)) (x1 : Int32) (x2 : Int32) (x3 : Int32) (x4 : Int32) (t : MS) : Wf Γ p l e 1 25 s m args below meth c 5 (m_ι mo ρ sz) v_i rF tF 91 [(0, .ref mo), (1, .int x1), (2, .int x2), (3, .int x3), (4, .int x4)] [] t (fX3_readNumber_91 x1 x2 x3 x4 t) := by
  unfold fX3_readNumber_91
  refine g_aload_n (pc := 91) X 0 dX3_readNumber_91 rfl rfl ?_
  refine mg_get (pc := 92) X fo_X3_128 dX3_readNumber_92 rfl ?_
  refine g_iload_n (pc := 95) X 3 dX3_readNumber_95 rfl rfl ?_
  refine g_icmp_ne (pc := 96) X 101 dX3_readNumber_96 (by decide) ?_ ?_
  · refine g_iload (pc := 101) X 4 dX3_readNumber_101 rfl ?_
    refine g_i2l (pc := 103) X dX3_readNumber_103 ?_
    refine g_iload_n (pc := 104) X 1 dX3_readNumber_104 rfl rfl ?_
    refine g_i2l (pc := 105) X dX3_readNumber_105 ?_
    refine g_iload_n (pc := 106) X 2 dX3_readNumber_106 rfl rfl ?_
    refine g_i2l (pc := 107) X dX3_readNumber_107 ?_
    refine g_mS_i (pc := 108) X (y := yX3_in) (As := [.long x4.toInt64, .long x1.toInt64, .long x2.toInt64]) (rest := []) (fr' := 0) (lo' := 0) (fun _ => va_cwS 3 X.2.2.2.2.1 (lw_S q1767 q1768 q76 q1769) rfl rfl rfl dmS_X3_in ⟨Nat.le_of_ble_eq_true rfl, Nat.le_of_ble_eq_true rfl⟩) dX3_readNumber_108 rfl rfl (Nat.le_of_ble_eq_true rfl) (fun _ => rfl) (fun r u h => kX3_in h) (fun r1 t2 => ?_)
    refine g_if_ne (pc := 111) X 121 dX3_readNumber_111 (by decide) ?_ ?_
    · refine g_iload (pc := 121) X 4 dX3_readNumber_121 rfl ?_
      exact g_iret (pc := 123) X hr dX3_readNumber_123
    · refine g_aload_n (pc := 114) X 0 dX3_readNumber_114 rfl rfl ?_
      refine g_iload_n (pc := 115) X 3 dX3_readNumber_115 rfl rfl ?_
      refine mg_put (pc := 116) X fp_X3_128 dX3_readNumber_116 rfl rfl (by decide) rfl (fun t3 => ?_)
      refine g_iconst (pc := 119) X (-1) dX3_readNumber_119 rfl ?_
      exact g_iret (pc := 120) X hr dX3_readNumber_120
  · refine g_iconst (pc := 99) X (-1) dX3_readNumber_99 rfl ?_
    exact g_iret (pc := 100) X hr dX3_readNumber_100
def fX3_readNumber_13 : Nat → Int32 → Int32 → Int32 → Int32 → MS → Option (Int32 × MS)
  | 0, _, _, _, _, _ => none
  | n + 1, x1, x2, x3, x4, t => if t.1 15 ≤ t.1 16 then fX3_readNumber_91 x1 x2 x3 x4 t else mald t 7 160 (t.1 16) fun v1 => gm (fX3_in v1.toInt64 48 57 t) fun r2 t3 => if r2 = 0 then fX3_readNumber_91 x1 x2 x3 x4 t3 else if x4 ≤ 99999 then mald t3 7 160 (t3.1 16) fun v4 => fX3_readNumber_76 (fun a0 a1 a2 a3 a4 => fX3_readNumber_13 n a0 a1 a2 a3 a4) x1 x2 x3 (((10 * x4) + v4) - 48) t3 else fX3_readNumber_76 (fun a0 a1 a2 a3 a4 => fX3_readNumber_13 n a0 a1 a2 a3 a4) x1 x2 x3 x4 t3
set_option maxHeartbeats 4000000 in
theorem wX3_readNumber_13 {rF : Int32} (X : g_X Γ p s m args meth c cX3_readNumber 5 RX3) (hr : meth.sig.returnType = (Option.some Jvm.ClassFile.FieldType.int)) (n : Nat) : ∀ (x1 : Int32) (x2 : Int32) (x3 : Int32) (x4 : Int32) (t : MS), Wf Γ p l e 1 25 s m args below meth c 5 (m_ι mo ρ sz) v_i rF tF 13 [(0, .ref mo), (1, .int x1), (2, .int x2), (3, .int x3), (4, .int x4)] [] t (fX3_readNumber_13 n x1 x2 x3 x4 t) := by
  induction n with
  | zero => intro x1 x2 x3 x4 t; exact g_none
  | succ n ih =>
    intro x1 x2 x3 x4 t
    rw [fX3_readNumber_13]
    refine g_aload_n (pc := 13) X 0 dX3_readNumber_13 rfl rfl ?_
    refine mg_get (pc := 14) X fo_X3_128 dX3_readNumber_14 rfl ?_
    refine g_aload_n (pc := 17) X 0 dX3_readNumber_17 rfl rfl ?_
    refine mg_get (pc := 18) X fo_X3_125 dX3_readNumber_18 rfl ?_
    refine g_icmp_ge (pc := 21) X 91 dX3_readNumber_21 (by decide) ?_ ?_
    · exact g_lv (pc := 91) (lv' := [(0, .ref mo), (1, .int x1), (2, .int x2), (3, .int x3), (4, .int x4)]) [0, 1, 2, 3, 4] rfl (wX3_readNumber_91 X hr x1 x2 x3 x4 t)
    · refine g_aload_n (pc := 24) X 0 dX3_readNumber_24 rfl rfl ?_
      refine mg_get (pc := 25) X fo_X3_44 dX3_readNumber_25 rfl ?_
      refine g_aload_n (pc := 28) X 0 dX3_readNumber_28 rfl rfl ?_
      refine mg_get (pc := 29) X fo_X3_128 dX3_readNumber_29 rfl ?_
      refine mg_ald (pc := 32) X (j := 7) dX3_readNumber_32 (by decide) rfl (fun v1 => ?_)
      refine g_i2l (pc := 33) X dX3_readNumber_33 ?_
      refine g_ldc2 (pc := 34) X 48 dX3_readNumber_34 q1845 ?_
      refine g_ldc2 (pc := 37) X 57 dX3_readNumber_37 q1846 ?_
      refine g_mS_i (pc := 40) X (y := yX3_in) (As := [.long v1.toInt64, .long 48, .long 57]) (rest := []) (fr' := 0) (lo' := 0) (fun _ => va_cwS 3 X.2.2.2.2.1 (lw_S q1767 q1768 q76 q1769) rfl rfl rfl dmS_X3_in ⟨Nat.le_of_ble_eq_true rfl, Nat.le_of_ble_eq_true rfl⟩) dX3_readNumber_40 rfl rfl (Nat.le_of_ble_eq_true rfl) (fun _ => rfl) (fun r u h => kX3_in h) (fun r2 t3 => ?_)
      refine g_if_eq (pc := 43) X 91 dX3_readNumber_43 (by decide) ?_ ?_
      · exact g_lv (pc := 91) (lv' := [(0, .ref mo), (1, .int x1), (2, .int x2), (3, .int x3), (4, .int x4)]) [0, 1, 2, 3, 4] rfl (wX3_readNumber_91 X hr x1 x2 x3 x4 t3)
      · refine g_iload (pc := 46) X 4 dX3_readNumber_46 rfl ?_
        refine g_ldc (pc := 48) X 99999 dX3_readNumber_48 q1881 ?_
        refine g_icmp_le (pc := 50) X 58 dX3_readNumber_50 (by decide) ?_ ?_
        · refine g_bipush (pc := 58) X 10 dX3_readNumber_58 rfl ?_
          refine g_iload (pc := 60) X 4 dX3_readNumber_60 rfl ?_
          refine g_imul (pc := 62) X dX3_readNumber_62 ?_
          refine g_aload_n (pc := 63) X 0 dX3_readNumber_63 rfl rfl ?_
          refine mg_get (pc := 64) X fo_X3_44 dX3_readNumber_64 rfl ?_
          refine g_aload_n (pc := 67) X 0 dX3_readNumber_67 rfl rfl ?_
          refine mg_get (pc := 68) X fo_X3_128 dX3_readNumber_68 rfl ?_
          refine mg_ald (pc := 71) X (j := 7) dX3_readNumber_71 (by decide) rfl (fun v4 => ?_)
          refine g_iadd (pc := 72) X dX3_readNumber_72 ?_
          refine g_bipush (pc := 73) X 48 dX3_readNumber_73 rfl ?_
          refine g_isub (pc := 75) X dX3_readNumber_75 ?_
          exact g_lv (pc := 76) (lv' := [(0, .ref mo), (1, .int x1), (2, .int x2), (3, .int x3)]) [0, 1, 2, 3] rfl (wX3_readNumber_76 X hr (fun a0 a1 a2 a3 a4 => ih a0 a1 a2 a3 a4) x1 x2 x3 (((10 * x4) + v4) - 48) t3)
        · refine g_iload (pc := 53) X 4 dX3_readNumber_53 rfl ?_
          refine g_goto (pc := 55) X 76 dX3_readNumber_55 (by decide) ?_
          exact g_lv (pc := 76) (lv' := [(0, .ref mo), (1, .int x1), (2, .int x2), (3, .int x3)]) [0, 1, 2, 3] rfl (wX3_readNumber_76 X hr (fun a0 a1 a2 a3 a4 => ih a0 a1 a2 a3 a4) x1 x2 x3 x4 t3)
def fX3_readNumber (x1 : Int32) (x2 : Int32) (t : MS) : Option (Int32 × MS) := gm (fX3_nextLetter t) fun r1 t2 => fX3_readNumber_13 1000 x1 x2 (t2.1 16) 0 t2
set_option maxHeartbeats 4000000 in
theorem wX3_readNumber {rF : Int32} (X : g_X Γ p s m args meth c cX3_readNumber 5 RX3) (hr : meth.sig.returnType = (Option.some Jvm.ClassFile.FieldType.int)) (x1 : Int32) (x2 : Int32) (t : MS) : Wf Γ p l e 1 25 s m args below meth c 5 (m_ι mo ρ sz) v_i rF tF 0 [(0, .ref mo), (1, .int x1), (2, .int x2)] [] t (fX3_readNumber x1 x2 t) := by
  unfold fX3_readNumber
  refine g_aload_n (pc := 0) X 0 dX3_readNumber_0 rfl rfl ?_
  refine g_mV_i (pc := 1) X (C := RX3) (y := yX3_nextLetter) (As := []) (rest := []) (fr' := 0) (lo' := 0) (fun _ => cwV 0 X.2.2.2.2.1 (lw_V q1838 q1840 qs37 q76 q1841) rfl rfl rfl dmV_X3_nextLetter ⟨Nat.le_of_ble_eq_true rfl, Nat.le_of_ble_eq_true rfl⟩) dX3_readNumber_1 MC_o ⟨_, _, rfl⟩ rfl rfl (Nat.le_of_ble_eq_true rfl) (fun _ => rfl) (fun r u h => kX3_nextLetter h) (fun r1 t2 => ?_)
  refine g_pop (pc := 4) X dX3_readNumber_4 rfl ?_
  refine g_aload_n (pc := 5) X 0 dX3_readNumber_5 rfl rfl ?_
  refine mg_get (pc := 6) X fo_X3_128 dX3_readNumber_6 rfl ?_
  refine g_istore_n (pc := 9) X (lv' := [(3, .int (t2.1 16)), (0, .ref mo), (1, .int x1), (2, .int x2)]) dX3_readNumber_9 rfl (by decide) rfl ?_
  refine g_iconst (pc := 10) X 0 dX3_readNumber_10 rfl ?_
  refine g_istore (pc := 11) X (lv' := [(4, .int 0), (3, .int (t2.1 16)), (0, .ref mo), (1, .int x1), (2, .int x2)]) dX3_readNumber_11 (by decide) rfl ?_
  exact g_lv (pc := 13) (lv' := [(0, .ref mo), (1, .int x1), (2, .int x2), (3, .int (t2.1 16)), (4, .int 0)]) [2, 3, 4, 1, 0] rfl (wX3_readNumber_13 X hr 1000 x1 x2 (t2.1 16) 0 t2)
theorem kX3_readNumber {mo : Nat} {ρ : Sg} {sz : Nat} {x1 : Int32} {x2 : Int32} {t : MS} {r : Int32} {u : MS} (h : fX3_readNumber x1 x2 t = some (r, u)) : g_C Γ l yX3_readNumber cX3_readNumber 5 (Option.some Jvm.ClassFile.FieldType.int) 1 25 [.ref mo, .int x1, .int x2] (MC mo t ρ) sz v_i r (m_ι mo ρ sz u) :=
  g_met [.ref mo, .int x1, .int x2] (by decide) (Nat.le_of_ble_eq_true rfl) h rfl (fun p e s m args below meth c X hr hn => wX3_readNumber X hr x1 x2 t)
def fX3_takes_13 (s0 : Int32) (t : MS) : Option (Int32 × MS) := if s0 = 0 then lt (setI t 16 ((t.1 16) + 0)) fun t1 => if s0 = 0 ∨ s0 = 1 then some (s0, t1) else none else lt (setI t 16 ((t.1 16) + 1)) fun t2 => if s0 = 0 ∨ s0 = 1 then some (s0, t2) else none
set_option maxHeartbeats 4000000 in
theorem wX3_takes_13 {rF : Int32} (X : g_X Γ p s m args meth c cX3_takes 3 RX3) (hr : meth.sig.returnType = (Option.some Jvm.ClassFile.FieldType.boolean)) (s0 : Int32) (t : MS) : Wf Γ p l e 1 20 s m args below meth c 3 (m_ι mo ρ sz) v_i rF tF 13 [(0, .ref mo)] [.int s0] t (fX3_takes_13 s0 t) := by
  unfold fX3_takes_13
  refine g_istore_n (pc := 13) X (lv' := [(2, .int s0), (0, .ref mo)]) dX3_takes_13 rfl (by decide) rfl ?_
  refine g_aload_n (pc := 14) X 1 dX3_takes_14 rfl rfl ?_
  refine g_dup (pc := 15) X dX3_takes_15 rfl ?_
  refine mg_get (pc := 16) X fo_X3_128 dX3_takes_16 rfl ?_
  refine g_iload_n (pc := 19) X 0 dX3_takes_19 rfl rfl ?_
  refine g_if_eq (pc := 20) X 27 dX3_takes_20 (by decide) ?_ ?_
  · refine g_iconst (pc := 27) X 0 dX3_takes_27 rfl ?_
    refine g_iadd (pc := 28) X dX3_takes_28 ?_
    refine mg_put (pc := 29) X fp_X3_128 dX3_takes_29 rfl rfl (by decide) rfl (fun t1 => ?_)
    refine g_iload_n (pc := 32) X 0 dX3_takes_32 rfl rfl ?_
    exact g_bret (pc := 33) X hr dX3_takes_33
  · refine g_iconst (pc := 23) X 1 dX3_takes_23 rfl ?_
    refine g_goto (pc := 24) X 28 dX3_takes_24 (by decide) ?_
    refine g_iadd (pc := 28) X dX3_takes_28 ?_
    refine mg_put (pc := 29) X fp_X3_128 dX3_takes_29 rfl rfl (by decide) rfl (fun t2 => ?_)
    refine g_iload_n (pc := 32) X 0 dX3_takes_32 rfl rfl ?_
    exact g_bret (pc := 33) X hr dX3_takes_33
def fX3_takes (x1 : Int32) (t : MS) : Option (Int32 × MS) := gm (fX3_nextLetter t) fun r1 t2 => if r1 = x1 then fX3_takes_13 1 t2 else fX3_takes_13 0 t2
set_option maxHeartbeats 4000000 in
theorem wX3_takes {rF : Int32} (X : g_X Γ p s m args meth c cX3_takes 3 RX3) (hr : meth.sig.returnType = (Option.some Jvm.ClassFile.FieldType.boolean)) (x1 : Int32) (t : MS) : Wf Γ p l e 1 20 s m args below meth c 3 (m_ι mo ρ sz) v_i rF tF 0 [(0, .ref mo), (1, .int x1)] [] t (fX3_takes x1 t) := by
  unfold fX3_takes
  refine g_aload_n (pc := 0) X 0 dX3_takes_0 rfl rfl ?_
  refine g_mV_i (pc := 1) X (C := RX3) (y := yX3_nextLetter) (As := []) (rest := []) (fr' := 0) (lo' := 0) (fun _ => cwV 0 X.2.2.2.2.1 (lw_V q1838 q1840 qs37 q76 q1841) rfl rfl rfl dmV_X3_nextLetter ⟨Nat.le_of_ble_eq_true rfl, Nat.le_of_ble_eq_true rfl⟩) dX3_takes_1 MC_o ⟨_, _, rfl⟩ rfl rfl (Nat.le_of_ble_eq_true rfl) (fun _ => rfl) (fun r u h => kX3_nextLetter h) (fun r1 t2 => ?_)
  refine g_iload_n (pc := 4) X 1 dX3_takes_4 rfl rfl ?_
  refine g_icmp_ne (pc := 5) X 12 dX3_takes_5 (by decide) ?_ ?_
  · refine g_iconst (pc := 12) X 0 dX3_takes_12 rfl ?_
    exact g_lv (pc := 13) (lv' := [(0, .ref mo)]) [0] rfl (wX3_takes_13 X hr 0 t2)
  · refine g_iconst (pc := 8) X 1 dX3_takes_8 rfl ?_
    refine g_goto (pc := 9) X 13 dX3_takes_9 (by decide) ?_
    exact g_lv (pc := 13) (lv' := [(0, .ref mo)]) [0] rfl (wX3_takes_13 X hr 1 t2)
theorem kX3_takes {mo : Nat} {ρ : Sg} {sz : Nat} {x1 : Int32} {t : MS} {r : Int32} {u : MS} (h : fX3_takes x1 t = some (r, u)) : g_C Γ l yX3_takes cX3_takes 3 (Option.some Jvm.ClassFile.FieldType.boolean) 1 20 [.ref mo, .int x1] (MC mo t ρ) sz v_i r (m_ι mo ρ sz u) :=
  g_met [.ref mo, .int x1] (by decide) (Nat.le_of_ble_eq_true rfl) h rfl (fun p e s m args below meth c X hr hn => wX3_takes X hr x1 t)
def fX3_readClock_151 (x1 : Int32) (s0 : Int32) (s1 : Int32) (t : MS) : Option (Int32 × MS) := mast t 8 480 s1 s0 fun t1 => mald t1 8 480 (x1 + 3) fun v2 => if v2 < 0 then some (0, t1) else some (1, t1)
set_option maxHeartbeats 4000000 in
theorem wX3_readClock_151 {rF : Int32} (X : g_X Γ p s m args meth c cX3_readClock 4 RX3) (hr : meth.sig.returnType = (Option.some Jvm.ClassFile.FieldType.boolean)) (x1 : Int32) (s0 : Int32) (s1 : Int32) (t : MS) : Wf Γ p l e 2 49 s m args below meth c 4 (m_ι mo ρ sz) v_i rF tF 151 [(0, .ref mo), (1, .int x1)] [.int s0, .int s1, .ref (mo + 9)] t (fX3_readClock_151 x1 s0 s1 t) := by
  unfold fX3_readClock_151
  refine mg_ast (pc := 151) X (j := 8) dX3_readClock_151 (by decide) rfl (fun t1 => ?_)
  refine g_aload_n (pc := 152) X 0 dX3_readClock_152 rfl rfl ?_
  refine mg_get (pc := 153) X fo_X3_47 dX3_readClock_153 rfl ?_
  refine g_iload_n (pc := 156) X 1 dX3_readClock_156 rfl rfl ?_
  refine g_iconst (pc := 157) X 3 dX3_readClock_157 rfl ?_
  refine g_iadd (pc := 158) X dX3_readClock_158 ?_
  refine mg_ald (pc := 159) X (j := 8) dX3_readClock_159 (by decide) rfl (fun v2 => ?_)
  refine g_if_lt (pc := 160) X 167 dX3_readClock_160 (by decide) ?_ ?_
  · refine g_iconst (pc := 167) X 0 dX3_readClock_167 rfl ?_
    exact g_zret (pc := 168) X hr rfl dX3_readClock_168
  · refine g_iconst (pc := 163) X 1 dX3_readClock_163 rfl ?_
    refine g_goto (pc := 164) X 168 dX3_readClock_164 (by decide) ?_
    exact g_zret (pc := 168) X hr rfl dX3_readClock_168
def fX3_readClock_106 (x1 : Int32) (x2 : Int32) (s0 : Int32) (t : MS) : Option (Int32 × MS) := if 0 ≤ s0 then mast t 8 480 (x1 + 2) (x2 * s0) fun t1 => gm (fX3_takes 42 t1) fun r2 t3 => if r2 = 0 then fX3_readClock_151 x1 0 (x1 + 3) t3 else gm (fX3_readNumber 0 99 t3) fun r4 t5 => fX3_readClock_151 x1 r4 (x1 + 3) t5 else some (0, t)
set_option maxHeartbeats 4000000 in
theorem wX3_readClock_106 {rF : Int32} (X : g_X Γ p s m args meth c cX3_readClock 4 RX3) (hr : meth.sig.returnType = (Option.some Jvm.ClassFile.FieldType.boolean)) (x1 : Int32) (x2 : Int32) (s0 : Int32) (t : MS) : Wf Γ p l e 2 49 s m args below meth c 4 (m_ι mo ρ sz) v_i rF tF 106 [(0, .ref mo), (1, .int x1), (2, .int x2)] [.int s0] t (fX3_readClock_106 x1 x2 s0 t) := by
  unfold fX3_readClock_106
  refine g_istore_n (pc := 106) X (lv' := [(3, .int s0), (0, .ref mo), (1, .int x1), (2, .int x2)]) dX3_readClock_106 rfl (by decide) rfl ?_
  refine g_iload_n (pc := 107) X 0 dX3_readClock_107 rfl rfl ?_
  refine g_if_ge (pc := 108) X 113 dX3_readClock_108 (by decide) ?_ ?_
  · refine g_aload_n (pc := 113) X 1 dX3_readClock_113 rfl rfl ?_
    refine mg_get (pc := 114) X fo_X3_47 dX3_readClock_114 rfl ?_
    refine g_iload_n (pc := 117) X 2 dX3_readClock_117 rfl rfl ?_
    refine g_iconst (pc := 118) X 2 dX3_readClock_118 rfl ?_
    refine g_iadd (pc := 119) X dX3_readClock_119 ?_
    refine g_iload_n (pc := 120) X 3 dX3_readClock_120 rfl rfl ?_
    refine g_iload_n (pc := 121) X 0 dX3_readClock_121 rfl rfl ?_
    refine g_imul (pc := 122) X dX3_readClock_122 ?_
    refine mg_ast (pc := 123) X (j := 8) dX3_readClock_123 (by decide) rfl (fun t1 => ?_)
    refine g_aload_n (pc := 124) X 1 dX3_readClock_124 rfl rfl ?_
    refine mg_get (pc := 125) X fo_X3_47 dX3_readClock_125 rfl ?_
    refine g_iload_n (pc := 128) X 2 dX3_readClock_128 rfl rfl ?_
    refine g_iconst (pc := 129) X 3 dX3_readClock_129 rfl ?_
    refine g_iadd (pc := 130) X dX3_readClock_130 ?_
    refine g_aload_n (pc := 131) X 1 dX3_readClock_131 rfl rfl ?_
    refine g_bipush (pc := 132) X 42 dX3_readClock_132 rfl ?_
    refine g_mV_i (pc := 134) X (C := RX3) (y := yX3_takes) (As := [.int 42]) (rest := [.int (x1 + 3), .ref (mo + 9)]) (fr' := 1) (lo' := 20) (fun _ => cwV 1 X.2.2.2.2.1 (lw_V q1882 q1884 qs43 q76 q1885) rfl rfl rfl dmV_X3_takes ⟨Nat.le_of_ble_eq_true rfl, Nat.le_of_ble_eq_true rfl⟩) dX3_readClock_134 MC_o ⟨_, _, rfl⟩ rfl rfl (Nat.le_of_ble_eq_true rfl) (fun _ => rfl) (fun r u h => kX3_takes h) (fun r2 t3 => ?_)
    refine g_if_eq (pc := 137) X 150 dX3_readClock_137 (by decide) ?_ ?_
    · refine g_iconst (pc := 150) X 0 dX3_readClock_150 rfl ?_
      exact g_lv (pc := 151) (lv' := [(0, .ref mo), (1, .int x1)]) [1, 2] rfl (wX3_readClock_151 X hr x1 0 (x1 + 3) t3)
    · refine g_aload_n (pc := 140) X 1 dX3_readClock_140 rfl rfl ?_
      refine g_iconst (pc := 141) X 0 dX3_readClock_141 rfl ?_
      refine g_bipush (pc := 142) X 99 dX3_readClock_142 rfl ?_
      refine g_mV_i (pc := 144) X (C := RX3) (y := yX3_readNumber) (As := [.int 0, .int 99]) (rest := [.int (x1 + 3), .ref (mo + 9)]) (fr' := 1) (lo' := 25) (fun _ => cwV 2 X.2.2.2.2.1 (lw_V q1877 q1879 qs42 q76 q1880) rfl rfl rfl dmV_X3_readNumber ⟨Nat.le_of_ble_eq_true rfl, Nat.le_of_ble_eq_true rfl⟩) dX3_readClock_144 MC_o ⟨_, _, rfl⟩ rfl rfl (Nat.le_of_ble_eq_true rfl) (fun _ => rfl) (fun r u h => kX3_readNumber h) (fun r4 t5 => ?_)
      refine g_goto (pc := 147) X 151 dX3_readClock_147 (by decide) ?_
      exact g_lv (pc := 151) (lv' := [(0, .ref mo), (1, .int x1)]) [1, 2] rfl (wX3_readClock_151 X hr x1 r4 (x1 + 3) t5)
  · refine g_iconst (pc := 111) X 0 dX3_readClock_111 rfl ?_
    exact g_zret (pc := 112) X hr rfl dX3_readClock_112
def fX3_readClock_90 (x1 : Int32) (s0 : Int32) (t : MS) : Option (Int32 × MS) := if s0 = 0 then fX3_readClock_106 x1 s0 0 t else gm (fX3_readNumber 0 30 t) fun r1 t2 => fX3_readClock_106 x1 s0 r1 t2
set_option maxHeartbeats 4000000 in
theorem wX3_readClock_90 {rF : Int32} (X : g_X Γ p s m args meth c cX3_readClock 4 RX3) (hr : meth.sig.returnType = (Option.some Jvm.ClassFile.FieldType.boolean)) (x1 : Int32) (s0 : Int32) (t : MS) : Wf Γ p l e 2 49 s m args below meth c 4 (m_ι mo ρ sz) v_i rF tF 90 [(0, .ref mo), (1, .int x1)] [.int s0] t (fX3_readClock_90 x1 s0 t) := by
  unfold fX3_readClock_90
  refine g_istore_n (pc := 90) X (lv' := [(2, .int s0), (0, .ref mo), (1, .int x1)]) dX3_readClock_90 rfl (by decide) rfl ?_
  refine g_iload_n (pc := 91) X 0 dX3_readClock_91 rfl rfl ?_
  refine g_if_ne (pc := 92) X 99 dX3_readClock_92 (by decide) ?_ ?_
  · refine g_aload_n (pc := 99) X 1 dX3_readClock_99 rfl rfl ?_
    refine g_iconst (pc := 100) X 0 dX3_readClock_100 rfl ?_
    refine g_bipush (pc := 101) X 30 dX3_readClock_101 rfl ?_
    refine g_mV_i (pc := 103) X (C := RX3) (y := yX3_readNumber) (As := [.int 0, .int 30]) (rest := []) (fr' := 1) (lo' := 25) (fun _ => cwV 2 X.2.2.2.2.1 (lw_V q1877 q1879 qs42 q76 q1880) rfl rfl rfl dmV_X3_readNumber ⟨Nat.le_of_ble_eq_true rfl, Nat.le_of_ble_eq_true rfl⟩) dX3_readClock_103 MC_o ⟨_, _, rfl⟩ rfl rfl (Nat.le_of_ble_eq_true rfl) (fun _ => rfl) (fun r u h => kX3_readNumber h) (fun r1 t2 => ?_)
    exact g_lv (pc := 106) (lv' := [(0, .ref mo), (1, .int x1), (2, .int s0)]) [1, 2, 0] rfl (wX3_readClock_106 X hr x1 s0 r1 t2)
  · refine g_iconst (pc := 95) X 0 dX3_readClock_95 rfl ?_
    refine g_goto (pc := 96) X 106 dX3_readClock_96 (by decide) ?_
    exact g_lv (pc := 106) (lv' := [(0, .ref mo), (1, .int x1), (2, .int s0)]) [1, 2, 0] rfl (wX3_readClock_106 X hr x1 s0 0 t)
def fX3_readClock (x1 : Int32) (t : MS) : Option (Int32 × MS) := gm (fX3_nextLetter t) fun r1 t2 => gm (fX3_kindOf r1 t2) fun r3 t4 => mast t4 8 480 x1 r3 fun t5 => mald t5 8 480 x1 fun v6 => if 0 ≤ v6 then lt (setI t5 16 ((t5.1 16) + 1)) fun t7 => gm (fX3_readNumber 0 719 t7) fun r8 t9 => mast t9 8 480 (x1 + 1) r8 fun t10 => mald t10 8 480 (x1 + 1) fun v11 => if 0 ≤ v11 then gm (fX3_takes 43 t10) fun r12 t13 => if r12 = 0 then gm (fX3_takes 45 t13) fun r14 t15 => if r14 = 0 then fX3_readClock_90 x1 0 t15 else fX3_readClock_90 x1 (-1) t15 else fX3_readClock_90 x1 1 t13 else some (0, t10) else some (0, t5)
set_option maxHeartbeats 4000000 in
theorem wX3_readClock {rF : Int32} (X : g_X Γ p s m args meth c cX3_readClock 4 RX3) (hr : meth.sig.returnType = (Option.some Jvm.ClassFile.FieldType.boolean)) (x1 : Int32) (t : MS) : Wf Γ p l e 2 49 s m args below meth c 4 (m_ι mo ρ sz) v_i rF tF 0 [(0, .ref mo), (1, .int x1)] [] t (fX3_readClock x1 t) := by
  unfold fX3_readClock
  refine g_aload_n (pc := 0) X 0 dX3_readClock_0 rfl rfl ?_
  refine mg_get (pc := 1) X fo_X3_47 dX3_readClock_1 rfl ?_
  refine g_iload_n (pc := 4) X 1 dX3_readClock_4 rfl rfl ?_
  refine g_aload_n (pc := 5) X 0 dX3_readClock_5 rfl rfl ?_
  refine g_mV_i (pc := 6) X (C := RX3) (y := yX3_nextLetter) (As := []) (rest := [.int x1, .ref (mo + 9)]) (fr' := 0) (lo' := 0) (fun _ => cwV 0 X.2.2.2.2.1 (lw_V q1838 q1840 qs37 q76 q1841) rfl rfl rfl dmV_X3_nextLetter ⟨Nat.le_of_ble_eq_true rfl, Nat.le_of_ble_eq_true rfl⟩) dX3_readClock_6 MC_o ⟨_, _, rfl⟩ rfl rfl (Nat.le_of_ble_eq_true rfl) (fun _ => rfl) (fun r u h => kX3_nextLetter h) (fun r1 t2 => ?_)
  refine g_mS_i (pc := 9) X (y := yX3_kindOf) (As := [.int r1]) (rest := [.int x1, .ref (mo + 9)]) (fr' := 0) (lo' := 0) (fun _ => va_cwS 1 X.2.2.2.2.1 (lw_S q1874 q1875 q76 q1876) rfl rfl rfl dmS_X3_kindOf ⟨Nat.le_of_ble_eq_true rfl, Nat.le_of_ble_eq_true rfl⟩) dX3_readClock_9 rfl rfl (Nat.le_of_ble_eq_true rfl) (fun _ => rfl) (fun r u h => kX3_kindOf h) (fun r3 t4 => ?_)
  refine mg_ast (pc := 12) X (j := 8) dX3_readClock_12 (by decide) rfl (fun t5 => ?_)
  refine g_aload_n (pc := 13) X 0 dX3_readClock_13 rfl rfl ?_
  refine mg_get (pc := 14) X fo_X3_47 dX3_readClock_14 rfl ?_
  refine g_iload_n (pc := 17) X 1 dX3_readClock_17 rfl rfl ?_
  refine mg_ald (pc := 18) X (j := 8) dX3_readClock_18 (by decide) rfl (fun v6 => ?_)
  refine g_if_ge (pc := 19) X 24 dX3_readClock_19 (by decide) ?_ ?_
  · refine g_aload_n (pc := 24) X 0 dX3_readClock_24 rfl rfl ?_
    refine g_dup (pc := 25) X dX3_readClock_25 rfl ?_
    refine mg_get (pc := 26) X fo_X3_128 dX3_readClock_26 rfl ?_
    refine g_iconst (pc := 29) X 1 dX3_readClock_29 rfl ?_
    refine g_iadd (pc := 30) X dX3_readClock_30 ?_
    refine mg_put (pc := 31) X fp_X3_128 dX3_readClock_31 rfl rfl (by decide) rfl (fun t7 => ?_)
    refine g_aload_n (pc := 34) X 0 dX3_readClock_34 rfl rfl ?_
    refine mg_get (pc := 35) X fo_X3_47 dX3_readClock_35 rfl ?_
    refine g_iload_n (pc := 38) X 1 dX3_readClock_38 rfl rfl ?_
    refine g_iconst (pc := 39) X 1 dX3_readClock_39 rfl ?_
    refine g_iadd (pc := 40) X dX3_readClock_40 ?_
    refine g_aload_n (pc := 41) X 0 dX3_readClock_41 rfl rfl ?_
    refine g_iconst (pc := 42) X 0 dX3_readClock_42 rfl ?_
    refine g_sipush (pc := 43) X 719 dX3_readClock_43 rfl ?_
    refine g_mV_i (pc := 46) X (C := RX3) (y := yX3_readNumber) (As := [.int 0, .int 719]) (rest := [.int (x1 + 1), .ref (mo + 9)]) (fr' := 1) (lo' := 25) (fun _ => cwV 2 X.2.2.2.2.1 (lw_V q1877 q1879 qs42 q76 q1880) rfl rfl rfl dmV_X3_readNumber ⟨Nat.le_of_ble_eq_true rfl, Nat.le_of_ble_eq_true rfl⟩) dX3_readClock_46 MC_o ⟨_, _, rfl⟩ rfl rfl (Nat.le_of_ble_eq_true rfl) (fun _ => rfl) (fun r u h => kX3_readNumber h) (fun r8 t9 => ?_)
    refine mg_ast (pc := 49) X (j := 8) dX3_readClock_49 (by decide) rfl (fun t10 => ?_)
    refine g_aload_n (pc := 50) X 0 dX3_readClock_50 rfl rfl ?_
    refine mg_get (pc := 51) X fo_X3_47 dX3_readClock_51 rfl ?_
    refine g_iload_n (pc := 54) X 1 dX3_readClock_54 rfl rfl ?_
    refine g_iconst (pc := 55) X 1 dX3_readClock_55 rfl ?_
    refine g_iadd (pc := 56) X dX3_readClock_56 ?_
    refine mg_ald (pc := 57) X (j := 8) dX3_readClock_57 (by decide) rfl (fun v11 => ?_)
    refine g_if_ge (pc := 58) X 63 dX3_readClock_58 (by decide) ?_ ?_
    · refine g_aload_n (pc := 63) X 0 dX3_readClock_63 rfl rfl ?_
      refine g_bipush (pc := 64) X 43 dX3_readClock_64 rfl ?_
      refine g_mV_i (pc := 66) X (C := RX3) (y := yX3_takes) (As := [.int 43]) (rest := []) (fr' := 1) (lo' := 20) (fun _ => cwV 1 X.2.2.2.2.1 (lw_V q1882 q1884 qs43 q76 q1885) rfl rfl rfl dmV_X3_takes ⟨Nat.le_of_ble_eq_true rfl, Nat.le_of_ble_eq_true rfl⟩) dX3_readClock_66 MC_o ⟨_, _, rfl⟩ rfl rfl (Nat.le_of_ble_eq_true rfl) (fun _ => rfl) (fun r u h => kX3_takes h) (fun r12 t13 => ?_)
      refine g_if_eq (pc := 69) X 76 dX3_readClock_69 (by decide) ?_ ?_
      · refine g_aload_n (pc := 76) X 0 dX3_readClock_76 rfl rfl ?_
        refine g_bipush (pc := 77) X 45 dX3_readClock_77 rfl ?_
        refine g_mV_i (pc := 79) X (C := RX3) (y := yX3_takes) (As := [.int 45]) (rest := []) (fr' := 1) (lo' := 20) (fun _ => cwV 1 X.2.2.2.2.1 (lw_V q1882 q1884 qs43 q76 q1885) rfl rfl rfl dmV_X3_takes ⟨Nat.le_of_ble_eq_true rfl, Nat.le_of_ble_eq_true rfl⟩) dX3_readClock_79 MC_o ⟨_, _, rfl⟩ rfl rfl (Nat.le_of_ble_eq_true rfl) (fun _ => rfl) (fun r u h => kX3_takes h) (fun r14 t15 => ?_)
        refine g_if_eq (pc := 82) X 89 dX3_readClock_82 (by decide) ?_ ?_
        · refine g_iconst (pc := 89) X 0 dX3_readClock_89 rfl ?_
          exact g_lv (pc := 90) (lv' := [(0, .ref mo), (1, .int x1)]) [0, 1] rfl (wX3_readClock_90 X hr x1 0 t15)
        · refine g_iconst (pc := 85) X (-1) dX3_readClock_85 rfl ?_
          refine g_goto (pc := 86) X 90 dX3_readClock_86 (by decide) ?_
          exact g_lv (pc := 90) (lv' := [(0, .ref mo), (1, .int x1)]) [0, 1] rfl (wX3_readClock_90 X hr x1 (-1) t15)
      · refine g_iconst (pc := 72) X 1 dX3_readClock_72 rfl ?_
        refine g_goto (pc := 73) X 90 dX3_readClock_73 (by decide) ?_
        exact g_lv (pc := 90) (lv' := [(0, .ref mo), (1, .int x1)]) [0, 1] rfl (wX3_readClock_90 X hr x1 1 t13)
    · refine g_iconst (pc := 61) X 0 dX3_readClock_61 rfl ?_
      exact g_zret (pc := 62) X hr rfl dX3_readClock_62
  · refine g_iconst (pc := 22) X 0 dX3_readClock_22 rfl ?_
    exact g_zret (pc := 23) X hr rfl dX3_readClock_23
theorem kX3_readClock {mo : Nat} {ρ : Sg} {sz : Nat} {x1 : Int32} {t : MS} {r : Int32} {u : MS} (h : fX3_readClock x1 t = some (r, u)) : g_C Γ l yX3_readClock cX3_readClock 4 (Option.some Jvm.ClassFile.FieldType.boolean) 2 49 [.ref mo, .int x1] (MC mo t ρ) sz v_i r (m_ι mo ρ sz u) :=
  g_met [.ref mo, .int x1] (by decide) (Nat.le_of_ble_eq_true rfl) h rfl (fun p e s m args below meth c X hr hn => wX3_readClock X hr x1 t)
def fX3_readStreet_7 : Nat → Int32 → MS → Option (Int32 × MS)
  | 0, _, _ => none
  | n + 1, x1, t => if 9 ≤ x1 then some (0, t) else gm (fX3_readClock (4 * x1) t) fun r1 t2 => if r1 = 0 then some (0, t2) else lt (setI t2 17 (x1 + 1)) fun t3 => gm (fX3_nextLetter t3) fun r4 t5 => if 0 ≤ r4 then if r4 = 44 then if x1 = 8 then some (0, t5) else lt (setI t5 16 ((t5.1 16) + 1)) fun t6 => fX3_readStreet_7 n (x1 + 1) t6 else some (0, t5) else some (1, t5)
set_option maxHeartbeats 4000000 in
theorem wX3_readStreet_7 {rF : Int32} (X : g_X Γ p s m args meth c cX3_readStreet 3 RX3) (hr : meth.sig.returnType = (Option.some Jvm.ClassFile.FieldType.boolean)) (n : Nat) : ∀ (x1 : Int32) (t : MS), Wf Γ p l e 3 72 s m args below meth c 3 (m_ι mo ρ sz) v_i rF tF 7 [(0, .ref mo), (1, .int x1)] [] t (fX3_readStreet_7 n x1 t) := by
  induction n with
  | zero => intro x1 t; exact g_none
  | succ n ih =>
    intro x1 t
    rw [fX3_readStreet_7]
    refine g_iload_n (pc := 7) X 1 dX3_readStreet_7 rfl rfl ?_
    refine g_bipush (pc := 8) X 9 dX3_readStreet_8 rfl ?_
    refine g_icmp_ge (pc := 10) X 73 dX3_readStreet_10 (by decide) ?_ ?_
    · refine g_iconst (pc := 73) X 0 dX3_readStreet_73 rfl ?_
      exact g_zret (pc := 74) X hr rfl dX3_readStreet_74
    · refine g_aload_n (pc := 13) X 0 dX3_readStreet_13 rfl rfl ?_
      refine g_iconst (pc := 14) X 4 dX3_readStreet_14 rfl ?_
      refine g_iload_n (pc := 15) X 1 dX3_readStreet_15 rfl rfl ?_
      refine g_imul (pc := 16) X dX3_readStreet_16 ?_
      refine g_mV_i (pc := 17) X (C := RX3) (y := yX3_readClock) (As := [.int (4 * x1)]) (rest := []) (fr' := 2) (lo' := 49) (fun _ => cwV 1 X.2.2.2.2.1 (lw_V q1870 q1872 qs41 q76 q1873) rfl rfl rfl dmV_X3_readClock ⟨Nat.le_of_ble_eq_true rfl, Nat.le_of_ble_eq_true rfl⟩) dX3_readStreet_17 MC_o ⟨_, _, rfl⟩ rfl rfl (Nat.le_of_ble_eq_true rfl) (fun _ => rfl) (fun r u h => kX3_readClock h) (fun r1 t2 => ?_)
      refine g_if_ne (pc := 20) X 25 dX3_readStreet_20 (by decide) ?_ ?_
      · refine g_aload_n (pc := 25) X 0 dX3_readStreet_25 rfl rfl ?_
        refine g_iload_n (pc := 26) X 1 dX3_readStreet_26 rfl rfl ?_
        refine g_iconst (pc := 27) X 1 dX3_readStreet_27 rfl ?_
        refine g_iadd (pc := 28) X dX3_readStreet_28 ?_
        refine mg_put (pc := 29) X fp_X3_139 dX3_readStreet_29 rfl rfl (by decide) rfl (fun t3 => ?_)
        refine g_aload_n (pc := 32) X 0 dX3_readStreet_32 rfl rfl ?_
        refine g_mV_i (pc := 33) X (C := RX3) (y := yX3_nextLetter) (As := []) (rest := []) (fr' := 0) (lo' := 0) (fun _ => cwV 0 X.2.2.2.2.1 (lw_V q1838 q1840 qs37 q76 q1841) rfl rfl rfl dmV_X3_nextLetter ⟨Nat.le_of_ble_eq_true rfl, Nat.le_of_ble_eq_true rfl⟩) dX3_readStreet_33 MC_o ⟨_, _, rfl⟩ rfl rfl (Nat.le_of_ble_eq_true rfl) (fun _ => rfl) (fun r u h => kX3_nextLetter h) (fun r4 t5 => ?_)
        refine g_istore_n (pc := 36) X (lv' := [(2, .int r4), (0, .ref mo), (1, .int x1)]) dX3_readStreet_36 rfl (by decide) rfl ?_
        refine g_iload_n (pc := 37) X 0 dX3_readStreet_37 rfl rfl ?_
        refine g_if_ge (pc := 38) X 43 dX3_readStreet_38 (by decide) ?_ ?_
        · refine g_iload_n (pc := 43) X 0 dX3_readStreet_43 rfl rfl ?_
          refine g_bipush (pc := 44) X 44 dX3_readStreet_44 rfl ?_
          refine g_icmp_ne (pc := 46) X 55 dX3_readStreet_46 (by decide) ?_ ?_
          · refine g_iconst (pc := 55) X 0 dX3_readStreet_55 rfl ?_
            exact g_zret (pc := 56) X hr rfl dX3_readStreet_56
          · refine g_iload_n (pc := 49) X 2 dX3_readStreet_49 rfl rfl ?_
            refine g_bipush (pc := 50) X 8 dX3_readStreet_50 rfl ?_
            refine g_icmp_ne (pc := 52) X 57 dX3_readStreet_52 (by decide) ?_ ?_
            · refine g_aload_n (pc := 57) X 1 dX3_readStreet_57 rfl rfl ?_
              refine g_dup (pc := 58) X dX3_readStreet_58 rfl ?_
              refine mg_get (pc := 59) X fo_X3_128 dX3_readStreet_59 rfl ?_
              refine g_iconst (pc := 62) X 1 dX3_readStreet_62 rfl ?_
              refine g_iadd (pc := 63) X dX3_readStreet_63 ?_
              refine mg_put (pc := 64) X fp_X3_128 dX3_readStreet_64 rfl rfl (by decide) rfl (fun t6 => ?_)
              refine g_iinc (pc := 67) X 1 2 (lv' := [(1, .int (x1 + 1)), (2, .int r4), (0, .ref mo)]) dX3_readStreet_67 rfl rfl (by decide) rfl ?_
              refine g_goto (pc := 70) X 7 dX3_readStreet_70 (by decide) ?_
              exact g_lv (pc := 7) (lv' := [(0, .ref mo), (1, .int (x1 + 1))]) [2, 0] rfl (ih (x1 + 1) t6)
            · refine g_iconst (pc := 55) X 0 dX3_readStreet_55 rfl ?_
              exact g_zret (pc := 56) X hr rfl dX3_readStreet_56
        · refine g_iconst (pc := 41) X 1 dX3_readStreet_41 rfl ?_
          exact g_zret (pc := 42) X hr rfl dX3_readStreet_42
      · refine g_iconst (pc := 23) X 0 dX3_readStreet_23 rfl ?_
        exact g_zret (pc := 24) X hr rfl dX3_readStreet_24
def fX3_readStreet (t : MS) : Option (Int32 × MS) := lt (setI t 16 0) fun t1 => fX3_readStreet_7 1000 0 t1
set_option maxHeartbeats 4000000 in
theorem wX3_readStreet {rF : Int32} (X : g_X Γ p s m args meth c cX3_readStreet 3 RX3) (hr : meth.sig.returnType = (Option.some Jvm.ClassFile.FieldType.boolean)) (t : MS) : Wf Γ p l e 3 72 s m args below meth c 3 (m_ι mo ρ sz) v_i rF tF 0 [(0, .ref mo)] [] t (fX3_readStreet  t) := by
  unfold fX3_readStreet
  refine g_aload_n (pc := 0) X 0 dX3_readStreet_0 rfl rfl ?_
  refine g_iconst (pc := 1) X 0 dX3_readStreet_1 rfl ?_
  refine mg_put (pc := 2) X fp_X3_128 dX3_readStreet_2 rfl rfl (by decide) rfl (fun t1 => ?_)
  refine g_iconst (pc := 5) X 0 dX3_readStreet_5 rfl ?_
  refine g_istore_n (pc := 6) X (lv' := [(1, .int 0), (0, .ref mo)]) dX3_readStreet_6 rfl (by decide) rfl ?_
  exact g_lv (pc := 7) (lv' := [(0, .ref mo), (1, .int 0)]) [1, 0] rfl (wX3_readStreet_7 X hr 1000 0 t1)
theorem kX3_readStreet {mo : Nat} {ρ : Sg} {sz : Nat} {t : MS} {r : Int32} {u : MS} (h : fX3_readStreet  t = some (r, u)) : g_C Γ l yX3_readStreet cX3_readStreet 3 (Option.some Jvm.ClassFile.FieldType.boolean) 3 72 [.ref mo] (MC mo t ρ) sz v_i r (m_ι mo ρ sz u) :=
  g_met [.ref mo] (by decide) (Nat.le_of_ble_eq_true rfl) h rfl (fun p e s m args below meth c X hr hn => wX3_readStreet X hr  t)
def fX3_street_48 : Nat → Int32 → MS → Option (Int32 × MS)
  | 0, _, _ => none
  | n + 1, x2, t => if t.1 17 ≤ x2 then some (t.1 3, t) else mald t 8 480 (4 * x2) fun v1 => mald t 8 480 ((4 * x2) + 1) fun v2 => mald t 8 480 ((4 * x2) + 2) fun v3 => mald t 8 480 ((4 * x2) + 3) fun v4 => gm (fX3_add v1 v2 v3 v4 t) fun _ t6 => fX3_street_48 n (x2 + 1) t6
set_option maxHeartbeats 4000000 in
theorem wX3_street_48 {rF : Int32} (X : g_X Γ p s m args meth c cX3_street 3 RX3) (hr : meth.sig.returnType = (Option.some Jvm.ClassFile.FieldType.int)) (n : Nat) : ∀ (x2 : Int32) (t : MS), Wf Γ p l e 4 94 s m args below meth c 3 (m_ι mo ρ sz) v_i rF tF 48 [(0, .ref mo), (2, .int x2)] [] t (fX3_street_48 n x2 t) := by
  induction n with
  | zero => intro x2 t; exact g_none
  | succ n ih =>
    intro x2 t
    rw [fX3_street_48]
    refine g_iload_n (pc := 48) X 1 dX3_street_48 rfl rfl ?_
    refine g_aload_n (pc := 49) X 0 dX3_street_49 rfl rfl ?_
    refine mg_get (pc := 50) X fo_X3_139 dX3_street_50 rfl ?_
    refine g_icmp_ge (pc := 53) X 104 dX3_street_53 (by decide) ?_ ?_
    · refine g_aload_n (pc := 104) X 0 dX3_street_104 rfl rfl ?_
      refine mg_get (pc := 105) X fo_X3_72 dX3_street_105 rfl ?_
      exact g_iret (pc := 108) X hr dX3_street_108
    · refine g_aload_n (pc := 56) X 0 dX3_street_56 rfl rfl ?_
      refine g_aload_n (pc := 57) X 0 dX3_street_57 rfl rfl ?_
      refine mg_get (pc := 58) X fo_X3_47 dX3_street_58 rfl ?_
      refine g_iconst (pc := 61) X 4 dX3_street_61 rfl ?_
      refine g_iload_n (pc := 62) X 1 dX3_street_62 rfl rfl ?_
      refine g_imul (pc := 63) X dX3_street_63 ?_
      refine mg_ald (pc := 64) X (j := 8) dX3_street_64 (by decide) rfl (fun v1 => ?_)
      refine g_aload_n (pc := 65) X 0 dX3_street_65 rfl rfl ?_
      refine mg_get (pc := 66) X fo_X3_47 dX3_street_66 rfl ?_
      refine g_iconst (pc := 69) X 4 dX3_street_69 rfl ?_
      refine g_iload_n (pc := 70) X 1 dX3_street_70 rfl rfl ?_
      refine g_imul (pc := 71) X dX3_street_71 ?_
      refine g_iconst (pc := 72) X 1 dX3_street_72 rfl ?_
      refine g_iadd (pc := 73) X dX3_street_73 ?_
      refine mg_ald (pc := 74) X (j := 8) dX3_street_74 (by decide) rfl (fun v2 => ?_)
      refine g_aload_n (pc := 75) X 0 dX3_street_75 rfl rfl ?_
      refine mg_get (pc := 76) X fo_X3_47 dX3_street_76 rfl ?_
      refine g_iconst (pc := 79) X 4 dX3_street_79 rfl ?_
      refine g_iload_n (pc := 80) X 1 dX3_street_80 rfl rfl ?_
      refine g_imul (pc := 81) X dX3_street_81 ?_
      refine g_iconst (pc := 82) X 2 dX3_street_82 rfl ?_
      refine g_iadd (pc := 83) X dX3_street_83 ?_
      refine mg_ald (pc := 84) X (j := 8) dX3_street_84 (by decide) rfl (fun v3 => ?_)
      refine g_aload_n (pc := 85) X 0 dX3_street_85 rfl rfl ?_
      refine mg_get (pc := 86) X fo_X3_47 dX3_street_86 rfl ?_
      refine g_iconst (pc := 89) X 4 dX3_street_89 rfl ?_
      refine g_iload_n (pc := 90) X 1 dX3_street_90 rfl rfl ?_
      refine g_imul (pc := 91) X dX3_street_91 ?_
      refine g_iconst (pc := 92) X 3 dX3_street_92 rfl ?_
      refine g_iadd (pc := 93) X dX3_street_93 ?_
      refine mg_ald (pc := 94) X (j := 8) dX3_street_94 (by decide) rfl (fun v4 => ?_)
      refine g_mV_v (pc := 95) X (C := RX3) (y := yX3_add) (As := [.int v1, .int v2, .int v3, .int v4]) (rest := []) (fr' := 0) (lo' := 0) (fun _ => cwV 4 X.2.2.2.2.1 (lw_V q1774 q1776 qs30 q76 q1777) rfl rfl rfl dmV_X3_add ⟨Nat.le_of_ble_eq_true rfl, Nat.le_of_ble_eq_true rfl⟩) dX3_street_95 MC_o ⟨_, _, rfl⟩ rfl rfl (Nat.le_of_ble_eq_true rfl) (fun _ => rfl) (fun r u h => kX3_add h) (fun r5 t6 => ?_)
      refine g_iinc (pc := 98) X 1 1 (lv' := [(2, .int (x2 + 1)), (0, .ref mo)]) dX3_street_98 rfl rfl (by decide) rfl ?_
      refine g_goto (pc := 101) X 48 dX3_street_101 (by decide) ?_
      exact g_lv (pc := 48) (lv' := [(0, .ref mo), (2, .int (x2 + 1))]) [1, 0] rfl (ih (x2 + 1) t6)
def fX3_street (t : MS) : Option (Int32 × MS) := gm (fX3_readStreet t) fun r1 t2 => gm (fX3_end r1 t2) fun r3 t4 => if 0 ≤ r3 then lt (setI t4 3 0) fun t5 => lt (setI t5 10 0) fun t6 => lt (setI t6 12 0) fun t7 => mast t7 0 63 61 0 fun t8 => mast t8 0 63 62 0 fun t9 => fX3_street_48 1000 0 t9 else some (r3, t4)
set_option maxHeartbeats 4000000 in
theorem wX3_street {rF : Int32} (X : g_X Γ p s m args meth c cX3_street 3 RX3) (hr : meth.sig.returnType = (Option.some Jvm.ClassFile.FieldType.int)) (t : MS) : Wf Γ p l e 4 94 s m args below meth c 3 (m_ι mo ρ sz) v_i rF tF 0 [(0, .ref mo)] [] t (fX3_street  t) := by
  unfold fX3_street
  refine g_aload_n (pc := 0) X 0 dX3_street_0 rfl rfl ?_
  refine g_aload_n (pc := 1) X 0 dX3_street_1 rfl rfl ?_
  refine g_mV_i (pc := 2) X (C := RX3) (y := yX3_readStreet) (As := []) (rest := [.ref mo]) (fr' := 3) (lo' := 72) (fun _ => cwV 0 X.2.2.2.2.1 (lw_V q1866 q1868 qs40 q76 q1869) rfl rfl rfl dmV_X3_readStreet ⟨Nat.le_of_ble_eq_true rfl, Nat.le_of_ble_eq_true rfl⟩) dX3_street_2 MC_o ⟨_, _, rfl⟩ rfl rfl (Nat.le_of_ble_eq_true rfl) (fun _ => rfl) (fun r u h => kX3_readStreet h) (fun r1 t2 => ?_)
  refine g_mV_i (pc := 5) X (C := RX3) (y := yX3_end) (As := [.int r1]) (rest := []) (fr' := 1) (lo' := 20) (fun _ => cwV 1 X.2.2.2.2.1 (lw_V q1850 q1852 qs38 q76 q1853) rfl rfl rfl dmV_X3_end ⟨Nat.le_of_ble_eq_true rfl, Nat.le_of_ble_eq_true rfl⟩) dX3_street_5 MC_o ⟨_, _, rfl⟩ rfl rfl (Nat.le_of_ble_eq_true rfl) (fun _ => rfl) (fun r u h => kX3_end h) (fun r3 t4 => ?_)
  refine g_istore_n (pc := 8) X (lv' := [(1, .int r3), (0, .ref mo)]) dX3_street_8 rfl (by decide) rfl ?_
  refine g_iload_n (pc := 9) X 0 dX3_street_9 rfl rfl ?_
  refine g_if_ge (pc := 10) X 15 dX3_street_10 (by decide) ?_ ?_
  · refine g_aload_n (pc := 15) X 1 dX3_street_15 rfl rfl ?_
    refine g_iconst (pc := 16) X 0 dX3_street_16 rfl ?_
    refine mg_put (pc := 17) X fp_X3_72 dX3_street_17 rfl rfl (by decide) rfl (fun t5 => ?_)
    refine g_aload_n (pc := 20) X 1 dX3_street_20 rfl rfl ?_
    refine g_iconst (pc := 21) X 0 dX3_street_21 rfl ?_
    refine mg_put (pc := 22) X fp_X3_93 dX3_street_22 rfl rfl (by decide) rfl (fun t6 => ?_)
    refine g_aload_n (pc := 25) X 1 dX3_street_25 rfl rfl ?_
    refine g_iconst (pc := 26) X 0 dX3_street_26 rfl ?_
    refine mg_put (pc := 27) X fp_X3_96 dX3_street_27 rfl rfl (by decide) rfl (fun t7 => ?_)
    refine g_aload_n (pc := 30) X 1 dX3_street_30 rfl rfl ?_
    refine mg_get (pc := 31) X fo_X3_7 dX3_street_31 rfl ?_
    refine g_bipush (pc := 34) X 61 dX3_street_34 rfl ?_
    refine g_iconst (pc := 36) X 0 dX3_street_36 rfl ?_
    refine mg_ast (pc := 37) X (j := 0) dX3_street_37 (by decide) rfl (fun t8 => ?_)
    refine g_aload_n (pc := 38) X 1 dX3_street_38 rfl rfl ?_
    refine mg_get (pc := 39) X fo_X3_7 dX3_street_39 rfl ?_
    refine g_bipush (pc := 42) X 62 dX3_street_42 rfl ?_
    refine g_iconst (pc := 44) X 0 dX3_street_44 rfl ?_
    refine mg_ast (pc := 45) X (j := 0) dX3_street_45 (by decide) rfl (fun t9 => ?_)
    refine g_iconst (pc := 46) X 0 dX3_street_46 rfl ?_
    refine g_istore_n (pc := 47) X (lv' := [(2, .int 0), (1, .int r3), (0, .ref mo)]) dX3_street_47 rfl (by decide) rfl ?_
    exact g_lv (pc := 48) (lv' := [(0, .ref mo), (2, .int 0)]) [2, 0] rfl (wX3_street_48 X hr 1000 0 t9)
  · refine g_iload_n (pc := 13) X 0 dX3_street_13 rfl rfl ?_
    exact g_iret (pc := 14) X hr dX3_street_14
theorem kX3_street {mo : Nat} {ρ : Sg} {sz : Nat} {t : MS} {r : Int32} {u : MS} (h : fX3_street  t = some (r, u)) : g_C Γ l yX3_street cX3_street 3 (Option.some Jvm.ClassFile.FieldType.int) 4 94 [.ref mo] (MC mo t ρ) sz v_i r (m_ι mo ρ sz u) :=
  g_met [.ref mo] (by decide) (Nat.le_of_ble_eq_true rfl) h rfl (fun p e s m args below meth c X hr hn => wX3_street X hr  t)
def fX3_note_51 (x1 : Int32) (x2 : Int32) (x3 : Int32) (t : MS) : Option (Unit × MS) := mast t 6 30 (3 * (t.1 12)) x1 fun t1 => mast t1 6 30 ((3 * (t1.1 12)) + 1) x2 fun t2 => mast t2 6 30 ((3 * (t2.1 12)) + 2) x3 fun t3 => lt (setI t3 12 ((t3.1 12) + 1)) fun t4 => some ((), t4)
set_option maxHeartbeats 4000000 in
theorem wX3_note_51 {rF : Unit} (X : g_X Γ p s m args meth c cX3_note 5 RX3) (hr : meth.sig.returnType = (Option.none : Option Jvm.ClassFile.FieldType)) (x1 : Int32) (x2 : Int32) (x3 : Int32) (t : MS) : Wf Γ p l e 0 0 s m args below meth c 5 (m_ι mo ρ sz) v_v rF tF 51 [(0, .ref mo), (1, .int x1), (2, .int x2), (3, .int x3)] [] t (fX3_note_51 x1 x2 x3 t) := by
  unfold fX3_note_51
  refine g_aload_n (pc := 51) X 0 dX3_note_51 rfl rfl ?_
  refine mg_get (pc := 52) X fo_X3_38 dX3_note_52 rfl ?_
  refine g_iconst (pc := 55) X 3 dX3_note_55 rfl ?_
  refine g_aload_n (pc := 56) X 0 dX3_note_56 rfl rfl ?_
  refine mg_get (pc := 57) X fo_X3_96 dX3_note_57 rfl ?_
  refine g_imul (pc := 60) X dX3_note_60 ?_
  refine g_iload_n (pc := 61) X 1 dX3_note_61 rfl rfl ?_
  refine mg_ast (pc := 62) X (j := 6) dX3_note_62 (by decide) rfl (fun t1 => ?_)
  refine g_aload_n (pc := 63) X 0 dX3_note_63 rfl rfl ?_
  refine mg_get (pc := 64) X fo_X3_38 dX3_note_64 rfl ?_
  refine g_iconst (pc := 67) X 3 dX3_note_67 rfl ?_
  refine g_aload_n (pc := 68) X 0 dX3_note_68 rfl rfl ?_
  refine mg_get (pc := 69) X fo_X3_96 dX3_note_69 rfl ?_
  refine g_imul (pc := 72) X dX3_note_72 ?_
  refine g_iconst (pc := 73) X 1 dX3_note_73 rfl ?_
  refine g_iadd (pc := 74) X dX3_note_74 ?_
  refine g_iload_n (pc := 75) X 2 dX3_note_75 rfl rfl ?_
  refine mg_ast (pc := 76) X (j := 6) dX3_note_76 (by decide) rfl (fun t2 => ?_)
  refine g_aload_n (pc := 77) X 0 dX3_note_77 rfl rfl ?_
  refine mg_get (pc := 78) X fo_X3_38 dX3_note_78 rfl ?_
  refine g_iconst (pc := 81) X 3 dX3_note_81 rfl ?_
  refine g_aload_n (pc := 82) X 0 dX3_note_82 rfl rfl ?_
  refine mg_get (pc := 83) X fo_X3_96 dX3_note_83 rfl ?_
  refine g_imul (pc := 86) X dX3_note_86 ?_
  refine g_iconst (pc := 87) X 2 dX3_note_87 rfl ?_
  refine g_iadd (pc := 88) X dX3_note_88 ?_
  refine g_iload_n (pc := 89) X 3 dX3_note_89 rfl rfl ?_
  refine mg_ast (pc := 90) X (j := 6) dX3_note_90 (by decide) rfl (fun t3 => ?_)
  refine g_aload_n (pc := 91) X 0 dX3_note_91 rfl rfl ?_
  refine g_dup (pc := 92) X dX3_note_92 rfl ?_
  refine mg_get (pc := 93) X fo_X3_96 dX3_note_93 rfl ?_
  refine g_iconst (pc := 96) X 1 dX3_note_96 rfl ?_
  refine g_iadd (pc := 97) X dX3_note_97 ?_
  refine mg_put (pc := 98) X fp_X3_96 dX3_note_98 rfl rfl (by decide) rfl (fun t4 => ?_)
  exact g_vret (pc := 101) X hr dX3_note_101
def fX3_note_12 : Nat → Int32 → Int32 → Int32 → Int32 → MS → Option (Unit × MS)
  | 0, _, _, _, _, _ => none
  | n + 1, x1, x2, x3, x4, t => if 27 ≤ x4 then lt (setI t 12 ((t.1 12) - 1)) fun t1 => fX3_note_51 x1 x2 x3 t1 else mald t 6 30 (x4 + 3) fun v2 => mast t 6 30 x4 v2 fun t3 => fX3_note_12 n x1 x2 x3 (x4 + 1) t3
set_option maxHeartbeats 4000000 in
theorem wX3_note_12 {rF : Unit} (X : g_X Γ p s m args meth c cX3_note 5 RX3) (hr : meth.sig.returnType = (Option.none : Option Jvm.ClassFile.FieldType)) (n : Nat) : ∀ (x1 : Int32) (x2 : Int32) (x3 : Int32) (x4 : Int32) (t : MS), Wf Γ p l e 0 0 s m args below meth c 5 (m_ι mo ρ sz) v_v rF tF 12 [(0, .ref mo), (1, .int x1), (2, .int x2), (3, .int x3), (4, .int x4)] [] t (fX3_note_12 n x1 x2 x3 x4 t) := by
  induction n with
  | zero => intro x1 x2 x3 x4 t; exact g_none
  | succ n ih =>
    intro x1 x2 x3 x4 t
    rw [fX3_note_12]
    refine g_iload (pc := 12) X 4 dX3_note_12 rfl ?_
    refine g_bipush (pc := 14) X 27 dX3_note_14 rfl ?_
    refine g_icmp_ge (pc := 16) X 41 dX3_note_16 (by decide) ?_ ?_
    · refine g_aload_n (pc := 41) X 0 dX3_note_41 rfl rfl ?_
      refine g_dup (pc := 42) X dX3_note_42 rfl ?_
      refine mg_get (pc := 43) X fo_X3_96 dX3_note_43 rfl ?_
      refine g_iconst (pc := 46) X 1 dX3_note_46 rfl ?_
      refine g_isub (pc := 47) X dX3_note_47 ?_
      refine mg_put (pc := 48) X fp_X3_96 dX3_note_48 rfl rfl (by decide) rfl (fun t1 => ?_)
      exact g_lv (pc := 51) (lv' := [(0, .ref mo), (1, .int x1), (2, .int x2), (3, .int x3)]) [0, 1, 2, 3] rfl (wX3_note_51 X hr x1 x2 x3 t1)
    · refine g_aload_n (pc := 19) X 0 dX3_note_19 rfl rfl ?_
      refine mg_get (pc := 20) X fo_X3_38 dX3_note_20 rfl ?_
      refine g_iload (pc := 23) X 4 dX3_note_23 rfl ?_
      refine g_aload_n (pc := 25) X 0 dX3_note_25 rfl rfl ?_
      refine mg_get (pc := 26) X fo_X3_38 dX3_note_26 rfl ?_
      refine g_iload (pc := 29) X 4 dX3_note_29 rfl ?_
      refine g_iconst (pc := 31) X 3 dX3_note_31 rfl ?_
      refine g_iadd (pc := 32) X dX3_note_32 ?_
      refine mg_ald (pc := 33) X (j := 6) dX3_note_33 (by decide) rfl (fun v2 => ?_)
      refine mg_ast (pc := 34) X (j := 6) dX3_note_34 (by decide) rfl (fun t3 => ?_)
      refine g_iinc (pc := 35) X 1 4 (lv' := [(4, .int (x4 + 1)), (0, .ref mo), (1, .int x1), (2, .int x2), (3, .int x3)]) dX3_note_35 rfl rfl (by decide) rfl ?_
      refine g_goto (pc := 38) X 12 dX3_note_38 (by decide) ?_
      exact g_lv (pc := 12) (lv' := [(0, .ref mo), (1, .int x1), (2, .int x2), (3, .int x3), (4, .int (x4 + 1))]) [1, 2, 3, 4, 0] rfl (ih x1 x2 x3 (x4 + 1) t3)
def fX3_note (x1 : Int32) (x2 : Int32) (x3 : Int32) (t : MS) : Option (Unit × MS) := if t.1 12 = 10 then fX3_note_12 1000 x1 x2 x3 0 t else fX3_note_51 x1 x2 x3 t
set_option maxHeartbeats 4000000 in
theorem wX3_note {rF : Unit} (X : g_X Γ p s m args meth c cX3_note 5 RX3) (hr : meth.sig.returnType = (Option.none : Option Jvm.ClassFile.FieldType)) (x1 : Int32) (x2 : Int32) (x3 : Int32) (t : MS) : Wf Γ p l e 0 0 s m args below meth c 5 (m_ι mo ρ sz) v_v rF tF 0 [(0, .ref mo), (1, .int x1), (2, .int x2), (3, .int x3)] [] t (fX3_note x1 x2 x3 t) := by
  unfold fX3_note
  refine g_aload_n (pc := 0) X 0 dX3_note_0 rfl rfl ?_
  refine mg_get (pc := 1) X fo_X3_96 dX3_note_1 rfl ?_
  refine g_bipush (pc := 4) X 10 dX3_note_4 rfl ?_
  refine g_icmp_ne (pc := 6) X 51 dX3_note_6 (by decide) ?_ ?_
  · exact g_lv (pc := 51) (lv' := [(0, .ref mo), (1, .int x1), (2, .int x2), (3, .int x3)]) [0, 1, 2, 3] rfl (wX3_note_51 X hr x1 x2 x3 t)
  · refine g_iconst (pc := 9) X 0 dX3_note_9 rfl ?_
    refine g_istore (pc := 10) X (lv' := [(4, .int 0), (0, .ref mo), (1, .int x1), (2, .int x2), (3, .int x3)]) dX3_note_10 (by decide) rfl ?_
    exact g_lv (pc := 12) (lv' := [(0, .ref mo), (1, .int x1), (2, .int x2), (3, .int x3), (4, .int 0)]) [1, 2, 3, 4, 0] rfl (wX3_note_12 X hr 1000 x1 x2 x3 0 t)
theorem kX3_note {mo : Nat} {ρ : Sg} {sz : Nat} {x1 : Int32} {x2 : Int32} {x3 : Int32} {t : MS} {r : Unit} {u : MS} (h : fX3_note x1 x2 x3 t = some (r, u)) : g_C Γ l yX3_note cX3_note 5 (Option.none : Option Jvm.ClassFile.FieldType) 0 0 [.ref mo, .int x1, .int x2, .int x3] (MC mo t ρ) sz v_v r (m_ι mo ρ sz u) :=
  g_met [.ref mo, .int x1, .int x2, .int x3] (by decide) (Nat.le_of_ble_eq_true rfl) h rfl (fun p e s m args below meth c X hr hn => wX3_note X hr x1 x2 x3 t)
def fX3_breathe (x1 : Int32) (t : MS) : Option (Int32 × MS) := gm (fX3_isWindow x1 t) fun r1 t2 => if r1 = 0 then some ((-1), t2) else mald t2 0 63 x1 fun v3 => if v3 = 12 then some ((-2), t2) else gm (fX3_note 3 x1 v3 t2) fun _ t5 => mast t5 0 63 x1 12 fun t6 => some (v3, t6)
set_option maxHeartbeats 4000000 in
theorem wX3_breathe {rF : Int32} (X : g_X Γ p s m args meth c cX3_breathe 3 RX3) (hr : meth.sig.returnType = (Option.some Jvm.ClassFile.FieldType.int)) (x1 : Int32) (t : MS) : Wf Γ p l e 2 46 s m args below meth c 3 (m_ι mo ρ sz) v_i rF tF 0 [(0, .ref mo), (1, .int x1)] [] t (fX3_breathe x1 t) := by
  unfold fX3_breathe
  refine g_aload_n (pc := 0) X 0 dX3_breathe_0 rfl rfl ?_
  refine g_iload_n (pc := 1) X 1 dX3_breathe_1 rfl rfl ?_
  refine g_mV_i (pc := 2) X (C := RX3) (y := yX3_isWindow) (As := [.int x1]) (rest := []) (fr' := 1) (lo' := 25) (fun _ => cwV 1 X.2.2.2.2.1 (lw_V q1810 q1812 qs35 q76 q1813) rfl rfl rfl dmV_X3_isWindow ⟨Nat.le_of_ble_eq_true rfl, Nat.le_of_ble_eq_true rfl⟩) dX3_breathe_2 MC_o ⟨_, _, rfl⟩ rfl rfl (Nat.le_of_ble_eq_true rfl) (fun _ => rfl) (fun r u h => kX3_isWindow h) (fun r1 t2 => ?_)
  refine g_if_ne (pc := 5) X 10 dX3_breathe_5 (by decide) ?_ ?_
  · refine g_aload_n (pc := 10) X 0 dX3_breathe_10 rfl rfl ?_
    refine mg_get (pc := 11) X fo_X3_7 dX3_breathe_11 rfl ?_
    refine g_iload_n (pc := 14) X 1 dX3_breathe_14 rfl rfl ?_
    refine mg_ald (pc := 15) X (j := 0) dX3_breathe_15 (by decide) rfl (fun v3 => ?_)
    refine g_istore_n (pc := 16) X (lv' := [(2, .int v3), (0, .ref mo), (1, .int x1)]) dX3_breathe_16 rfl (by decide) rfl ?_
    refine g_iload_n (pc := 17) X 0 dX3_breathe_17 rfl rfl ?_
    refine g_bipush (pc := 18) X 12 dX3_breathe_18 rfl ?_
    refine g_icmp_ne (pc := 20) X 26 dX3_breathe_20 (by decide) ?_ ?_
    · refine g_aload_n (pc := 26) X 1 dX3_breathe_26 rfl rfl ?_
      refine g_iconst (pc := 27) X 3 dX3_breathe_27 rfl ?_
      refine g_iload_n (pc := 28) X 2 dX3_breathe_28 rfl rfl ?_
      refine g_iload_n (pc := 29) X 0 dX3_breathe_29 rfl rfl ?_
      refine g_mV_v (pc := 30) X (C := RX3) (y := yX3_note) (As := [.int 3, .int x1, .int v3]) (rest := []) (fr' := 0) (lo' := 0) (fun _ => cwV 3 X.2.2.2.2.1 (lw_V q1906 q1908 qs47 q76 q1909) rfl rfl rfl dmV_X3_note ⟨Nat.le_of_ble_eq_true rfl, Nat.le_of_ble_eq_true rfl⟩) dX3_breathe_30 MC_o ⟨_, _, rfl⟩ rfl rfl (Nat.le_of_ble_eq_true rfl) (fun _ => rfl) (fun r u h => kX3_note h) (fun r4 t5 => ?_)
      refine g_aload_n (pc := 33) X 1 dX3_breathe_33 rfl rfl ?_
      refine mg_get (pc := 34) X fo_X3_7 dX3_breathe_34 rfl ?_
      refine g_iload_n (pc := 37) X 2 dX3_breathe_37 rfl rfl ?_
      refine g_bipush (pc := 38) X 12 dX3_breathe_38 rfl ?_
      refine mg_ast (pc := 40) X (j := 0) dX3_breathe_40 (by decide) rfl (fun t6 => ?_)
      refine g_iload_n (pc := 41) X 0 dX3_breathe_41 rfl rfl ?_
      exact g_iret (pc := 42) X hr dX3_breathe_42
    · refine g_bipush (pc := 23) X (-2) dX3_breathe_23 rfl ?_
      exact g_iret (pc := 25) X hr dX3_breathe_25
  · refine g_iconst (pc := 8) X (-1) dX3_breathe_8 rfl ?_
    exact g_iret (pc := 9) X hr dX3_breathe_9
theorem kX3_breathe {mo : Nat} {ρ : Sg} {sz : Nat} {x1 : Int32} {t : MS} {r : Int32} {u : MS} (h : fX3_breathe x1 t = some (r, u)) : g_C Γ l yX3_breathe cX3_breathe 3 (Option.some Jvm.ClassFile.FieldType.int) 2 46 [.ref mo, .int x1] (MC mo t ρ) sz v_i r (m_ι mo ρ sz u) :=
  g_met [.ref mo, .int x1] (by decide) (Nat.le_of_ble_eq_true rfl) h rfl (fun p e s m args below meth c X hr hn => wX3_breathe X hr x1 t)
def fX3_goes_16 (x1 : Int32) (t : MS) : Option (Int32 × MS) := mald t 0 63 (42 + x1) fun v1 => mald t 0 63 (v1 + 1) fun v2 => if v2 = 12 then some (1, t) else gm (fX3_strikes x1 t) fun r3 t4 => if v2 = r3 then some (1, t4) else mald t4 1 9 x1 fun v5 => if v5 = 5 then mald t4 0 63 60 fun v6 => if v6 - v6 / 6 * 6 = 0 then some (1, t4) else some (0, t4) else some (0, t4)
set_option maxHeartbeats 4000000 in
theorem wX3_goes_16 {rF : Int32} (X : g_X Γ p s m args meth c cX3_goes 4 RX3) (hr : meth.sig.returnType = (Option.some Jvm.ClassFile.FieldType.boolean)) (x1 : Int32) (t : MS) : Wf Γ p l e 3 63 s m args below meth c 4 (m_ι mo ρ sz) v_i rF tF 16 [(0, .ref mo), (1, .int x1)] [] t (fX3_goes_16 x1 t) := by
  unfold fX3_goes_16
  refine g_aload_n (pc := 16) X 0 dX3_goes_16 rfl rfl ?_
  refine mg_get (pc := 17) X fo_X3_7 dX3_goes_17 rfl ?_
  refine g_aload_n (pc := 20) X 0 dX3_goes_20 rfl rfl ?_
  refine mg_get (pc := 21) X fo_X3_7 dX3_goes_21 rfl ?_
  refine g_bipush (pc := 24) X 42 dX3_goes_24 rfl ?_
  refine g_iload_n (pc := 26) X 1 dX3_goes_26 rfl rfl ?_
  refine g_iadd (pc := 27) X dX3_goes_27 ?_
  refine mg_ald (pc := 28) X (j := 0) dX3_goes_28 (by decide) rfl (fun v1 => ?_)
  refine g_iconst (pc := 29) X 1 dX3_goes_29 rfl ?_
  refine g_iadd (pc := 30) X dX3_goes_30 ?_
  refine mg_ald (pc := 31) X (j := 0) dX3_goes_31 (by decide) rfl (fun v2 => ?_)
  refine g_istore_n (pc := 32) X (lv' := [(3, .int v2), (0, .ref mo), (1, .int x1)]) dX3_goes_32 rfl (by decide) rfl ?_
  refine g_iload_n (pc := 33) X 0 dX3_goes_33 rfl rfl ?_
  refine g_bipush (pc := 34) X 12 dX3_goes_34 rfl ?_
  refine g_icmp_eq (pc := 36) X 71 dX3_goes_36 (by decide) ?_ ?_
  · refine g_iconst (pc := 71) X 1 dX3_goes_71 rfl ?_
    refine g_goto (pc := 72) X 76 dX3_goes_72 (by decide) ?_
    exact g_zret (pc := 76) X hr rfl dX3_goes_76
  · refine g_iload_n (pc := 39) X 0 dX3_goes_39 rfl rfl ?_
    refine g_aload_n (pc := 40) X 1 dX3_goes_40 rfl rfl ?_
    refine g_iload_n (pc := 41) X 2 dX3_goes_41 rfl rfl ?_
    refine g_mV_i (pc := 42) X (C := RX3) (y := yX3_strikes) (As := [.int x1]) (rest := [.int v2]) (fr' := 2) (lo' := 42) (fun _ => cwV 1 X.2.2.2.2.1 (lw_V q1798 q1800 qs34 q76 q1801) rfl rfl rfl dmV_X3_strikes ⟨Nat.le_of_ble_eq_true rfl, Nat.le_of_ble_eq_true rfl⟩) dX3_goes_42 MC_o ⟨_, _, rfl⟩ rfl rfl (Nat.le_of_ble_eq_true rfl) (fun _ => rfl) (fun r u h => kX3_strikes h) (fun r3 t4 => ?_)
    refine g_icmp_eq (pc := 45) X 71 dX3_goes_45 (by decide) ?_ ?_
    · refine g_iconst (pc := 71) X 1 dX3_goes_71 rfl ?_
      refine g_goto (pc := 72) X 76 dX3_goes_72 (by decide) ?_
      exact g_zret (pc := 76) X hr rfl dX3_goes_76
    · refine g_aload_n (pc := 48) X 1 dX3_goes_48 rfl rfl ?_
      refine mg_get (pc := 49) X fo_X3_13 dX3_goes_49 rfl ?_
      refine g_iload_n (pc := 52) X 2 dX3_goes_52 rfl rfl ?_
      refine mg_ald (pc := 53) X (j := 1) dX3_goes_53 (by decide) rfl (fun v5 => ?_)
      refine g_iconst (pc := 54) X 5 dX3_goes_54 rfl ?_
      refine g_icmp_ne (pc := 55) X 75 dX3_goes_55 (by decide) ?_ ?_
      · refine g_iconst (pc := 75) X 0 dX3_goes_75 rfl ?_
        exact g_zret (pc := 76) X hr rfl dX3_goes_76
      · refine g_aload_n (pc := 58) X 1 dX3_goes_58 rfl rfl ?_
        refine mg_get (pc := 59) X fo_X3_7 dX3_goes_59 rfl ?_
        refine g_bipush (pc := 62) X 60 dX3_goes_62 rfl ?_
        refine mg_ald (pc := 64) X (j := 0) dX3_goes_64 (by decide) rfl (fun v6 => ?_)
        refine g_bipush (pc := 65) X 6 dX3_goes_65 rfl ?_
        refine g_irem (pc := 67) X dX3_goes_67 (by decide) ?_
        refine g_if_ne (pc := 68) X 75 dX3_goes_68 (by decide) ?_ ?_
        · refine g_iconst (pc := 75) X 0 dX3_goes_75 rfl ?_
          exact g_zret (pc := 76) X hr rfl dX3_goes_76
        · refine g_iconst (pc := 71) X 1 dX3_goes_71 rfl ?_
          refine g_goto (pc := 72) X 76 dX3_goes_72 (by decide) ?_
          exact g_zret (pc := 76) X hr rfl dX3_goes_76
def fX3_goes (x1 : Int32) (x2 : Int32) (t : MS) : Option (Int32 × MS) := mald t 1 9 x1 fun v1 => if v1 = 3 then if x2 = 0 then fX3_goes_16 x1 t else some (0, t) else fX3_goes_16 x1 t
set_option maxHeartbeats 4000000 in
theorem wX3_goes {rF : Int32} (X : g_X Γ p s m args meth c cX3_goes 4 RX3) (hr : meth.sig.returnType = (Option.some Jvm.ClassFile.FieldType.boolean)) (x1 : Int32) (x2 : Int32) (t : MS) : Wf Γ p l e 3 63 s m args below meth c 4 (m_ι mo ρ sz) v_i rF tF 0 [(0, .ref mo), (1, .int x1), (2, .int x2)] [] t (fX3_goes x1 x2 t) := by
  unfold fX3_goes
  refine g_aload_n (pc := 0) X 0 dX3_goes_0 rfl rfl ?_
  refine mg_get (pc := 1) X fo_X3_13 dX3_goes_1 rfl ?_
  refine g_iload_n (pc := 4) X 1 dX3_goes_4 rfl rfl ?_
  refine mg_ald (pc := 5) X (j := 1) dX3_goes_5 (by decide) rfl (fun v1 => ?_)
  refine g_iconst (pc := 6) X 3 dX3_goes_6 rfl ?_
  refine g_icmp_ne (pc := 7) X 16 dX3_goes_7 (by decide) ?_ ?_
  · exact g_lv (pc := 16) (lv' := [(0, .ref mo), (1, .int x1)]) [0, 1] rfl (wX3_goes_16 X hr x1 t)
  · refine g_iload_n (pc := 10) X 2 dX3_goes_10 rfl rfl ?_
    refine g_if_eq (pc := 11) X 16 dX3_goes_11 (by decide) ?_ ?_
    · exact g_lv (pc := 16) (lv' := [(0, .ref mo), (1, .int x1)]) [0, 1] rfl (wX3_goes_16 X hr x1 t)
    · refine g_iconst (pc := 14) X 0 dX3_goes_14 rfl ?_
      exact g_zret (pc := 15) X hr rfl dX3_goes_15
theorem kX3_goes {mo : Nat} {ρ : Sg} {sz : Nat} {x1 : Int32} {x2 : Int32} {t : MS} {r : Int32} {u : MS} (h : fX3_goes x1 x2 t = some (r, u)) : g_C Γ l yX3_goes cX3_goes 4 (Option.some Jvm.ClassFile.FieldType.boolean) 3 63 [.ref mo, .int x1, .int x2] (MC mo t ρ) sz v_i r (m_ι mo ρ sz u) :=
  g_met [.ref mo, .int x1, .int x2] (by decide) (Nat.le_of_ble_eq_true rfl) h rfl (fun p e s m args below meth c X hr hn => wX3_goes X hr x1 x2 t)
def fX3_isHome (x1 : Int32) (t : MS) : Option (Int32 × MS) := mald t 0 63 (42 + x1) fun v1 => if v1 = (t.1 4) - 1 then some (1, t) else some (0, t)
set_option maxHeartbeats 4000000 in
theorem wX3_isHome {rF : Int32} (X : g_X Γ p s m args meth c cX3_isHome 2 RX3) (hr : meth.sig.returnType = (Option.some Jvm.ClassFile.FieldType.boolean)) (x1 : Int32) (t : MS) : Wf Γ p l e 0 0 s m args below meth c 2 (m_ι mo ρ sz) v_i rF tF 0 [(0, .ref mo), (1, .int x1)] [] t (fX3_isHome x1 t) := by
  unfold fX3_isHome
  refine g_aload_n (pc := 0) X 0 dX3_isHome_0 rfl rfl ?_
  refine mg_get (pc := 1) X fo_X3_7 dX3_isHome_1 rfl ?_
  refine g_bipush (pc := 4) X 42 dX3_isHome_4 rfl ?_
  refine g_iload_n (pc := 6) X 1 dX3_isHome_6 rfl rfl ?_
  refine g_iadd (pc := 7) X dX3_isHome_7 ?_
  refine mg_ald (pc := 8) X (j := 0) dX3_isHome_8 (by decide) rfl (fun v1 => ?_)
  refine g_aload_n (pc := 9) X 0 dX3_isHome_9 rfl rfl ?_
  refine mg_get (pc := 10) X fo_X3_19 dX3_isHome_10 rfl ?_
  refine g_iconst (pc := 13) X 1 dX3_isHome_13 rfl ?_
  refine g_isub (pc := 14) X dX3_isHome_14 ?_
  refine g_icmp_ne (pc := 15) X 22 dX3_isHome_15 (by decide) ?_ ?_
  · refine g_iconst (pc := 22) X 0 dX3_isHome_22 rfl ?_
    exact g_zret (pc := 23) X hr rfl dX3_isHome_23
  · refine g_iconst (pc := 18) X 1 dX3_isHome_18 rfl ?_
    refine g_goto (pc := 19) X 23 dX3_isHome_19 (by decide) ?_
    exact g_zret (pc := 23) X hr rfl dX3_isHome_23
theorem kX3_isHome {mo : Nat} {ρ : Sg} {sz : Nat} {x1 : Int32} {t : MS} {r : Int32} {u : MS} (h : fX3_isHome x1 t = some (r, u)) : g_C Γ l yX3_isHome cX3_isHome 2 (Option.some Jvm.ClassFile.FieldType.boolean) 0 0 [.ref mo, .int x1] (MC mo t ρ) sz v_i r (m_ι mo ρ sz u) :=
  g_met [.ref mo, .int x1] (by decide) (Nat.le_of_ble_eq_true rfl) h rfl (fun p e s m args below meth c X hr hn => wX3_isHome X hr x1 t)
def fX3_run (x1 : Int32) (t : MS) : Option (Unit × MS) := mald t 1 9 x1 fun v1 => if v1 = 2 then some ((), t) else mald t 1 9 x1 fun v2 => if v2 = 3 then some ((), t) else mald t 0 63 (33 + x1) fun v3 => if v3 ≤ 0 then some ((), t) else mald t 0 63 (24 + x1) fun v4 => mald t 2 9 x1 fun v5 => mast t 0 63 (24 + x1) ((((v4 + 60) + v5) + 720) - (((v4 + 60) + v5) + 720) / 720 * 720) fun t6 => mald t6 0 63 (33 + x1) fun v7 => mast t6 0 63 (33 + x1) (v7 - 1) fun t8 => some ((), t8)
set_option maxHeartbeats 4000000 in
theorem wX3_run {rF : Unit} (X : g_X Γ p s m args meth c cX3_run 2 RX3) (hr : meth.sig.returnType = (Option.none : Option Jvm.ClassFile.FieldType)) (x1 : Int32) (t : MS) : Wf Γ p l e 0 0 s m args below meth c 2 (m_ι mo ρ sz) v_v rF tF 0 [(0, .ref mo), (1, .int x1)] [] t (fX3_run x1 t) := by
  unfold fX3_run
  refine g_aload_n (pc := 0) X 0 dX3_run_0 rfl rfl ?_
  refine mg_get (pc := 1) X fo_X3_13 dX3_run_1 rfl ?_
  refine g_iload_n (pc := 4) X 1 dX3_run_4 rfl rfl ?_
  refine mg_ald (pc := 5) X (j := 1) dX3_run_5 (by decide) rfl (fun v1 => ?_)
  refine g_iconst (pc := 6) X 2 dX3_run_6 rfl ?_
  refine g_icmp_eq (pc := 7) X 81 dX3_run_7 (by decide) ?_ ?_
  · exact g_vret (pc := 81) X hr dX3_run_81
  · refine g_aload_n (pc := 10) X 0 dX3_run_10 rfl rfl ?_
    refine mg_get (pc := 11) X fo_X3_13 dX3_run_11 rfl ?_
    refine g_iload_n (pc := 14) X 1 dX3_run_14 rfl rfl ?_
    refine mg_ald (pc := 15) X (j := 1) dX3_run_15 (by decide) rfl (fun v2 => ?_)
    refine g_iconst (pc := 16) X 3 dX3_run_16 rfl ?_
    refine g_icmp_eq (pc := 17) X 81 dX3_run_17 (by decide) ?_ ?_
    · exact g_vret (pc := 81) X hr dX3_run_81
    · refine g_aload_n (pc := 20) X 0 dX3_run_20 rfl rfl ?_
      refine mg_get (pc := 21) X fo_X3_7 dX3_run_21 rfl ?_
      refine g_bipush (pc := 24) X 33 dX3_run_24 rfl ?_
      refine g_iload_n (pc := 26) X 1 dX3_run_26 rfl rfl ?_
      refine g_iadd (pc := 27) X dX3_run_27 ?_
      refine mg_ald (pc := 28) X (j := 0) dX3_run_28 (by decide) rfl (fun v3 => ?_)
      refine g_if_le (pc := 29) X 81 dX3_run_29 (by decide) ?_ ?_
      · exact g_vret (pc := 81) X hr dX3_run_81
      · refine g_aload_n (pc := 32) X 0 dX3_run_32 rfl rfl ?_
        refine mg_get (pc := 33) X fo_X3_7 dX3_run_33 rfl ?_
        refine g_bipush (pc := 36) X 24 dX3_run_36 rfl ?_
        refine g_iload_n (pc := 38) X 1 dX3_run_38 rfl rfl ?_
        refine g_iadd (pc := 39) X dX3_run_39 ?_
        refine g_aload_n (pc := 40) X 0 dX3_run_40 rfl rfl ?_
        refine mg_get (pc := 41) X fo_X3_7 dX3_run_41 rfl ?_
        refine g_bipush (pc := 44) X 24 dX3_run_44 rfl ?_
        refine g_iload_n (pc := 46) X 1 dX3_run_46 rfl rfl ?_
        refine g_iadd (pc := 47) X dX3_run_47 ?_
        refine mg_ald (pc := 48) X (j := 0) dX3_run_48 (by decide) rfl (fun v4 => ?_)
        refine g_bipush (pc := 49) X 60 dX3_run_49 rfl ?_
        refine g_iadd (pc := 51) X dX3_run_51 ?_
        refine g_aload_n (pc := 52) X 0 dX3_run_52 rfl rfl ?_
        refine mg_get (pc := 53) X fo_X3_16 dX3_run_53 rfl ?_
        refine g_iload_n (pc := 56) X 1 dX3_run_56 rfl rfl ?_
        refine mg_ald (pc := 57) X (j := 2) dX3_run_57 (by decide) rfl (fun v5 => ?_)
        refine g_iadd (pc := 58) X dX3_run_58 ?_
        refine g_sipush (pc := 59) X 720 dX3_run_59 rfl ?_
        refine g_iadd (pc := 62) X dX3_run_62 ?_
        refine g_sipush (pc := 63) X 720 dX3_run_63 rfl ?_
        refine g_irem (pc := 66) X dX3_run_66 (by decide) ?_
        refine mg_ast (pc := 67) X (j := 0) dX3_run_67 (by decide) rfl (fun t6 => ?_)
        refine g_aload_n (pc := 68) X 0 dX3_run_68 rfl rfl ?_
        refine mg_get (pc := 69) X fo_X3_7 dX3_run_69 rfl ?_
        refine g_bipush (pc := 72) X 33 dX3_run_72 rfl ?_
        refine g_iload_n (pc := 74) X 1 dX3_run_74 rfl rfl ?_
        refine g_iadd (pc := 75) X dX3_run_75 ?_
        refine g_dup2 (pc := 76) X dX3_run_76 rfl rfl ?_
        refine mg_ald (pc := 77) X (j := 0) dX3_run_77 (by decide) rfl (fun v7 => ?_)
        refine g_iconst (pc := 78) X 1 dX3_run_78 rfl ?_
        refine g_isub (pc := 79) X dX3_run_79 ?_
        refine mg_ast (pc := 80) X (j := 0) dX3_run_80 (by decide) rfl (fun t8 => ?_)
        exact g_vret (pc := 81) X hr dX3_run_81
theorem kX3_run {mo : Nat} {ρ : Sg} {sz : Nat} {x1 : Int32} {t : MS} {r : Unit} {u : MS} (h : fX3_run x1 t = some (r, u)) : g_C Γ l yX3_run cX3_run 2 (Option.none : Option Jvm.ClassFile.FieldType) 0 0 [.ref mo, .int x1] (MC mo t ρ) sz v_v r (m_ι mo ρ sz u) :=
  g_met [.ref mo, .int x1] (by decide) (Nat.le_of_ble_eq_true rfl) h rfl (fun p e s m args below meth c X hr hn => wX3_run X hr x1 t)
def fX3_strokesOf (x0 : Int32) (t : MS) : Option (Int32 × MS) := if x0 = 0 then some (12, t) else some (x0, t)
set_option maxHeartbeats 4000000 in
theorem wX3_strokesOf {rF : Int32} (X : g_X Γ p s m args meth c cX3_strokesOf 1 RX3) (hr : meth.sig.returnType = (Option.some Jvm.ClassFile.FieldType.int)) (x0 : Int32) (t : MS) : Wf Γ p l e 0 0 s m args below meth c 1 (m_ι mo ρ sz) v_i rF tF 0 [(0, .int x0)] [] t (fX3_strokesOf x0 t) := by
  unfold fX3_strokesOf
  refine g_iload_n (pc := 0) X 0 dX3_strokesOf_0 rfl rfl ?_
  refine g_if_ne (pc := 1) X 9 dX3_strokesOf_1 (by decide) ?_ ?_
  · refine g_iload_n (pc := 9) X 0 dX3_strokesOf_9 rfl rfl ?_
    exact g_iret (pc := 10) X hr dX3_strokesOf_10
  · refine g_bipush (pc := 4) X 12 dX3_strokesOf_4 rfl ?_
    refine g_goto (pc := 6) X 10 dX3_strokesOf_6 (by decide) ?_
    exact g_iret (pc := 10) X hr dX3_strokesOf_10
theorem kX3_strokesOf {mo : Nat} {ρ : Sg} {sz : Nat} {x0 : Int32} {t : MS} {r : Int32} {u : MS} (h : fX3_strokesOf x0 t = some (r, u)) : g_C Γ l yX3_strokesOf cX3_strokesOf 1 (Option.some Jvm.ClassFile.FieldType.int) 0 0 [.int x0] (MC mo t ρ) sz v_i r (m_ι mo ρ sz u) :=
  g_met [.int x0] (by decide) (Nat.le_of_ble_eq_true rfl) h rfl (fun p e s m args below meth c X hr hn => wX3_strokesOf X hr x0 t)
end MP
