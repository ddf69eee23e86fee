/-! the reference, its methods: goOn, skyNow, hour, addHands, turn, addSpring, wind, does, readAct, readDay, day, isAhead, placeOf, place (printed by gen/model.py) -/
set_option maxRecDepth 100000
abbrev cX3_goOn : ByteArray := prog_24_method_47_code
def yX3_goOn : MethodName := ⟨RX3, "goOn", "(I)I"⟩
def dkwX3_goOn_12 : List UInt8 := [167, 255, 195, 28, 172]
abbrev dktX3_goOn_12 : List UInt8 := dkwX3_goOn_12 ++ []
def dkwX3_goOn_11 : List UInt8 := [180, 0, 7, 16, 60, 46, 167, 0, 12, 42, 180, 0, 7, 16, 51, 29, 96, 46, 79, 132, 3, 1]
abbrev dktX3_goOn_11 : List UInt8 := dkwX3_goOn_11 ++ dktX3_goOn_12
def dkwX3_goOn_10 : List UInt8 := [96, 42, 29, 182, 0, 197, 153, 0, 27, 42, 180, 0, 7, 16, 51, 29, 96, 46, 16, 252, 160, 0, 13, 42]
abbrev dktX3_goOn_10 : List UInt8 := dkwX3_goOn_10 ++ dktX3_goOn_11
def dkwX3_goOn_9 : List UInt8 := [16, 60, 92, 46, 4, 96, 79, 3, 62, 29, 42, 180, 0, 72, 162, 0, 59, 42, 180, 0, 7, 16, 51, 29]
abbrev dktX3_goOn_9 : List UInt8 := dkwX3_goOn_9 ++ dktX3_goOn_10
def dkwX3_goOn_8 : List UInt8 := [62, 29, 42, 180, 0, 72, 162, 0, 14, 42, 29, 182, 0, 219, 132, 3, 1, 167, 255, 240, 42, 180, 0, 7]
abbrev dktX3_goOn_8 : List UInt8 := dkwX3_goOn_8 ++ dktX3_goOn_9
def dkwX3_goOn_7 : List UInt8 := [160, 0, 7, 3, 167, 0, 8, 21, 5, 184, 0, 216, 96, 79, 132, 2, 1, 132, 3, 1, 167, 255, 93, 3]
abbrev dktX3_goOn_7 : List UInt8 := dkwX3_goOn_7 ++ dktX3_goOn_8
def dkwX3_goOn_6 : List UInt8 := [5, 160, 0, 7, 3, 167, 0, 6, 4, 29, 120, 128, 79, 42, 180, 0, 7, 16, 62, 92, 46, 27, 5]
abbrev dktX3_goOn_6 : List UInt8 := dkwX3_goOn_6 ++ dktX3_goOn_7
def dkwX3_goOn_5 : List UInt8 := [164, 0, 12, 42, 180, 0, 19, 4, 100, 167, 0, 5, 21, 6, 79, 42, 180, 0, 7, 16, 61, 92, 46, 27]
abbrev dktX3_goOn_5 : List UInt8 := dkwX3_goOn_5 ++ dktX3_goOn_6
def dkwX3_goOn_4 : List UInt8 := [180, 0, 7, 21, 4, 21, 5, 79, 42, 180, 0, 7, 16, 42, 29, 96, 21, 6, 42, 180, 0, 19, 4, 100]
abbrev dktX3_goOn_4 : List UInt8 := dkwX3_goOn_4 ++ dktX3_goOn_5
def dkwX3_goOn_3 : List UInt8 := [160, 0, 15, 27, 4, 160, 0, 10, 21, 4, 5, 96, 167, 0, 7, 21, 4, 4, 96, 54, 6, 42]
abbrev dktX3_goOn_3 : List UInt8 := dkwX3_goOn_3 ++ dktX3_goOn_4
def dkwX3_goOn_2 : List UInt8 := [180, 0, 7, 16, 42, 29, 96, 46, 54, 4, 42, 29, 182, 0, 111, 54, 5, 42, 180, 0, 13, 29, 46, 4]
abbrev dktX3_goOn_2 : List UInt8 := dkwX3_goOn_2 ++ dktX3_goOn_3
def dkwX3_goOn_1 : List UInt8 := [180, 0, 72, 162, 0, 161, 42, 29, 182, 0, 197, 154, 0, 147, 42, 29, 27, 182, 0, 213, 153, 0, 138, 42]
abbrev dktX3_goOn_1 : List UInt8 := dkwX3_goOn_1 ++ dktX3_goOn_2
def dkwX3_goOn_0 : List UInt8 := [3, 61, 42, 180, 0, 7, 16, 61, 3, 79, 42, 180, 0, 7, 16, 62, 3, 79, 3, 62, 29, 42]
abbrev dktX3_goOn_0 : List UInt8 := dkwX3_goOn_0 ++ dktX3_goOn_1
theorem dksX3_goOn_0 : cX3_goOn.data.toList.drop 0 = dktX3_goOn_0 := by decide +kernel
theorem dksX3_goOn_1 : cX3_goOn.data.toList.drop 22 = dktX3_goOn_1 := dk_seg dksX3_goOn_0 22 rfl rfl
theorem dksX3_goOn_2 : cX3_goOn.data.toList.drop 46 = dktX3_goOn_2 := dk_seg dksX3_goOn_1 24 rfl rfl
theorem dksX3_goOn_3 : cX3_goOn.data.toList.drop 70 = dktX3_goOn_3 := dk_seg dksX3_goOn_2 24 rfl rfl
theorem dksX3_goOn_4 : cX3_goOn.data.toList.drop 92 = dktX3_goOn_4 := dk_seg dksX3_goOn_3 22 rfl rfl
theorem dksX3_goOn_5 : cX3_goOn.data.toList.drop 116 = dktX3_goOn_5 := dk_seg dksX3_goOn_4 24 rfl rfl
theorem dksX3_goOn_6 : cX3_goOn.data.toList.drop 140 = dktX3_goOn_6 := dk_seg dksX3_goOn_5 24 rfl rfl
theorem dksX3_goOn_7 : cX3_goOn.data.toList.drop 163 = dktX3_goOn_7 := dk_seg dksX3_goOn_6 23 rfl rfl
theorem dksX3_goOn_8 : cX3_goOn.data.toList.drop 187 = dktX3_goOn_8 := dk_seg dksX3_goOn_7 24 rfl rfl
theorem dksX3_goOn_9 : cX3_goOn.data.toList.drop 211 = dktX3_goOn_9 := dk_seg dksX3_goOn_8 24 rfl rfl
theorem dksX3_goOn_10 : cX3_goOn.data.toList.drop 235 = dktX3_goOn_10 := dk_seg dksX3_goOn_9 24 rfl rfl
theorem dksX3_goOn_11 : cX3_goOn.data.toList.drop 259 = dktX3_goOn_11 := dk_seg dksX3_goOn_10 24 rfl rfl
theorem dksX3_goOn_12 : cX3_goOn.data.toList.drop 281 = dktX3_goOn_12 := dk_seg dksX3_goOn_11 22 rfl rfl
theorem dX3_goOn_0 : decode cX3_goOn 0 = .ok (.iconst 0, 1) := dk_3 (dk_at dksX3_goOn_0 0 rfl rfl)
theorem dX3_goOn_1 : decode cX3_goOn 1 = .ok (.istore_n 2, 1) := dk_61 (dk_at dksX3_goOn_0 1 rfl rfl)
theorem dX3_goOn_2 : decode cX3_goOn 2 = .ok (.aload_n 0, 1) := dk_42 (dk_at dksX3_goOn_0 2 rfl rfl)
theorem dX3_goOn_3 : decode cX3_goOn 3 = .ok (.getfield 7, 3) := dk_180 0 7 (dk_at dksX3_goOn_0 3 rfl rfl)
theorem dX3_goOn_6 : decode cX3_goOn 6 = .ok (.bipush 61, 2) := dk_16 61 (dk_at dksX3_goOn_0 6 rfl rfl)
theorem dX3_goOn_8 : decode cX3_goOn 8 = .ok (.iconst 0, 1) := dk_3 (dk_at dksX3_goOn_0 8 rfl rfl)
theorem dX3_goOn_9 : decode cX3_goOn 9 = .ok (.iastore, 1) := dk_79 (dk_at dksX3_goOn_0 9 rfl rfl)
theorem dX3_goOn_10 : decode cX3_goOn 10 = .ok (.aload_n 0, 1) := dk_42 (dk_at dksX3_goOn_0 10 rfl rfl)
theorem dX3_goOn_11 : decode cX3_goOn 11 = .ok (.getfield 7, 3) := dk_180 0 7 (dk_at dksX3_goOn_0 11 rfl rfl)
theorem dX3_goOn_14 : decode cX3_goOn 14 = .ok (.bipush 62, 2) := dk_16 62 (dk_at dksX3_goOn_0 14 rfl rfl)
theorem dX3_goOn_16 : decode cX3_goOn 16 = .ok (.iconst 0, 1) := dk_3 (dk_at dksX3_goOn_0 16 rfl rfl)
theorem dX3_goOn_17 : decode cX3_goOn 17 = .ok (.iastore, 1) := dk_79 (dk_at dksX3_goOn_0 17 rfl rfl)
theorem dX3_goOn_18 : decode cX3_goOn 18 = .ok (.iconst 0, 1) := dk_3 (dk_at dksX3_goOn_0 18 rfl rfl)
theorem dX3_goOn_19 : decode cX3_goOn 19 = .ok (.istore_n 3, 1) := dk_62 (dk_at dksX3_goOn_0 19 rfl rfl)
theorem dX3_goOn_20 : decode cX3_goOn 20 = .ok (.iload_n 3, 1) := dk_29 (dk_at dksX3_goOn_0 20 rfl rfl)
theorem dX3_goOn_21 : decode cX3_goOn 21 = .ok (.aload_n 0, 1) := dk_42 (dk_at dksX3_goOn_0 21 rfl rfl)
theorem dX3_goOn_22 : decode cX3_goOn 22 = .ok (.getfield 72, 3) := dk_180 0 72 (dk_at dksX3_goOn_1 0 rfl rfl)
theorem dX3_goOn_25 : decode cX3_goOn 25 = .ok (.if_icmp .ge 161, 3) := dk_162 0 161 (dk_at dksX3_goOn_1 3 rfl rfl)
theorem dX3_goOn_28 : decode cX3_goOn 28 = .ok (.aload_n 0, 1) := dk_42 (dk_at dksX3_goOn_1 6 rfl rfl)
theorem dX3_goOn_29 : decode cX3_goOn 29 = .ok (.iload_n 3, 1) := dk_29 (dk_at dksX3_goOn_1 7 rfl rfl)
theorem dX3_goOn_30 : decode cX3_goOn 30 = .ok (.invokevirtual 197, 3) := dk_182 0 197 (dk_at dksX3_goOn_1 8 rfl rfl)
theorem dX3_goOn_33 : decode cX3_goOn 33 = .ok (.ifCond .ne 147, 3) := dk_154 0 147 (dk_at dksX3_goOn_1 11 rfl rfl)
theorem dX3_goOn_36 : decode cX3_goOn 36 = .ok (.aload_n 0, 1) := dk_42 (dk_at dksX3_goOn_1 14 rfl rfl)
theorem dX3_goOn_37 : decode cX3_goOn 37 = .ok (.iload_n 3, 1) := dk_29 (dk_at dksX3_goOn_1 15 rfl rfl)
theorem dX3_goOn_38 : decode cX3_goOn 38 = .ok (.iload_n 1, 1) := dk_27 (dk_at dksX3_goOn_1 16 rfl rfl)
theorem dX3_goOn_39 : decode cX3_goOn 39 = .ok (.invokevirtual 213, 3) := dk_182 0 213 (dk_at dksX3_goOn_1 17 rfl rfl)
theorem dX3_goOn_42 : decode cX3_goOn 42 = .ok (.ifCond .eq 138, 3) := dk_153 0 138 (dk_at dksX3_goOn_1 20 rfl rfl)
theorem dX3_goOn_45 : decode cX3_goOn 45 = .ok (.aload_n 0, 1) := dk_42 (dk_at dksX3_goOn_1 23 rfl rfl)
theorem dX3_goOn_46 : decode cX3_goOn 46 = .ok (.getfield 7, 3) := dk_180 0 7 (dk_at dksX3_goOn_2 0 rfl rfl)
theorem dX3_goOn_49 : decode cX3_goOn 49 = .ok (.bipush 42, 2) := dk_16 42 (dk_at dksX3_goOn_2 3 rfl rfl)
theorem dX3_goOn_51 : decode cX3_goOn 51 = .ok (.iload_n 3, 1) := dk_29 (dk_at dksX3_goOn_2 5 rfl rfl)
theorem dX3_goOn_52 : decode cX3_goOn 52 = .ok (.iadd, 1) := dk_96 (dk_at dksX3_goOn_2 6 rfl rfl)
theorem dX3_goOn_53 : decode cX3_goOn 53 = .ok (.iaload, 1) := dk_46 (dk_at dksX3_goOn_2 7 rfl rfl)
theorem dX3_goOn_54 : decode cX3_goOn 54 = .ok (.istore 4, 2) := dk_54 4 (dk_at dksX3_goOn_2 8 rfl rfl)
theorem dX3_goOn_56 : decode cX3_goOn 56 = .ok (.aload_n 0, 1) := dk_42 (dk_at dksX3_goOn_2 10 rfl rfl)
theorem dX3_goOn_57 : decode cX3_goOn 57 = .ok (.iload_n 3, 1) := dk_29 (dk_at dksX3_goOn_2 11 rfl rfl)
theorem dX3_goOn_58 : decode cX3_goOn 58 = .ok (.invokevirtual 111, 3) := dk_182 0 111 (dk_at dksX3_goOn_2 12 rfl rfl)
theorem dX3_goOn_61 : decode cX3_goOn 61 = .ok (.istore 5, 2) := dk_54 5 (dk_at dksX3_goOn_2 15 rfl rfl)
theorem dX3_goOn_63 : decode cX3_goOn 63 = .ok (.aload_n 0, 1) := dk_42 (dk_at dksX3_goOn_2 17 rfl rfl)
theorem dX3_goOn_64 : decode cX3_goOn 64 = .ok (.getfield 13, 3) := dk_180 0 13 (dk_at dksX3_goOn_2 18 rfl rfl)
theorem dX3_goOn_67 : decode cX3_goOn 67 = .ok (.iload_n 3, 1) := dk_29 (dk_at dksX3_goOn_2 21 rfl rfl)
theorem dX3_goOn_68 : decode cX3_goOn 68 = .ok (.iaload, 1) := dk_46 (dk_at dksX3_goOn_2 22 rfl rfl)
theorem dX3_goOn_69 : decode cX3_goOn 69 = .ok (.iconst 1, 1) := dk_4 (dk_at dksX3_goOn_2 23 rfl rfl)
theorem dX3_goOn_70 : decode cX3_goOn 70 = .ok (.if_icmp .ne 15, 3) := dk_160 0 15 (dk_at dksX3_goOn_3 0 rfl rfl)
theorem dX3_goOn_73 : decode cX3_goOn 73 = .ok (.iload_n 1, 1) := dk_27 (dk_at dksX3_goOn_3 3 rfl rfl)
theorem dX3_goOn_74 : decode cX3_goOn 74 = .ok (.iconst 1, 1) := dk_4 (dk_at dksX3_goOn_3 4 rfl rfl)
theorem dX3_goOn_75 : decode cX3_goOn 75 = .ok (.if_icmp .ne 10, 3) := dk_160 0 10 (dk_at dksX3_goOn_3 5 rfl rfl)
theorem dX3_goOn_78 : decode cX3_goOn 78 = .ok (.iload 4, 2) := dk_21 4 (dk_at dksX3_goOn_3 8 rfl rfl)
theorem dX3_goOn_80 : decode cX3_goOn 80 = .ok (.iconst 2, 1) := dk_5 (dk_at dksX3_goOn_3 10 rfl rfl)
theorem dX3_goOn_81 : decode cX3_goOn 81 = .ok (.iadd, 1) := dk_96 (dk_at dksX3_goOn_3 11 rfl rfl)
theorem dX3_goOn_82 : decode cX3_goOn 82 = .ok (.goto 7, 3) := dk_167 0 7 (dk_at dksX3_goOn_3 12 rfl rfl)
theorem dX3_goOn_85 : decode cX3_goOn 85 = .ok (.iload 4, 2) := dk_21 4 (dk_at dksX3_goOn_3 15 rfl rfl)
theorem dX3_goOn_87 : decode cX3_goOn 87 = .ok (.iconst 1, 1) := dk_4 (dk_at dksX3_goOn_3 17 rfl rfl)
theorem dX3_goOn_88 : decode cX3_goOn 88 = .ok (.iadd, 1) := dk_96 (dk_at dksX3_goOn_3 18 rfl rfl)
theorem dX3_goOn_89 : decode cX3_goOn 89 = .ok (.istore 6, 2) := dk_54 6 (dk_at dksX3_goOn_3 19 rfl rfl)
theorem dX3_goOn_91 : decode cX3_goOn 91 = .ok (.aload_n 0, 1) := dk_42 (dk_at dksX3_goOn_3 21 rfl rfl)
theorem dX3_goOn_92 : decode cX3_goOn 92 = .ok (.getfield 7, 3) := dk_180 0 7 (dk_at dksX3_goOn_4 0 rfl rfl)
theorem dX3_goOn_95 : decode cX3_goOn 95 = .ok (.iload 4, 2) := dk_21 4 (dk_at dksX3_goOn_4 3 rfl rfl)
theorem dX3_goOn_97 : decode cX3_goOn 97 = .ok (.iload 5, 2) := dk_21 5 (dk_at dksX3_goOn_4 5 rfl rfl)
theorem dX3_goOn_99 : decode cX3_goOn 99 = .ok (.iastore, 1) := dk_79 (dk_at dksX3_goOn_4 7 rfl rfl)
theorem dX3_goOn_100 : decode cX3_goOn 100 = .ok (.aload_n 0, 1) := dk_42 (dk_at dksX3_goOn_4 8 rfl rfl)
theorem dX3_goOn_101 : decode cX3_goOn 101 = .ok (.getfield 7, 3) := dk_180 0 7 (dk_at dksX3_goOn_4 9 rfl rfl)
theorem dX3_goOn_104 : decode cX3_goOn 104 = .ok (.bipush 42, 2) := dk_16 42 (dk_at dksX3_goOn_4 12 rfl rfl)
theorem dX3_goOn_106 : decode cX3_goOn 106 = .ok (.iload_n 3, 1) := dk_29 (dk_at dksX3_goOn_4 14 rfl rfl)
theorem dX3_goOn_107 : decode cX3_goOn 107 = .ok (.iadd, 1) := dk_96 (dk_at dksX3_goOn_4 15 rfl rfl)
theorem dX3_goOn_108 : decode cX3_goOn 108 = .ok (.iload 6, 2) := dk_21 6 (dk_at dksX3_goOn_4 16 rfl rfl)
theorem dX3_goOn_110 : decode cX3_goOn 110 = .ok (.aload_n 0, 1) := dk_42 (dk_at dksX3_goOn_4 18 rfl rfl)
theorem dX3_goOn_111 : decode cX3_goOn 111 = .ok (.getfield 19, 3) := dk_180 0 19 (dk_at dksX3_goOn_4 19 rfl rfl)
theorem dX3_goOn_114 : decode cX3_goOn 114 = .ok (.iconst 1, 1) := dk_4 (dk_at dksX3_goOn_4 22 rfl rfl)
theorem dX3_goOn_115 : decode cX3_goOn 115 = .ok (.isub, 1) := dk_100 (dk_at dksX3_goOn_4 23 rfl rfl)
theorem dX3_goOn_116 : decode cX3_goOn 116 = .ok (.if_icmp .le 12, 3) := dk_164 0 12 (dk_at dksX3_goOn_5 0 rfl rfl)
theorem dX3_goOn_119 : decode cX3_goOn 119 = .ok (.aload_n 0, 1) := dk_42 (dk_at dksX3_goOn_5 3 rfl rfl)
theorem dX3_goOn_120 : decode cX3_goOn 120 = .ok (.getfield 19, 3) := dk_180 0 19 (dk_at dksX3_goOn_5 4 rfl rfl)
theorem dX3_goOn_123 : decode cX3_goOn 123 = .ok (.iconst 1, 1) := dk_4 (dk_at dksX3_goOn_5 7 rfl rfl)
theorem dX3_goOn_124 : decode cX3_goOn 124 = .ok (.isub, 1) := dk_100 (dk_at dksX3_goOn_5 8 rfl rfl)
theorem dX3_goOn_125 : decode cX3_goOn 125 = .ok (.goto 5, 3) := dk_167 0 5 (dk_at dksX3_goOn_5 9 rfl rfl)
theorem dX3_goOn_128 : decode cX3_goOn 128 = .ok (.iload 6, 2) := dk_21 6 (dk_at dksX3_goOn_5 12 rfl rfl)
theorem dX3_goOn_130 : decode cX3_goOn 130 = .ok (.iastore, 1) := dk_79 (dk_at dksX3_goOn_5 14 rfl rfl)
theorem dX3_goOn_131 : decode cX3_goOn 131 = .ok (.aload_n 0, 1) := dk_42 (dk_at dksX3_goOn_5 15 rfl rfl)
theorem dX3_goOn_132 : decode cX3_goOn 132 = .ok (.getfield 7, 3) := dk_180 0 7 (dk_at dksX3_goOn_5 16 rfl rfl)
theorem dX3_goOn_135 : decode cX3_goOn 135 = .ok (.bipush 61, 2) := dk_16 61 (dk_at dksX3_goOn_5 19 rfl rfl)
theorem dX3_goOn_137 : decode cX3_goOn 137 = .ok (.dup2, 1) := dk_92 (dk_at dksX3_goOn_5 21 rfl rfl)
theorem dX3_goOn_138 : decode cX3_goOn 138 = .ok (.iaload, 1) := dk_46 (dk_at dksX3_goOn_5 22 rfl rfl)
theorem dX3_goOn_139 : decode cX3_goOn 139 = .ok (.iload_n 1, 1) := dk_27 (dk_at dksX3_goOn_5 23 rfl rfl)
theorem dX3_goOn_140 : decode cX3_goOn 140 = .ok (.iconst 2, 1) := dk_5 (dk_at dksX3_goOn_6 0 rfl rfl)
theorem dX3_goOn_141 : decode cX3_goOn 141 = .ok (.if_icmp .ne 7, 3) := dk_160 0 7 (dk_at dksX3_goOn_6 1 rfl rfl)
theorem dX3_goOn_144 : decode cX3_goOn 144 = .ok (.iconst 0, 1) := dk_3 (dk_at dksX3_goOn_6 4 rfl rfl)
theorem dX3_goOn_145 : decode cX3_goOn 145 = .ok (.goto 6, 3) := dk_167 0 6 (dk_at dksX3_goOn_6 5 rfl rfl)
theorem dX3_goOn_148 : decode cX3_goOn 148 = .ok (.iconst 1, 1) := dk_4 (dk_at dksX3_goOn_6 8 rfl rfl)
theorem dX3_goOn_149 : decode cX3_goOn 149 = .ok (.iload_n 3, 1) := dk_29 (dk_at dksX3_goOn_6 9 rfl rfl)
theorem dX3_goOn_150 : decode cX3_goOn 150 = .ok (.ishl, 1) := dk_120 (dk_at dksX3_goOn_6 10 rfl rfl)
theorem dX3_goOn_151 : decode cX3_goOn 151 = .ok (.ior, 1) := dk_128 (dk_at dksX3_goOn_6 11 rfl rfl)
theorem dX3_goOn_152 : decode cX3_goOn 152 = .ok (.iastore, 1) := dk_79 (dk_at dksX3_goOn_6 12 rfl rfl)
theorem dX3_goOn_153 : decode cX3_goOn 153 = .ok (.aload_n 0, 1) := dk_42 (dk_at dksX3_goOn_6 13 rfl rfl)
theorem dX3_goOn_154 : decode cX3_goOn 154 = .ok (.getfield 7, 3) := dk_180 0 7 (dk_at dksX3_goOn_6 14 rfl rfl)
theorem dX3_goOn_157 : decode cX3_goOn 157 = .ok (.bipush 62, 2) := dk_16 62 (dk_at dksX3_goOn_6 17 rfl rfl)
theorem dX3_goOn_159 : decode cX3_goOn 159 = .ok (.dup2, 1) := dk_92 (dk_at dksX3_goOn_6 19 rfl rfl)
theorem dX3_goOn_160 : decode cX3_goOn 160 = .ok (.iaload, 1) := dk_46 (dk_at dksX3_goOn_6 20 rfl rfl)
theorem dX3_goOn_161 : decode cX3_goOn 161 = .ok (.iload_n 1, 1) := dk_27 (dk_at dksX3_goOn_6 21 rfl rfl)
theorem dX3_goOn_162 : decode cX3_goOn 162 = .ok (.iconst 2, 1) := dk_5 (dk_at dksX3_goOn_6 22 rfl rfl)
theorem dX3_goOn_163 : decode cX3_goOn 163 = .ok (.if_icmp .ne 7, 3) := dk_160 0 7 (dk_at dksX3_goOn_7 0 rfl rfl)
theorem dX3_goOn_166 : decode cX3_goOn 166 = .ok (.iconst 0, 1) := dk_3 (dk_at dksX3_goOn_7 3 rfl rfl)
theorem dX3_goOn_167 : decode cX3_goOn 167 = .ok (.goto 8, 3) := dk_167 0 8 (dk_at dksX3_goOn_7 4 rfl rfl)
theorem dX3_goOn_170 : decode cX3_goOn 170 = .ok (.iload 5, 2) := dk_21 5 (dk_at dksX3_goOn_7 7 rfl rfl)
theorem dX3_goOn_172 : decode cX3_goOn 172 = .ok (.invokestatic 216, 3) := dk_184 0 216 (dk_at dksX3_goOn_7 9 rfl rfl)
theorem dX3_goOn_175 : decode cX3_goOn 175 = .ok (.iadd, 1) := dk_96 (dk_at dksX3_goOn_7 12 rfl rfl)
theorem dX3_goOn_176 : decode cX3_goOn 176 = .ok (.iastore, 1) := dk_79 (dk_at dksX3_goOn_7 13 rfl rfl)
theorem dX3_goOn_177 : decode cX3_goOn 177 = .ok (.iinc 2 1, 3) := dk_132 2 1 (dk_at dksX3_goOn_7 14 rfl rfl)
theorem dX3_goOn_180 : decode cX3_goOn 180 = .ok (.iinc 3 1, 3) := dk_132 3 1 (dk_at dksX3_goOn_7 17 rfl rfl)
theorem dX3_goOn_183 : decode cX3_goOn 183 = .ok (.goto (-163), 3) := dk_167 255 93 (dk_at dksX3_goOn_7 20 rfl rfl)
theorem dX3_goOn_186 : decode cX3_goOn 186 = .ok (.iconst 0, 1) := dk_3 (dk_at dksX3_goOn_7 23 rfl rfl)
theorem dX3_goOn_187 : decode cX3_goOn 187 = .ok (.istore_n 3, 1) := dk_62 (dk_at dksX3_goOn_8 0 rfl rfl)
theorem dX3_goOn_188 : decode cX3_goOn 188 = .ok (.iload_n 3, 1) := dk_29 (dk_at dksX3_goOn_8 1 rfl rfl)
theorem dX3_goOn_189 : decode cX3_goOn 189 = .ok (.aload_n 0, 1) := dk_42 (dk_at dksX3_goOn_8 2 rfl rfl)
theorem dX3_goOn_190 : decode cX3_goOn 190 = .ok (.getfield 72, 3) := dk_180 0 72 (dk_at dksX3_goOn_8 3 rfl rfl)
theorem dX3_goOn_193 : decode cX3_goOn 193 = .ok (.if_icmp .ge 14, 3) := dk_162 0 14 (dk_at dksX3_goOn_8 6 rfl rfl)
theorem dX3_goOn_196 : decode cX3_goOn 196 = .ok (.aload_n 0, 1) := dk_42 (dk_at dksX3_goOn_8 9 rfl rfl)
theorem dX3_goOn_197 : decode cX3_goOn 197 = .ok (.iload_n 3, 1) := dk_29 (dk_at dksX3_goOn_8 10 rfl rfl)
theorem dX3_goOn_198 : decode cX3_goOn 198 = .ok (.invokevirtual 219, 3) := dk_182 0 219 (dk_at dksX3_goOn_8 11 rfl rfl)
theorem dX3_goOn_201 : decode cX3_goOn 201 = .ok (.iinc 3 1, 3) := dk_132 3 1 (dk_at dksX3_goOn_8 14 rfl rfl)
theorem dX3_goOn_204 : decode cX3_goOn 204 = .ok (.goto (-16), 3) := dk_167 255 240 (dk_at dksX3_goOn_8 17 rfl rfl)
theorem dX3_goOn_207 : decode cX3_goOn 207 = .ok (.aload_n 0, 1) := dk_42 (dk_at dksX3_goOn_8 20 rfl rfl)
theorem dX3_goOn_208 : decode cX3_goOn 208 = .ok (.getfield 7, 3) := dk_180 0 7 (dk_at dksX3_goOn_8 21 rfl rfl)
theorem dX3_goOn_211 : decode cX3_goOn 211 = .ok (.bipush 60, 2) := dk_16 60 (dk_at dksX3_goOn_9 0 rfl rfl)
theorem dX3_goOn_213 : decode cX3_goOn 213 = .ok (.dup2, 1) := dk_92 (dk_at dksX3_goOn_9 2 rfl rfl)
theorem dX3_goOn_214 : decode cX3_goOn 214 = .ok (.iaload, 1) := dk_46 (dk_at dksX3_goOn_9 3 rfl rfl)
theorem dX3_goOn_215 : decode cX3_goOn 215 = .ok (.iconst 1, 1) := dk_4 (dk_at dksX3_goOn_9 4 rfl rfl)
theorem dX3_goOn_216 : decode cX3_goOn 216 = .ok (.iadd, 1) := dk_96 (dk_at dksX3_goOn_9 5 rfl rfl)
theorem dX3_goOn_217 : decode cX3_goOn 217 = .ok (.iastore, 1) := dk_79 (dk_at dksX3_goOn_9 6 rfl rfl)
theorem dX3_goOn_218 : decode cX3_goOn 218 = .ok (.iconst 0, 1) := dk_3 (dk_at dksX3_goOn_9 7 rfl rfl)
theorem dX3_goOn_219 : decode cX3_goOn 219 = .ok (.istore_n 3, 1) := dk_62 (dk_at dksX3_goOn_9 8 rfl rfl)
theorem dX3_goOn_220 : decode cX3_goOn 220 = .ok (.iload_n 3, 1) := dk_29 (dk_at dksX3_goOn_9 9 rfl rfl)
theorem dX3_goOn_221 : decode cX3_goOn 221 = .ok (.aload_n 0, 1) := dk_42 (dk_at dksX3_goOn_9 10 rfl rfl)
theorem dX3_goOn_222 : decode cX3_goOn 222 = .ok (.getfield 72, 3) := dk_180 0 72 (dk_at dksX3_goOn_9 11 rfl rfl)
theorem dX3_goOn_225 : decode cX3_goOn 225 = .ok (.if_icmp .ge 59, 3) := dk_162 0 59 (dk_at dksX3_goOn_9 14 rfl rfl)
theorem dX3_goOn_228 : decode cX3_goOn 228 = .ok (.aload_n 0, 1) := dk_42 (dk_at dksX3_goOn_9 17 rfl rfl)
theorem dX3_goOn_229 : decode cX3_goOn 229 = .ok (.getfield 7, 3) := dk_180 0 7 (dk_at dksX3_goOn_9 18 rfl rfl)
theorem dX3_goOn_232 : decode cX3_goOn 232 = .ok (.bipush 51, 2) := dk_16 51 (dk_at dksX3_goOn_9 21 rfl rfl)
theorem dX3_goOn_234 : decode cX3_goOn 234 = .ok (.iload_n 3, 1) := dk_29 (dk_at dksX3_goOn_9 23 rfl rfl)
theorem dX3_goOn_235 : decode cX3_goOn 235 = .ok (.iadd, 1) := dk_96 (dk_at dksX3_goOn_10 0 rfl rfl)
theorem dX3_goOn_236 : decode cX3_goOn 236 = .ok (.aload_n 0, 1) := dk_42 (dk_at dksX3_goOn_10 1 rfl rfl)
theorem dX3_goOn_237 : decode cX3_goOn 237 = .ok (.iload_n 3, 1) := dk_29 (dk_at dksX3_goOn_10 2 rfl rfl)
theorem dX3_goOn_238 : decode cX3_goOn 238 = .ok (.invokevirtual 197, 3) := dk_182 0 197 (dk_at dksX3_goOn_10 3 rfl rfl)
theorem dX3_goOn_241 : decode cX3_goOn 241 = .ok (.ifCond .eq 27, 3) := dk_153 0 27 (dk_at dksX3_goOn_10 6 rfl rfl)
theorem dX3_goOn_244 : decode cX3_goOn 244 = .ok (.aload_n 0, 1) := dk_42 (dk_at dksX3_goOn_10 9 rfl rfl)
theorem dX3_goOn_245 : decode cX3_goOn 245 = .ok (.getfield 7, 3) := dk_180 0 7 (dk_at dksX3_goOn_10 10 rfl rfl)
theorem dX3_goOn_248 : decode cX3_goOn 248 = .ok (.bipush 51, 2) := dk_16 51 (dk_at dksX3_goOn_10 13 rfl rfl)
theorem dX3_goOn_250 : decode cX3_goOn 250 = .ok (.iload_n 3, 1) := dk_29 (dk_at dksX3_goOn_10 15 rfl rfl)
theorem dX3_goOn_251 : decode cX3_goOn 251 = .ok (.iadd, 1) := dk_96 (dk_at dksX3_goOn_10 16 rfl rfl)
theorem dX3_goOn_252 : decode cX3_goOn 252 = .ok (.iaload, 1) := dk_46 (dk_at dksX3_goOn_10 17 rfl rfl)
theorem dX3_goOn_253 : decode cX3_goOn 253 = .ok (.bipush (-4), 2) := dk_16 252 (dk_at dksX3_goOn_10 18 rfl rfl)
theorem dX3_goOn_255 : decode cX3_goOn 255 = .ok (.if_icmp .ne 13, 3) := dk_160 0 13 (dk_at dksX3_goOn_10 20 rfl rfl)
theorem dX3_goOn_258 : decode cX3_goOn 258 = .ok (.aload_n 0, 1) := dk_42 (dk_at dksX3_goOn_10 23 rfl rfl)
theorem dX3_goOn_259 : decode cX3_goOn 259 = .ok (.getfield 7, 3) := dk_180 0 7 (dk_at dksX3_goOn_11 0 rfl rfl)
theorem dX3_goOn_262 : decode cX3_goOn 262 = .ok (.bipush 60, 2) := dk_16 60 (dk_at dksX3_goOn_11 3 rfl rfl)
theorem dX3_goOn_264 : decode cX3_goOn 264 = .ok (.iaload, 1) := dk_46 (dk_at dksX3_goOn_11 5 rfl rfl)
theorem dX3_goOn_265 : decode cX3_goOn 265 = .ok (.goto 12, 3) := dk_167 0 12 (dk_at dksX3_goOn_11 6 rfl rfl)
theorem dX3_goOn_268 : decode cX3_goOn 268 = .ok (.aload_n 0, 1) := dk_42 (dk_at dksX3_goOn_11 9 rfl rfl)
theorem dX3_goOn_269 : decode cX3_goOn 269 = .ok (.getfield 7, 3) := dk_180 0 7 (dk_at dksX3_goOn_11 10 rfl rfl)
theorem dX3_goOn_272 : decode cX3_goOn 272 = .ok (.bipush 51, 2) := dk_16 51 (dk_at dksX3_goOn_11 13 rfl rfl)
theorem dX3_goOn_274 : decode cX3_goOn 274 = .ok (.iload_n 3, 1) := dk_29 (dk_at dksX3_goOn_11 15 rfl rfl)
theorem dX3_goOn_275 : decode cX3_goOn 275 = .ok (.iadd, 1) := dk_96 (dk_at dksX3_goOn_11 16 rfl rfl)
theorem dX3_goOn_276 : decode cX3_goOn 276 = .ok (.iaload, 1) := dk_46 (dk_at dksX3_goOn_11 17 rfl rfl)
theorem dX3_goOn_277 : decode cX3_goOn 277 = .ok (.iastore, 1) := dk_79 (dk_at dksX3_goOn_11 18 rfl rfl)
theorem dX3_goOn_278 : decode cX3_goOn 278 = .ok (.iinc 3 1, 3) := dk_132 3 1 (dk_at dksX3_goOn_11 19 rfl rfl)
theorem dX3_goOn_281 : decode cX3_goOn 281 = .ok (.goto (-61), 3) := dk_167 255 195 (dk_at dksX3_goOn_12 0 rfl rfl)
theorem dX3_goOn_284 : decode cX3_goOn 284 = .ok (.iload_n 2, 1) := dk_28 (dk_at dksX3_goOn_12 3 rfl rfl)
theorem dX3_goOn_285 : decode cX3_goOn 285 = .ok (.ireturn, 1) := dk_172 (dk_at dksX3_goOn_12 4 rfl rfl)
abbrev cX3_skyNow : ByteArray := prog_24_method_48_code
def yX3_skyNow : MethodName := ⟨RX3, "skyNow", "()I"⟩
def dkwX3_skyNow_1 : List UInt8 := [46, 42, 180, 0, 26, 112, 46, 172]
abbrev dktX3_skyNow_1 : List UInt8 := dkwX3_skyNow_1 ++ []
def dkwX3_skyNow_0 : List UInt8 := [42, 180, 0, 29, 155, 0, 10, 42, 180, 0, 29, 167, 0, 20, 42, 180, 0, 23, 42, 180, 0, 7, 16, 60]
abbrev dktX3_skyNow_0 : List UInt8 := dkwX3_skyNow_0 ++ dktX3_skyNow_1
theorem dksX3_skyNow_0 : cX3_skyNow.data.toList.drop 0 = dktX3_skyNow_0 := by decide +kernel
theorem dksX3_skyNow_1 : cX3_skyNow.data.toList.drop 24 = dktX3_skyNow_1 := dk_seg dksX3_skyNow_0 24 rfl rfl
theorem dX3_skyNow_0 : decode cX3_skyNow 0 = .ok (.aload_n 0, 1) := dk_42 (dk_at dksX3_skyNow_0 0 rfl rfl)
theorem dX3_skyNow_1 : decode cX3_skyNow 1 = .ok (.getfield 29, 3) := dk_180 0 29 (dk_at dksX3_skyNow_0 1 rfl rfl)
theorem dX3_skyNow_4 : decode cX3_skyNow 4 = .ok (.ifCond .lt 10, 3) := dk_155 0 10 (dk_at dksX3_skyNow_0 4 rfl rfl)
theorem dX3_skyNow_7 : decode cX3_skyNow 7 = .ok (.aload_n 0, 1) := dk_42 (dk_at dksX3_skyNow_0 7 rfl rfl)
theorem dX3_skyNow_8 : decode cX3_skyNow 8 = .ok (.getfield 29, 3) := dk_180 0 29 (dk_at dksX3_skyNow_0 8 rfl rfl)
theorem dX3_skyNow_11 : decode cX3_skyNow 11 = .ok (.goto 20, 3) := dk_167 0 20 (dk_at dksX3_skyNow_0 11 rfl rfl)
theorem dX3_skyNow_14 : decode cX3_skyNow 14 = .ok (.aload_n 0, 1) := dk_42 (dk_at dksX3_skyNow_0 14 rfl rfl)
theorem dX3_skyNow_15 : decode cX3_skyNow 15 = .ok (.getfield 23, 3) := dk_180 0 23 (dk_at dksX3_skyNow_0 15 rfl rfl)
theorem dX3_skyNow_18 : decode cX3_skyNow 18 = .ok (.aload_n 0, 1) := dk_42 (dk_at dksX3_skyNow_0 18 rfl rfl)
theorem dX3_skyNow_19 : decode cX3_skyNow 19 = .ok (.getfield 7, 3) := dk_180 0 7 (dk_at dksX3_skyNow_0 19 rfl rfl)
theorem dX3_skyNow_22 : decode cX3_skyNow 22 = .ok (.bipush 60, 2) := dk_16 60 (dk_at dksX3_skyNow_0 22 rfl rfl)
theorem dX3_skyNow_24 : decode cX3_skyNow 24 = .ok (.iaload, 1) := dk_46 (dk_at dksX3_skyNow_1 0 rfl rfl)
theorem dX3_skyNow_25 : decode cX3_skyNow 25 = .ok (.aload_n 0, 1) := dk_42 (dk_at dksX3_skyNow_1 1 rfl rfl)
theorem dX3_skyNow_26 : decode cX3_skyNow 26 = .ok (.getfield 26, 3) := dk_180 0 26 (dk_at dksX3_skyNow_1 2 rfl rfl)
theorem dX3_skyNow_29 : decode cX3_skyNow 29 = .ok (.irem, 1) := dk_112 (dk_at dksX3_skyNow_1 5 rfl rfl)
theorem dX3_skyNow_30 : decode cX3_skyNow 30 = .ok (.iaload, 1) := dk_46 (dk_at dksX3_skyNow_1 6 rfl rfl)
theorem dX3_skyNow_31 : decode cX3_skyNow 31 = .ok (.ireturn, 1) := dk_172 (dk_at dksX3_skyNow_1 7 rfl rfl)
abbrev cX3_hour : ByteArray := prog_24_method_49_code
def yX3_hour : MethodName := ⟨RX3, "hour", "()I"⟩
def dkwX3_hour_1 : List UInt8 := [182, 0, 226, 172]
abbrev dktX3_hour_1 : List UInt8 := dkwX3_hour_1 ++ []
def dkwX3_hour_0 : List UInt8 := [42, 180, 0, 7, 16, 60, 46, 17, 39, 15, 160, 0, 8, 16, 253, 167, 0, 11, 42, 42, 182, 0, 223]
abbrev dktX3_hour_0 : List UInt8 := dkwX3_hour_0 ++ dktX3_hour_1
theorem dksX3_hour_0 : cX3_hour.data.toList.drop 0 = dktX3_hour_0 := by decide +kernel
theorem dksX3_hour_1 : cX3_hour.data.toList.drop 23 = dktX3_hour_1 := dk_seg dksX3_hour_0 23 rfl rfl
theorem dX3_hour_0 : decode cX3_hour 0 = .ok (.aload_n 0, 1) := dk_42 (dk_at dksX3_hour_0 0 rfl rfl)
theorem dX3_hour_1 : decode cX3_hour 1 = .ok (.getfield 7, 3) := dk_180 0 7 (dk_at dksX3_hour_0 1 rfl rfl)
theorem dX3_hour_4 : decode cX3_hour 4 = .ok (.bipush 60, 2) := dk_16 60 (dk_at dksX3_hour_0 4 rfl rfl)
theorem dX3_hour_6 : decode cX3_hour 6 = .ok (.iaload, 1) := dk_46 (dk_at dksX3_hour_0 6 rfl rfl)
theorem dX3_hour_7 : decode cX3_hour 7 = .ok (.sipush 9999, 3) := dk_17 39 15 (dk_at dksX3_hour_0 7 rfl rfl)
theorem dX3_hour_10 : decode cX3_hour 10 = .ok (.if_icmp .ne 8, 3) := dk_160 0 8 (dk_at dksX3_hour_0 10 rfl rfl)
theorem dX3_hour_13 : decode cX3_hour 13 = .ok (.bipush (-3), 2) := dk_16 253 (dk_at dksX3_hour_0 13 rfl rfl)
theorem dX3_hour_15 : decode cX3_hour 15 = .ok (.goto 11, 3) := dk_167 0 11 (dk_at dksX3_hour_0 15 rfl rfl)
theorem dX3_hour_18 : decode cX3_hour 18 = .ok (.aload_n 0, 1) := dk_42 (dk_at dksX3_hour_0 18 rfl rfl)
theorem dX3_hour_19 : decode cX3_hour 19 = .ok (.aload_n 0, 1) := dk_42 (dk_at dksX3_hour_0 19 rfl rfl)
theorem dX3_hour_20 : decode cX3_hour 20 = .ok (.invokevirtual 223, 3) := dk_182 0 223 (dk_at dksX3_hour_0 20 rfl rfl)
theorem dX3_hour_23 : decode cX3_hour 23 = .ok (.invokevirtual 226, 3) := dk_182 0 226 (dk_at dksX3_hour_1 0 rfl rfl)
theorem dX3_hour_26 : decode cX3_hour 26 = .ok (.ireturn, 1) := dk_172 (dk_at dksX3_hour_1 3 rfl rfl)
abbrev cX3_addHands : ByteArray := prog_24_method_53_code
def yX3_addHands : MethodName := ⟨RX3, "addHands", "(II)V"⟩
def dkwX3_addHands_1 : List UInt8 := [177]
abbrev dktX3_addHands_1 : List UInt8 := dkwX3_addHands_1 ++ []
def dkwX3_addHands_0 : List UInt8 := [42, 180, 0, 7, 16, 24, 27, 96, 42, 180, 0, 7, 16, 24, 27, 96, 46, 28, 96, 17, 2, 208, 112, 79]
abbrev dktX3_addHands_0 : List UInt8 := dkwX3_addHands_0 ++ dktX3_addHands_1
theorem dksX3_addHands_0 : cX3_addHands.data.toList.drop 0 = dktX3_addHands_0 := by decide +kernel
theorem dksX3_addHands_1 : cX3_addHands.data.toList.drop 24 = dktX3_addHands_1 := dk_seg dksX3_addHands_0 24 rfl rfl
theorem dX3_addHands_0 : decode cX3_addHands 0 = .ok (.aload_n 0, 1) := dk_42 (dk_at dksX3_addHands_0 0 rfl rfl)
theorem dX3_addHands_1 : decode cX3_addHands 1 = .ok (.getfield 7, 3) := dk_180 0 7 (dk_at dksX3_addHands_0 1 rfl rfl)
theorem dX3_addHands_4 : decode cX3_addHands 4 = .ok (.bipush 24, 2) := dk_16 24 (dk_at dksX3_addHands_0 4 rfl rfl)
theorem dX3_addHands_6 : decode cX3_addHands 6 = .ok (.iload_n 1, 1) := dk_27 (dk_at dksX3_addHands_0 6 rfl rfl)
theorem dX3_addHands_7 : decode cX3_addHands 7 = .ok (.iadd, 1) := dk_96 (dk_at dksX3_addHands_0 7 rfl rfl)
theorem dX3_addHands_8 : decode cX3_addHands 8 = .ok (.aload_n 0, 1) := dk_42 (dk_at dksX3_addHands_0 8 rfl rfl)
theorem dX3_addHands_9 : decode cX3_addHands 9 = .ok (.getfield 7, 3) := dk_180 0 7 (dk_at dksX3_addHands_0 9 rfl rfl)
theorem dX3_addHands_12 : decode cX3_addHands 12 = .ok (.bipush 24, 2) := dk_16 24 (dk_at dksX3_addHands_0 12 rfl rfl)
theorem dX3_addHands_14 : decode cX3_addHands 14 = .ok (.iload_n 1, 1) := dk_27 (dk_at dksX3_addHands_0 14 rfl rfl)
theorem dX3_addHands_15 : decode cX3_addHands 15 = .ok (.iadd, 1) := dk_96 (dk_at dksX3_addHands_0 15 rfl rfl)
theorem dX3_addHands_16 : decode cX3_addHands 16 = .ok (.iaload, 1) := dk_46 (dk_at dksX3_addHands_0 16 rfl rfl)
theorem dX3_addHands_17 : decode cX3_addHands 17 = .ok (.iload_n 2, 1) := dk_28 (dk_at dksX3_addHands_0 17 rfl rfl)
theorem dX3_addHands_18 : decode cX3_addHands 18 = .ok (.iadd, 1) := dk_96 (dk_at dksX3_addHands_0 18 rfl rfl)
theorem dX3_addHands_19 : decode cX3_addHands 19 = .ok (.sipush 720, 3) := dk_17 2 208 (dk_at dksX3_addHands_0 19 rfl rfl)
theorem dX3_addHands_22 : decode cX3_addHands 22 = .ok (.irem, 1) := dk_112 (dk_at dksX3_addHands_0 22 rfl rfl)
theorem dX3_addHands_23 : decode cX3_addHands 23 = .ok (.iastore, 1) := dk_79 (dk_at dksX3_addHands_0 23 rfl rfl)
theorem dX3_addHands_24 : decode cX3_addHands 24 = .ok (.return_, 1) := dk_177 (dk_at dksX3_addHands_1 0 rfl rfl)
abbrev cX3_turn : ByteArray := prog_24_method_54_code
def yX3_turn : MethodName := ⟨RX3, "turn", "(II)I"⟩
def dkwX3_turn_2 : List UInt8 := [16, 24, 27, 96, 46, 172]
abbrev dktX3_turn_2 : List UInt8 := dkwX3_turn_2 ++ []
def dkwX3_turn_1 : List UInt8 := [27, 42, 180, 0, 7, 16, 24, 27, 96, 46, 182, 0, 229, 42, 27, 28, 182, 0, 237, 42, 180, 0, 7]
abbrev dktX3_turn_1 : List UInt8 := dkwX3_turn_1 ++ dktX3_turn_2
def dkwX3_turn_0 : List UInt8 := [42, 27, 182, 0, 107, 153, 0, 15, 28, 133, 10, 20, 0, 81, 184, 0, 75, 154, 0, 5, 2, 172, 42, 4]
abbrev dktX3_turn_0 : List UInt8 := dkwX3_turn_0 ++ dktX3_turn_1
theorem dksX3_turn_0 : cX3_turn.data.toList.drop 0 = dktX3_turn_0 := by decide +kernel
theorem dksX3_turn_1 : cX3_turn.data.toList.drop 24 = dktX3_turn_1 := dk_seg dksX3_turn_0 24 rfl rfl
theorem dksX3_turn_2 : cX3_turn.data.toList.drop 47 = dktX3_turn_2 := dk_seg dksX3_turn_1 23 rfl rfl
theorem dX3_turn_0 : decode cX3_turn 0 = .ok (.aload_n 0, 1) := dk_42 (dk_at dksX3_turn_0 0 rfl rfl)
theorem dX3_turn_1 : decode cX3_turn 1 = .ok (.iload_n 1, 1) := dk_27 (dk_at dksX3_turn_0 1 rfl rfl)
theorem dX3_turn_2 : decode cX3_turn 2 = .ok (.invokevirtual 107, 3) := dk_182 0 107 (dk_at dksX3_turn_0 2 rfl rfl)
theorem dX3_turn_5 : decode cX3_turn 5 = .ok (.ifCond .eq 15, 3) := dk_153 0 15 (dk_at dksX3_turn_0 5 rfl rfl)
theorem dX3_turn_8 : decode cX3_turn 8 = .ok (.iload_n 2, 1) := dk_28 (dk_at dksX3_turn_0 8 rfl rfl)
theorem dX3_turn_9 : decode cX3_turn 9 = .ok (.i2l, 1) := dk_133 (dk_at dksX3_turn_0 9 rfl rfl)
theorem dX3_turn_10 : decode cX3_turn 10 = .ok (.lconst 1, 1) := dk_10 (dk_at dksX3_turn_0 10 rfl rfl)
theorem dX3_turn_11 : decode cX3_turn 11 = .ok (.ldc2_w 81, 3) := dk_20 0 81 (dk_at dksX3_turn_0 11 rfl rfl)
theorem dX3_turn_14 : decode cX3_turn 14 = .ok (.invokestatic 75, 3) := dk_184 0 75 (dk_at dksX3_turn_0 14 rfl rfl)
theorem dX3_turn_17 : decode cX3_turn 17 = .ok (.ifCond .ne 5, 3) := dk_154 0 5 (dk_at dksX3_turn_0 17 rfl rfl)
theorem dX3_turn_20 : decode cX3_turn 20 = .ok (.iconst (-1), 1) := dk_2 (dk_at dksX3_turn_0 20 rfl rfl)
theorem dX3_turn_21 : decode cX3_turn 21 = .ok (.ireturn, 1) := dk_172 (dk_at dksX3_turn_0 21 rfl rfl)
theorem dX3_turn_22 : decode cX3_turn 22 = .ok (.aload_n 0, 1) := dk_42 (dk_at dksX3_turn_0 22 rfl rfl)
theorem dX3_turn_23 : decode cX3_turn 23 = .ok (.iconst 1, 1) := dk_4 (dk_at dksX3_turn_0 23 rfl rfl)
theorem dX3_turn_24 : decode cX3_turn 24 = .ok (.iload_n 1, 1) := dk_27 (dk_at dksX3_turn_1 0 rfl rfl)
theorem dX3_turn_25 : decode cX3_turn 25 = .ok (.aload_n 0, 1) := dk_42 (dk_at dksX3_turn_1 1 rfl rfl)
theorem dX3_turn_26 : decode cX3_turn 26 = .ok (.getfield 7, 3) := dk_180 0 7 (dk_at dksX3_turn_1 2 rfl rfl)
theorem dX3_turn_29 : decode cX3_turn 29 = .ok (.bipush 24, 2) := dk_16 24 (dk_at dksX3_turn_1 5 rfl rfl)
theorem dX3_turn_31 : decode cX3_turn 31 = .ok (.iload_n 1, 1) := dk_27 (dk_at dksX3_turn_1 7 rfl rfl)
theorem dX3_turn_32 : decode cX3_turn 32 = .ok (.iadd, 1) := dk_96 (dk_at dksX3_turn_1 8 rfl rfl)
theorem dX3_turn_33 : decode cX3_turn 33 = .ok (.iaload, 1) := dk_46 (dk_at dksX3_turn_1 9 rfl rfl)
theorem dX3_turn_34 : decode cX3_turn 34 = .ok (.invokevirtual 229, 3) := dk_182 0 229 (dk_at dksX3_turn_1 10 rfl rfl)
theorem dX3_turn_37 : decode cX3_turn 37 = .ok (.aload_n 0, 1) := dk_42 (dk_at dksX3_turn_1 13 rfl rfl)
theorem dX3_turn_38 : decode cX3_turn 38 = .ok (.iload_n 1, 1) := dk_27 (dk_at dksX3_turn_1 14 rfl rfl)
theorem dX3_turn_39 : decode cX3_turn 39 = .ok (.iload_n 2, 1) := dk_28 (dk_at dksX3_turn_1 15 rfl rfl)
theorem dX3_turn_40 : decode cX3_turn 40 = .ok (.invokevirtual 237, 3) := dk_182 0 237 (dk_at dksX3_turn_1 16 rfl rfl)
theorem dX3_turn_43 : decode cX3_turn 43 = .ok (.aload_n 0, 1) := dk_42 (dk_at dksX3_turn_1 19 rfl rfl)
theorem dX3_turn_44 : decode cX3_turn 44 = .ok (.getfield 7, 3) := dk_180 0 7 (dk_at dksX3_turn_1 20 rfl rfl)
theorem dX3_turn_47 : decode cX3_turn 47 = .ok (.bipush 24, 2) := dk_16 24 (dk_at dksX3_turn_2 0 rfl rfl)
theorem dX3_turn_49 : decode cX3_turn 49 = .ok (.iload_n 1, 1) := dk_27 (dk_at dksX3_turn_2 2 rfl rfl)
theorem dX3_turn_50 : decode cX3_turn 50 = .ok (.iadd, 1) := dk_96 (dk_at dksX3_turn_2 3 rfl rfl)
theorem dX3_turn_51 : decode cX3_turn 51 = .ok (.iaload, 1) := dk_46 (dk_at dksX3_turn_2 4 rfl rfl)
theorem dX3_turn_52 : decode cX3_turn 52 = .ok (.ireturn, 1) := dk_172 (dk_at dksX3_turn_2 5 rfl rfl)
abbrev cX3_addSpring : ByteArray := prog_24_method_52_code
def yX3_addSpring : MethodName := ⟨RX3, "addSpring", "(II)V"⟩
def dkwX3_addSpring_1 : List UInt8 := [16, 99, 167, 0, 14, 42, 180, 0, 7, 16, 33, 27, 96, 46, 28, 96, 79, 177]
abbrev dktX3_addSpring_1 : List UInt8 := dkwX3_addSpring_1 ++ []
def dkwX3_addSpring_0 : List UInt8 := [42, 180, 0, 7, 16, 33, 27, 96, 42, 180, 0, 7, 16, 33, 27, 96, 46, 28, 96, 16, 99, 164, 0, 8]
abbrev dktX3_addSpring_0 : List UInt8 := dkwX3_addSpring_0 ++ dktX3_addSpring_1
theorem dksX3_addSpring_0 : cX3_addSpring.data.toList.drop 0 = dktX3_addSpring_0 := by decide +kernel
theorem dksX3_addSpring_1 : cX3_addSpring.data.toList.drop 24 = dktX3_addSpring_1 := dk_seg dksX3_addSpring_0 24 rfl rfl
theorem dX3_addSpring_0 : decode cX3_addSpring 0 = .ok (.aload_n 0, 1) := dk_42 (dk_at dksX3_addSpring_0 0 rfl rfl)
theorem dX3_addSpring_1 : decode cX3_addSpring 1 = .ok (.getfield 7, 3) := dk_180 0 7 (dk_at dksX3_addSpring_0 1 rfl rfl)
theorem dX3_addSpring_4 : decode cX3_addSpring 4 = .ok (.bipush 33, 2) := dk_16 33 (dk_at dksX3_addSpring_0 4 rfl rfl)
theorem dX3_addSpring_6 : decode cX3_addSpring 6 = .ok (.iload_n 1, 1) := dk_27 (dk_at dksX3_addSpring_0 6 rfl rfl)
theorem dX3_addSpring_7 : decode cX3_addSpring 7 = .ok (.iadd, 1) := dk_96 (dk_at dksX3_addSpring_0 7 rfl rfl)
theorem dX3_addSpring_8 : decode cX3_addSpring 8 = .ok (.aload_n 0, 1) := dk_42 (dk_at dksX3_addSpring_0 8 rfl rfl)
theorem dX3_addSpring_9 : decode cX3_addSpring 9 = .ok (.getfield 7, 3) := dk_180 0 7 (dk_at dksX3_addSpring_0 9 rfl rfl)
theorem dX3_addSpring_12 : decode cX3_addSpring 12 = .ok (.bipush 33, 2) := dk_16 33 (dk_at dksX3_addSpring_0 12 rfl rfl)
theorem dX3_addSpring_14 : decode cX3_addSpring 14 = .ok (.iload_n 1, 1) := dk_27 (dk_at dksX3_addSpring_0 14 rfl rfl)
theorem dX3_addSpring_15 : decode cX3_addSpring 15 = .ok (.iadd, 1) := dk_96 (dk_at dksX3_addSpring_0 15 rfl rfl)
theorem dX3_addSpring_16 : decode cX3_addSpring 16 = .ok (.iaload, 1) := dk_46 (dk_at dksX3_addSpring_0 16 rfl rfl)
theorem dX3_addSpring_17 : decode cX3_addSpring 17 = .ok (.iload_n 2, 1) := dk_28 (dk_at dksX3_addSpring_0 17 rfl rfl)
theorem dX3_addSpring_18 : decode cX3_addSpring 18 = .ok (.iadd, 1) := dk_96 (dk_at dksX3_addSpring_0 18 rfl rfl)
theorem dX3_addSpring_19 : decode cX3_addSpring 19 = .ok (.bipush 99, 2) := dk_16 99 (dk_at dksX3_addSpring_0 19 rfl rfl)
theorem dX3_addSpring_21 : decode cX3_addSpring 21 = .ok (.if_icmp .le 8, 3) := dk_164 0 8 (dk_at dksX3_addSpring_0 21 rfl rfl)
theorem dX3_addSpring_24 : decode cX3_addSpring 24 = .ok (.bipush 99, 2) := dk_16 99 (dk_at dksX3_addSpring_1 0 rfl rfl)
theorem dX3_addSpring_26 : decode cX3_addSpring 26 = .ok (.goto 14, 3) := dk_167 0 14 (dk_at dksX3_addSpring_1 2 rfl rfl)
theorem dX3_addSpring_29 : decode cX3_addSpring 29 = .ok (.aload_n 0, 1) := dk_42 (dk_at dksX3_addSpring_1 5 rfl rfl)
theorem dX3_addSpring_30 : decode cX3_addSpring 30 = .ok (.getfield 7, 3) := dk_180 0 7 (dk_at dksX3_addSpring_1 6 rfl rfl)
theorem dX3_addSpring_33 : decode cX3_addSpring 33 = .ok (.bipush 33, 2) := dk_16 33 (dk_at dksX3_addSpring_1 9 rfl rfl)
theorem dX3_addSpring_35 : decode cX3_addSpring 35 = .ok (.iload_n 1, 1) := dk_27 (dk_at dksX3_addSpring_1 11 rfl rfl)
theorem dX3_addSpring_36 : decode cX3_addSpring 36 = .ok (.iadd, 1) := dk_96 (dk_at dksX3_addSpring_1 12 rfl rfl)
theorem dX3_addSpring_37 : decode cX3_addSpring 37 = .ok (.iaload, 1) := dk_46 (dk_at dksX3_addSpring_1 13 rfl rfl)
theorem dX3_addSpring_38 : decode cX3_addSpring 38 = .ok (.iload_n 2, 1) := dk_28 (dk_at dksX3_addSpring_1 14 rfl rfl)
theorem dX3_addSpring_39 : decode cX3_addSpring 39 = .ok (.iadd, 1) := dk_96 (dk_at dksX3_addSpring_1 15 rfl rfl)
theorem dX3_addSpring_40 : decode cX3_addSpring 40 = .ok (.iastore, 1) := dk_79 (dk_at dksX3_addSpring_1 16 rfl rfl)
theorem dX3_addSpring_41 : decode cX3_addSpring 41 = .ok (.return_, 1) := dk_177 (dk_at dksX3_addSpring_1 17 rfl rfl)
abbrev cX3_wind : ByteArray := prog_24_method_51_code
def yX3_wind : MethodName := ⟨RX3, "wind", "(II)I"⟩
def dkwX3_wind_2 : List UInt8 := [16, 33, 27, 96, 46, 172]
abbrev dktX3_wind_2 : List UInt8 := dkwX3_wind_2 ++ []
def dkwX3_wind_1 : List UInt8 := [27, 42, 180, 0, 7, 16, 33, 27, 96, 46, 182, 0, 229, 42, 27, 28, 182, 0, 233, 42, 180, 0, 7]
abbrev dktX3_wind_1 : List UInt8 := dkwX3_wind_1 ++ dktX3_wind_2
def dkwX3_wind_0 : List UInt8 := [42, 27, 182, 0, 107, 153, 0, 15, 28, 133, 10, 20, 0, 87, 184, 0, 75, 154, 0, 5, 2, 172, 42, 3]
abbrev dktX3_wind_0 : List UInt8 := dkwX3_wind_0 ++ dktX3_wind_1
theorem dksX3_wind_0 : cX3_wind.data.toList.drop 0 = dktX3_wind_0 := by decide +kernel
theorem dksX3_wind_1 : cX3_wind.data.toList.drop 24 = dktX3_wind_1 := dk_seg dksX3_wind_0 24 rfl rfl
theorem dksX3_wind_2 : cX3_wind.data.toList.drop 47 = dktX3_wind_2 := dk_seg dksX3_wind_1 23 rfl rfl
theorem dX3_wind_0 : decode cX3_wind 0 = .ok (.aload_n 0, 1) := dk_42 (dk_at dksX3_wind_0 0 rfl rfl)
theorem dX3_wind_1 : decode cX3_wind 1 = .ok (.iload_n 1, 1) := dk_27 (dk_at dksX3_wind_0 1 rfl rfl)
theorem dX3_wind_2 : decode cX3_wind 2 = .ok (.invokevirtual 107, 3) := dk_182 0 107 (dk_at dksX3_wind_0 2 rfl rfl)
theorem dX3_wind_5 : decode cX3_wind 5 = .ok (.ifCond .eq 15, 3) := dk_153 0 15 (dk_at dksX3_wind_0 5 rfl rfl)
theorem dX3_wind_8 : decode cX3_wind 8 = .ok (.iload_n 2, 1) := dk_28 (dk_at dksX3_wind_0 8 rfl rfl)
theorem dX3_wind_9 : decode cX3_wind 9 = .ok (.i2l, 1) := dk_133 (dk_at dksX3_wind_0 9 rfl rfl)
theorem dX3_wind_10 : decode cX3_wind 10 = .ok (.lconst 1, 1) := dk_10 (dk_at dksX3_wind_0 10 rfl rfl)
theorem dX3_wind_11 : decode cX3_wind 11 = .ok (.ldc2_w 87, 3) := dk_20 0 87 (dk_at dksX3_wind_0 11 rfl rfl)
theorem dX3_wind_14 : decode cX3_wind 14 = .ok (.invokestatic 75, 3) := dk_184 0 75 (dk_at dksX3_wind_0 14 rfl rfl)
theorem dX3_wind_17 : decode cX3_wind 17 = .ok (.ifCond .ne 5, 3) := dk_154 0 5 (dk_at dksX3_wind_0 17 rfl rfl)
theorem dX3_wind_20 : decode cX3_wind 20 = .ok (.iconst (-1), 1) := dk_2 (dk_at dksX3_wind_0 20 rfl rfl)
theorem dX3_wind_21 : decode cX3_wind 21 = .ok (.ireturn, 1) := dk_172 (dk_at dksX3_wind_0 21 rfl rfl)
theorem dX3_wind_22 : decode cX3_wind 22 = .ok (.aload_n 0, 1) := dk_42 (dk_at dksX3_wind_0 22 rfl rfl)
theorem dX3_wind_23 : decode cX3_wind 23 = .ok (.iconst 0, 1) := dk_3 (dk_at dksX3_wind_0 23 rfl rfl)
theorem dX3_wind_24 : decode cX3_wind 24 = .ok (.iload_n 1, 1) := dk_27 (dk_at dksX3_wind_1 0 rfl rfl)
theorem dX3_wind_25 : decode cX3_wind 25 = .ok (.aload_n 0, 1) := dk_42 (dk_at dksX3_wind_1 1 rfl rfl)
theorem dX3_wind_26 : decode cX3_wind 26 = .ok (.getfield 7, 3) := dk_180 0 7 (dk_at dksX3_wind_1 2 rfl rfl)
theorem dX3_wind_29 : decode cX3_wind 29 = .ok (.bipush 33, 2) := dk_16 33 (dk_at dksX3_wind_1 5 rfl rfl)
theorem dX3_wind_31 : decode cX3_wind 31 = .ok (.iload_n 1, 1) := dk_27 (dk_at dksX3_wind_1 7 rfl rfl)
theorem dX3_wind_32 : decode cX3_wind 32 = .ok (.iadd, 1) := dk_96 (dk_at dksX3_wind_1 8 rfl rfl)
theorem dX3_wind_33 : decode cX3_wind 33 = .ok (.iaload, 1) := dk_46 (dk_at dksX3_wind_1 9 rfl rfl)
theorem dX3_wind_34 : decode cX3_wind 34 = .ok (.invokevirtual 229, 3) := dk_182 0 229 (dk_at dksX3_wind_1 10 rfl rfl)
theorem dX3_wind_37 : decode cX3_wind 37 = .ok (.aload_n 0, 1) := dk_42 (dk_at dksX3_wind_1 13 rfl rfl)
theorem dX3_wind_38 : decode cX3_wind 38 = .ok (.iload_n 1, 1) := dk_27 (dk_at dksX3_wind_1 14 rfl rfl)
theorem dX3_wind_39 : decode cX3_wind 39 = .ok (.iload_n 2, 1) := dk_28 (dk_at dksX3_wind_1 15 rfl rfl)
theorem dX3_wind_40 : decode cX3_wind 40 = .ok (.invokevirtual 233, 3) := dk_182 0 233 (dk_at dksX3_wind_1 16 rfl rfl)
theorem dX3_wind_43 : decode cX3_wind 43 = .ok (.aload_n 0, 1) := dk_42 (dk_at dksX3_wind_1 19 rfl rfl)
theorem dX3_wind_44 : decode cX3_wind 44 = .ok (.getfield 7, 3) := dk_180 0 7 (dk_at dksX3_wind_1 20 rfl rfl)
theorem dX3_wind_47 : decode cX3_wind 47 = .ok (.bipush 33, 2) := dk_16 33 (dk_at dksX3_wind_2 0 rfl rfl)
theorem dX3_wind_49 : decode cX3_wind 49 = .ok (.iload_n 1, 1) := dk_27 (dk_at dksX3_wind_2 2 rfl rfl)
theorem dX3_wind_50 : decode cX3_wind 50 = .ok (.iadd, 1) := dk_96 (dk_at dksX3_wind_2 3 rfl rfl)
theorem dX3_wind_51 : decode cX3_wind 51 = .ok (.iaload, 1) := dk_46 (dk_at dksX3_wind_2 4 rfl rfl)
theorem dX3_wind_52 : decode cX3_wind 52 = .ok (.ireturn, 1) := dk_172 (dk_at dksX3_wind_2 5 rfl rfl)
abbrev cX3_does : ByteArray := prog_24_method_36_code
def yX3_does : MethodName := ⟨RX3, "does", "(I)Z"⟩
def dkwX3_does_3 : List UInt8 := [167, 0, 7, 42, 182, 0, 188, 155, 0, 7, 4, 167, 0, 4, 3, 172]
abbrev dktX3_does_3 : List UInt8 := dkwX3_does_3 ++ []
def dkwX3_does_2 : List UInt8 := [180, 0, 47, 27, 5, 96, 46, 182, 0, 182, 167, 0, 21, 28, 16, 98, 160, 0, 11, 42, 29, 182, 0, 185]
abbrev dktX3_does_2 : List UInt8 := dkwX3_does_2 ++ dktX3_does_3
def dkwX3_does_1 : List UInt8 := [42, 180, 0, 47, 27, 5, 96, 46, 182, 0, 179, 167, 0, 43, 28, 16, 116, 160, 0, 19, 42, 29, 42]
abbrev dktX3_does_1 : List UInt8 := dkwX3_does_1 ++ dktX3_does_2
def dkwX3_does_0 : List UInt8 := [42, 180, 0, 47, 27, 46, 61, 42, 180, 0, 47, 27, 4, 96, 46, 62, 28, 16, 119, 160, 0, 19, 42, 29]
abbrev dktX3_does_0 : List UInt8 := dkwX3_does_0 ++ dktX3_does_1
theorem dksX3_does_0 : cX3_does.data.toList.drop 0 = dktX3_does_0 := by decide +kernel
theorem dksX3_does_1 : cX3_does.data.toList.drop 24 = dktX3_does_1 := dk_seg dksX3_does_0 24 rfl rfl
theorem dksX3_does_2 : cX3_does.data.toList.drop 47 = dktX3_does_2 := dk_seg dksX3_does_1 23 rfl rfl
theorem dksX3_does_3 : cX3_does.data.toList.drop 71 = dktX3_does_3 := dk_seg dksX3_does_2 24 rfl rfl
theorem dX3_does_0 : decode cX3_does 0 = .ok (.aload_n 0, 1) := dk_42 (dk_at dksX3_does_0 0 rfl rfl)
theorem dX3_does_1 : decode cX3_does 1 = .ok (.getfield 47, 3) := dk_180 0 47 (dk_at dksX3_does_0 1 rfl rfl)
theorem dX3_does_4 : decode cX3_does 4 = .ok (.iload_n 1, 1) := dk_27 (dk_at dksX3_does_0 4 rfl rfl)
theorem dX3_does_5 : decode cX3_does 5 = .ok (.iaload, 1) := dk_46 (dk_at dksX3_does_0 5 rfl rfl)
theorem dX3_does_6 : decode cX3_does 6 = .ok (.istore_n 2, 1) := dk_61 (dk_at dksX3_does_0 6 rfl rfl)
theorem dX3_does_7 : decode cX3_does 7 = .ok (.aload_n 0, 1) := dk_42 (dk_at dksX3_does_0 7 rfl rfl)
theorem dX3_does_8 : decode cX3_does 8 = .ok (.getfield 47, 3) := dk_180 0 47 (dk_at dksX3_does_0 8 rfl rfl)
theorem dX3_does_11 : decode cX3_does 11 = .ok (.iload_n 1, 1) := dk_27 (dk_at dksX3_does_0 11 rfl rfl)
theorem dX3_does_12 : decode cX3_does 12 = .ok (.iconst 1, 1) := dk_4 (dk_at dksX3_does_0 12 rfl rfl)
theorem dX3_does_13 : decode cX3_does 13 = .ok (.iadd, 1) := dk_96 (dk_at dksX3_does_0 13 rfl rfl)
theorem dX3_does_14 : decode cX3_does 14 = .ok (.iaload, 1) := dk_46 (dk_at dksX3_does_0 14 rfl rfl)
theorem dX3_does_15 : decode cX3_does 15 = .ok (.istore_n 3, 1) := dk_62 (dk_at dksX3_does_0 15 rfl rfl)
theorem dX3_does_16 : decode cX3_does 16 = .ok (.iload_n 2, 1) := dk_28 (dk_at dksX3_does_0 16 rfl rfl)
theorem dX3_does_17 : decode cX3_does 17 = .ok (.bipush 119, 2) := dk_16 119 (dk_at dksX3_does_0 17 rfl rfl)
theorem dX3_does_19 : decode cX3_does 19 = .ok (.if_icmp .ne 19, 3) := dk_160 0 19 (dk_at dksX3_does_0 19 rfl rfl)
theorem dX3_does_22 : decode cX3_does 22 = .ok (.aload_n 0, 1) := dk_42 (dk_at dksX3_does_0 22 rfl rfl)
theorem dX3_does_23 : decode cX3_does 23 = .ok (.iload_n 3, 1) := dk_29 (dk_at dksX3_does_0 23 rfl rfl)
theorem dX3_does_24 : decode cX3_does 24 = .ok (.aload_n 0, 1) := dk_42 (dk_at dksX3_does_1 0 rfl rfl)
theorem dX3_does_25 : decode cX3_does 25 = .ok (.getfield 47, 3) := dk_180 0 47 (dk_at dksX3_does_1 1 rfl rfl)
theorem dX3_does_28 : decode cX3_does 28 = .ok (.iload_n 1, 1) := dk_27 (dk_at dksX3_does_1 4 rfl rfl)
theorem dX3_does_29 : decode cX3_does 29 = .ok (.iconst 2, 1) := dk_5 (dk_at dksX3_does_1 5 rfl rfl)
theorem dX3_does_30 : decode cX3_does 30 = .ok (.iadd, 1) := dk_96 (dk_at dksX3_does_1 6 rfl rfl)
theorem dX3_does_31 : decode cX3_does 31 = .ok (.iaload, 1) := dk_46 (dk_at dksX3_does_1 7 rfl rfl)
theorem dX3_does_32 : decode cX3_does 32 = .ok (.invokevirtual 179, 3) := dk_182 0 179 (dk_at dksX3_does_1 8 rfl rfl)
theorem dX3_does_35 : decode cX3_does 35 = .ok (.goto 43, 3) := dk_167 0 43 (dk_at dksX3_does_1 11 rfl rfl)
theorem dX3_does_38 : decode cX3_does 38 = .ok (.iload_n 2, 1) := dk_28 (dk_at dksX3_does_1 14 rfl rfl)
theorem dX3_does_39 : decode cX3_does 39 = .ok (.bipush 116, 2) := dk_16 116 (dk_at dksX3_does_1 15 rfl rfl)
theorem dX3_does_41 : decode cX3_does 41 = .ok (.if_icmp .ne 19, 3) := dk_160 0 19 (dk_at dksX3_does_1 17 rfl rfl)
theorem dX3_does_44 : decode cX3_does 44 = .ok (.aload_n 0, 1) := dk_42 (dk_at dksX3_does_1 20 rfl rfl)
theorem dX3_does_45 : decode cX3_does 45 = .ok (.iload_n 3, 1) := dk_29 (dk_at dksX3_does_1 21 rfl rfl)
theorem dX3_does_46 : decode cX3_does 46 = .ok (.aload_n 0, 1) := dk_42 (dk_at dksX3_does_1 22 rfl rfl)
theorem dX3_does_47 : decode cX3_does 47 = .ok (.getfield 47, 3) := dk_180 0 47 (dk_at dksX3_does_2 0 rfl rfl)
theorem dX3_does_50 : decode cX3_does 50 = .ok (.iload_n 1, 1) := dk_27 (dk_at dksX3_does_2 3 rfl rfl)
theorem dX3_does_51 : decode cX3_does 51 = .ok (.iconst 2, 1) := dk_5 (dk_at dksX3_does_2 4 rfl rfl)
theorem dX3_does_52 : decode cX3_does 52 = .ok (.iadd, 1) := dk_96 (dk_at dksX3_does_2 5 rfl rfl)
theorem dX3_does_53 : decode cX3_does 53 = .ok (.iaload, 1) := dk_46 (dk_at dksX3_does_2 6 rfl rfl)
theorem dX3_does_54 : decode cX3_does 54 = .ok (.invokevirtual 182, 3) := dk_182 0 182 (dk_at dksX3_does_2 7 rfl rfl)
theorem dX3_does_57 : decode cX3_does 57 = .ok (.goto 21, 3) := dk_167 0 21 (dk_at dksX3_does_2 10 rfl rfl)
theorem dX3_does_60 : decode cX3_does 60 = .ok (.iload_n 2, 1) := dk_28 (dk_at dksX3_does_2 13 rfl rfl)
theorem dX3_does_61 : decode cX3_does 61 = .ok (.bipush 98, 2) := dk_16 98 (dk_at dksX3_does_2 14 rfl rfl)
theorem dX3_does_63 : decode cX3_does 63 = .ok (.if_icmp .ne 11, 3) := dk_160 0 11 (dk_at dksX3_does_2 16 rfl rfl)
theorem dX3_does_66 : decode cX3_does 66 = .ok (.aload_n 0, 1) := dk_42 (dk_at dksX3_does_2 19 rfl rfl)
theorem dX3_does_67 : decode cX3_does 67 = .ok (.iload_n 3, 1) := dk_29 (dk_at dksX3_does_2 20 rfl rfl)
theorem dX3_does_68 : decode cX3_does 68 = .ok (.invokevirtual 185, 3) := dk_182 0 185 (dk_at dksX3_does_2 21 rfl rfl)
theorem dX3_does_71 : decode cX3_does 71 = .ok (.goto 7, 3) := dk_167 0 7 (dk_at dksX3_does_3 0 rfl rfl)
theorem dX3_does_74 : decode cX3_does 74 = .ok (.aload_n 0, 1) := dk_42 (dk_at dksX3_does_3 3 rfl rfl)
theorem dX3_does_75 : decode cX3_does 75 = .ok (.invokevirtual 188, 3) := dk_182 0 188 (dk_at dksX3_does_3 4 rfl rfl)
theorem dX3_does_78 : decode cX3_does 78 = .ok (.ifCond .lt 7, 3) := dk_155 0 7 (dk_at dksX3_does_3 7 rfl rfl)
theorem dX3_does_81 : decode cX3_does 81 = .ok (.iconst 1, 1) := dk_4 (dk_at dksX3_does_3 10 rfl rfl)
theorem dX3_does_82 : decode cX3_does 82 = .ok (.goto 4, 3) := dk_167 0 4 (dk_at dksX3_does_3 11 rfl rfl)
theorem dX3_does_85 : decode cX3_does 85 = .ok (.iconst 0, 1) := dk_3 (dk_at dksX3_does_3 14 rfl rfl)
theorem dX3_does_86 : decode cX3_does 86 = .ok (.ireturn, 1) := dk_172 (dk_at dksX3_does_3 15 rfl rfl)
abbrev cX3_readAct : ByteArray := prog_24_method_34_code
def yX3_readAct : MethodName := ⟨RX3, "readAct", "(I)Z"⟩
def dkwX3_readAct_8 : List UInt8 := [167, 0, 4, 3, 172]
abbrev dktX3_readAct_8 : List UInt8 := dkwX3_readAct_8 ++ []
def dkwX3_readAct_7 : List UInt8 := [16, 99, 167, 0, 6, 17, 2, 207, 182, 0, 162, 79, 42, 180, 0, 47, 27, 5, 96, 46, 155, 0, 7, 4]
abbrev dktX3_readAct_7 : List UInt8 := dkwX3_readAct_7 ++ dktX3_readAct_8
def dkwX3_readAct_6 : List UInt8 := [182, 0, 166, 154, 0, 5, 3, 172, 42, 180, 0, 47, 27, 5, 96, 42, 4, 28, 16, 119, 160, 0, 8]
abbrev dktX3_readAct_6 : List UInt8 := dkwX3_readAct_6 ++ dktX3_readAct_7
def dkwX3_readAct_5 : List UInt8 := [96, 46, 182, 0, 107, 154, 0, 5, 3, 172, 42, 89, 180, 0, 128, 4, 96, 181, 0, 128, 42, 16, 43]
abbrev dktX3_readAct_5 : List UInt8 := dkwX3_readAct_5 ++ dktX3_readAct_6
def dkwX3_readAct_4 : List UInt8 := [3, 172, 42, 180, 0, 47, 27, 4, 96, 42, 182, 0, 131, 16, 48, 100, 79, 42, 42, 180, 0, 47, 27, 4]
abbrev dktX3_readAct_4 : List UInt8 := dkwX3_readAct_4 ++ dktX3_readAct_5
def dkwX3_readAct_3 : List UInt8 := [180, 0, 19, 4, 100, 182, 0, 162, 79, 42, 180, 0, 47, 27, 4, 96, 46, 155, 0, 7, 4, 167, 0, 4]
abbrev dktX3_readAct_3 : List UInt8 := dkwX3_readAct_3 ++ dktX3_readAct_4
def dkwX3_readAct_2 : List UInt8 := [28, 16, 104, 160, 0, 5, 4, 172, 28, 16, 98, 160, 0, 39, 42, 180, 0, 47, 27, 4, 96, 42, 3, 42]
abbrev dktX3_readAct_2 : List UInt8 := dkwX3_readAct_2 ++ dktX3_readAct_3
def dkwX3_readAct_1 : List UInt8 := [16, 104, 159, 0, 5, 3, 172, 42, 89, 180, 0, 128, 4, 96, 181, 0, 128, 42, 180, 0, 47, 27, 28, 79]
abbrev dktX3_readAct_1 : List UInt8 := dkwX3_readAct_1 ++ dktX3_readAct_2
def dkwX3_readAct_0 : List UInt8 := [42, 182, 0, 131, 61, 28, 16, 119, 159, 0, 23, 28, 16, 116, 159, 0, 17, 28, 16, 98, 159, 0, 11, 28]
abbrev dktX3_readAct_0 : List UInt8 := dkwX3_readAct_0 ++ dktX3_readAct_1
theorem dksX3_readAct_0 : cX3_readAct.data.toList.drop 0 = dktX3_readAct_0 := by decide +kernel
theorem dksX3_readAct_1 : cX3_readAct.data.toList.drop 24 = dktX3_readAct_1 := dk_seg dksX3_readAct_0 24 rfl rfl
theorem dksX3_readAct_2 : cX3_readAct.data.toList.drop 48 = dktX3_readAct_2 := dk_seg dksX3_readAct_1 24 rfl rfl
theorem dksX3_readAct_3 : cX3_readAct.data.toList.drop 72 = dktX3_readAct_3 := dk_seg dksX3_readAct_2 24 rfl rfl
theorem dksX3_readAct_4 : cX3_readAct.data.toList.drop 96 = dktX3_readAct_4 := dk_seg dksX3_readAct_3 24 rfl rfl
theorem dksX3_readAct_5 : cX3_readAct.data.toList.drop 120 = dktX3_readAct_5 := dk_seg dksX3_readAct_4 24 rfl rfl
theorem dksX3_readAct_6 : cX3_readAct.data.toList.drop 143 = dktX3_readAct_6 := dk_seg dksX3_readAct_5 23 rfl rfl
theorem dksX3_readAct_7 : cX3_readAct.data.toList.drop 166 = dktX3_readAct_7 := dk_seg dksX3_readAct_6 23 rfl rfl
theorem dksX3_readAct_8 : cX3_readAct.data.toList.drop 190 = dktX3_readAct_8 := dk_seg dksX3_readAct_7 24 rfl rfl
theorem dX3_readAct_0 : decode cX3_readAct 0 = .ok (.aload_n 0, 1) := dk_42 (dk_at dksX3_readAct_0 0 rfl rfl)
theorem dX3_readAct_1 : decode cX3_readAct 1 = .ok (.invokevirtual 131, 3) := dk_182 0 131 (dk_at dksX3_readAct_0 1 rfl rfl)
theorem dX3_readAct_4 : decode cX3_readAct 4 = .ok (.istore_n 2, 1) := dk_61 (dk_at dksX3_readAct_0 4 rfl rfl)
theorem dX3_readAct_5 : decode cX3_readAct 5 = .ok (.iload_n 2, 1) := dk_28 (dk_at dksX3_readAct_0 5 rfl rfl)
theorem dX3_readAct_6 : decode cX3_readAct 6 = .ok (.bipush 119, 2) := dk_16 119 (dk_at dksX3_readAct_0 6 rfl rfl)
theorem dX3_readAct_8 : decode cX3_readAct 8 = .ok (.if_icmp .eq 23, 3) := dk_159 0 23 (dk_at dksX3_readAct_0 8 rfl rfl)
theorem dX3_readAct_11 : decode cX3_readAct 11 = .ok (.iload_n 2, 1) := dk_28 (dk_at dksX3_readAct_0 11 rfl rfl)
theorem dX3_readAct_12 : decode cX3_readAct 12 = .ok (.bipush 116, 2) := dk_16 116 (dk_at dksX3_readAct_0 12 rfl rfl)
theorem dX3_readAct_14 : decode cX3_readAct 14 = .ok (.if_icmp .eq 17, 3) := dk_159 0 17 (dk_at dksX3_readAct_0 14 rfl rfl)
theorem dX3_readAct_17 : decode cX3_readAct 17 = .ok (.iload_n 2, 1) := dk_28 (dk_at dksX3_readAct_0 17 rfl rfl)
theorem dX3_readAct_18 : decode cX3_readAct 18 = .ok (.bipush 98, 2) := dk_16 98 (dk_at dksX3_readAct_0 18 rfl rfl)
theorem dX3_readAct_20 : decode cX3_readAct 20 = .ok (.if_icmp .eq 11, 3) := dk_159 0 11 (dk_at dksX3_readAct_0 20 rfl rfl)
theorem dX3_readAct_23 : decode cX3_readAct 23 = .ok (.iload_n 2, 1) := dk_28 (dk_at dksX3_readAct_0 23 rfl rfl)
theorem dX3_readAct_24 : decode cX3_readAct 24 = .ok (.bipush 104, 2) := dk_16 104 (dk_at dksX3_readAct_1 0 rfl rfl)
theorem dX3_readAct_26 : decode cX3_readAct 26 = .ok (.if_icmp .eq 5, 3) := dk_159 0 5 (dk_at dksX3_readAct_1 2 rfl rfl)
theorem dX3_readAct_29 : decode cX3_readAct 29 = .ok (.iconst 0, 1) := dk_3 (dk_at dksX3_readAct_1 5 rfl rfl)
theorem dX3_readAct_30 : decode cX3_readAct 30 = .ok (.ireturn, 1) := dk_172 (dk_at dksX3_readAct_1 6 rfl rfl)
theorem dX3_readAct_31 : decode cX3_readAct 31 = .ok (.aload_n 0, 1) := dk_42 (dk_at dksX3_readAct_1 7 rfl rfl)
theorem dX3_readAct_32 : decode cX3_readAct 32 = .ok (.dup, 1) := dk_89 (dk_at dksX3_readAct_1 8 rfl rfl)
theorem dX3_readAct_33 : decode cX3_readAct 33 = .ok (.getfield 128, 3) := dk_180 0 128 (dk_at dksX3_readAct_1 9 rfl rfl)
theorem dX3_readAct_36 : decode cX3_readAct 36 = .ok (.iconst 1, 1) := dk_4 (dk_at dksX3_readAct_1 12 rfl rfl)
theorem dX3_readAct_37 : decode cX3_readAct 37 = .ok (.iadd, 1) := dk_96 (dk_at dksX3_readAct_1 13 rfl rfl)
theorem dX3_readAct_38 : decode cX3_readAct 38 = .ok (.putfield 128, 3) := dk_181 0 128 (dk_at dksX3_readAct_1 14 rfl rfl)
theorem dX3_readAct_41 : decode cX3_readAct 41 = .ok (.aload_n 0, 1) := dk_42 (dk_at dksX3_readAct_1 17 rfl rfl)
theorem dX3_readAct_42 : decode cX3_readAct 42 = .ok (.getfield 47, 3) := dk_180 0 47 (dk_at dksX3_readAct_1 18 rfl rfl)
theorem dX3_readAct_45 : decode cX3_readAct 45 = .ok (.iload_n 1, 1) := dk_27 (dk_at dksX3_readAct_1 21 rfl rfl)
theorem dX3_readAct_46 : decode cX3_readAct 46 = .ok (.iload_n 2, 1) := dk_28 (dk_at dksX3_readAct_1 22 rfl rfl)
theorem dX3_readAct_47 : decode cX3_readAct 47 = .ok (.iastore, 1) := dk_79 (dk_at dksX3_readAct_1 23 rfl rfl)
theorem dX3_readAct_48 : decode cX3_readAct 48 = .ok (.iload_n 2, 1) := dk_28 (dk_at dksX3_readAct_2 0 rfl rfl)
theorem dX3_readAct_49 : decode cX3_readAct 49 = .ok (.bipush 104, 2) := dk_16 104 (dk_at dksX3_readAct_2 1 rfl rfl)
theorem dX3_readAct_51 : decode cX3_readAct 51 = .ok (.if_icmp .ne 5, 3) := dk_160 0 5 (dk_at dksX3_readAct_2 3 rfl rfl)
theorem dX3_readAct_54 : decode cX3_readAct 54 = .ok (.iconst 1, 1) := dk_4 (dk_at dksX3_readAct_2 6 rfl rfl)
theorem dX3_readAct_55 : decode cX3_readAct 55 = .ok (.ireturn, 1) := dk_172 (dk_at dksX3_readAct_2 7 rfl rfl)
theorem dX3_readAct_56 : decode cX3_readAct 56 = .ok (.iload_n 2, 1) := dk_28 (dk_at dksX3_readAct_2 8 rfl rfl)
theorem dX3_readAct_57 : decode cX3_readAct 57 = .ok (.bipush 98, 2) := dk_16 98 (dk_at dksX3_readAct_2 9 rfl rfl)
theorem dX3_readAct_59 : decode cX3_readAct 59 = .ok (.if_icmp .ne 39, 3) := dk_160 0 39 (dk_at dksX3_readAct_2 11 rfl rfl)
theorem dX3_readAct_62 : decode cX3_readAct 62 = .ok (.aload_n 0, 1) := dk_42 (dk_at dksX3_readAct_2 14 rfl rfl)
theorem dX3_readAct_63 : decode cX3_readAct 63 = .ok (.getfield 47, 3) := dk_180 0 47 (dk_at dksX3_readAct_2 15 rfl rfl)
theorem dX3_readAct_66 : decode cX3_readAct 66 = .ok (.iload_n 1, 1) := dk_27 (dk_at dksX3_readAct_2 18 rfl rfl)
theorem dX3_readAct_67 : decode cX3_readAct 67 = .ok (.iconst 1, 1) := dk_4 (dk_at dksX3_readAct_2 19 rfl rfl)
theorem dX3_readAct_68 : decode cX3_readAct 68 = .ok (.iadd, 1) := dk_96 (dk_at dksX3_readAct_2 20 rfl rfl)
theorem dX3_readAct_69 : decode cX3_readAct 69 = .ok (.aload_n 0, 1) := dk_42 (dk_at dksX3_readAct_2 21 rfl rfl)
theorem dX3_readAct_70 : decode cX3_readAct 70 = .ok (.iconst 0, 1) := dk_3 (dk_at dksX3_readAct_2 22 rfl rfl)
theorem dX3_readAct_71 : decode cX3_readAct 71 = .ok (.aload_n 0, 1) := dk_42 (dk_at dksX3_readAct_2 23 rfl rfl)
theorem dX3_readAct_72 : decode cX3_readAct 72 = .ok (.getfield 19, 3) := dk_180 0 19 (dk_at dksX3_readAct_3 0 rfl rfl)
theorem dX3_readAct_75 : decode cX3_readAct 75 = .ok (.iconst 1, 1) := dk_4 (dk_at dksX3_readAct_3 3 rfl rfl)
theorem dX3_readAct_76 : decode cX3_readAct 76 = .ok (.isub, 1) := dk_100 (dk_at dksX3_readAct_3 4 rfl rfl)
theorem dX3_readAct_77 : decode cX3_readAct 77 = .ok (.invokevirtual 162, 3) := dk_182 0 162 (dk_at dksX3_readAct_3 5 rfl rfl)
theorem dX3_readAct_80 : decode cX3_readAct 80 = .ok (.iastore, 1) := dk_79 (dk_at dksX3_readAct_3 8 rfl rfl)
theorem dX3_readAct_81 : decode cX3_readAct 81 = .ok (.aload_n 0, 1) := dk_42 (dk_at dksX3_readAct_3 9 rfl rfl)
theorem dX3_readAct_82 : decode cX3_readAct 82 = .ok (.getfield 47, 3) := dk_180 0 47 (dk_at dksX3_readAct_3 10 rfl rfl)
theorem dX3_readAct_85 : decode cX3_readAct 85 = .ok (.iload_n 1, 1) := dk_27 (dk_at dksX3_readAct_3 13 rfl rfl)
theorem dX3_readAct_86 : decode cX3_readAct 86 = .ok (.iconst 1, 1) := dk_4 (dk_at dksX3_readAct_3 14 rfl rfl)
theorem dX3_readAct_87 : decode cX3_readAct 87 = .ok (.iadd, 1) := dk_96 (dk_at dksX3_readAct_3 15 rfl rfl)
theorem dX3_readAct_88 : decode cX3_readAct 88 = .ok (.iaload, 1) := dk_46 (dk_at dksX3_readAct_3 16 rfl rfl)
theorem dX3_readAct_89 : decode cX3_readAct 89 = .ok (.ifCond .lt 7, 3) := dk_155 0 7 (dk_at dksX3_readAct_3 17 rfl rfl)
theorem dX3_readAct_92 : decode cX3_readAct 92 = .ok (.iconst 1, 1) := dk_4 (dk_at dksX3_readAct_3 20 rfl rfl)
theorem dX3_readAct_93 : decode cX3_readAct 93 = .ok (.goto 4, 3) := dk_167 0 4 (dk_at dksX3_readAct_3 21 rfl rfl)
theorem dX3_readAct_96 : decode cX3_readAct 96 = .ok (.iconst 0, 1) := dk_3 (dk_at dksX3_readAct_4 0 rfl rfl)
theorem dX3_readAct_97 : decode cX3_readAct 97 = .ok (.ireturn, 1) := dk_172 (dk_at dksX3_readAct_4 1 rfl rfl)
theorem dX3_readAct_98 : decode cX3_readAct 98 = .ok (.aload_n 0, 1) := dk_42 (dk_at dksX3_readAct_4 2 rfl rfl)
theorem dX3_readAct_99 : decode cX3_readAct 99 = .ok (.getfield 47, 3) := dk_180 0 47 (dk_at dksX3_readAct_4 3 rfl rfl)
theorem dX3_readAct_102 : decode cX3_readAct 102 = .ok (.iload_n 1, 1) := dk_27 (dk_at dksX3_readAct_4 6 rfl rfl)
theorem dX3_readAct_103 : decode cX3_readAct 103 = .ok (.iconst 1, 1) := dk_4 (dk_at dksX3_readAct_4 7 rfl rfl)
theorem dX3_readAct_104 : decode cX3_readAct 104 = .ok (.iadd, 1) := dk_96 (dk_at dksX3_readAct_4 8 rfl rfl)
theorem dX3_readAct_105 : decode cX3_readAct 105 = .ok (.aload_n 0, 1) := dk_42 (dk_at dksX3_readAct_4 9 rfl rfl)
theorem dX3_readAct_106 : decode cX3_readAct 106 = .ok (.invokevirtual 131, 3) := dk_182 0 131 (dk_at dksX3_readAct_4 10 rfl rfl)
theorem dX3_readAct_109 : decode cX3_readAct 109 = .ok (.bipush 48, 2) := dk_16 48 (dk_at dksX3_readAct_4 13 rfl rfl)
theorem dX3_readAct_111 : decode cX3_readAct 111 = .ok (.isub, 1) := dk_100 (dk_at dksX3_readAct_4 15 rfl rfl)
theorem dX3_readAct_112 : decode cX3_readAct 112 = .ok (.iastore, 1) := dk_79 (dk_at dksX3_readAct_4 16 rfl rfl)
theorem dX3_readAct_113 : decode cX3_readAct 113 = .ok (.aload_n 0, 1) := dk_42 (dk_at dksX3_readAct_4 17 rfl rfl)
theorem dX3_readAct_114 : decode cX3_readAct 114 = .ok (.aload_n 0, 1) := dk_42 (dk_at dksX3_readAct_4 18 rfl rfl)
theorem dX3_readAct_115 : decode cX3_readAct 115 = .ok (.getfield 47, 3) := dk_180 0 47 (dk_at dksX3_readAct_4 19 rfl rfl)
theorem dX3_readAct_118 : decode cX3_readAct 118 = .ok (.iload_n 1, 1) := dk_27 (dk_at dksX3_readAct_4 22 rfl rfl)
theorem dX3_readAct_119 : decode cX3_readAct 119 = .ok (.iconst 1, 1) := dk_4 (dk_at dksX3_readAct_4 23 rfl rfl)
theorem dX3_readAct_120 : decode cX3_readAct 120 = .ok (.iadd, 1) := dk_96 (dk_at dksX3_readAct_5 0 rfl rfl)
theorem dX3_readAct_121 : decode cX3_readAct 121 = .ok (.iaload, 1) := dk_46 (dk_at dksX3_readAct_5 1 rfl rfl)
theorem dX3_readAct_122 : decode cX3_readAct 122 = .ok (.invokevirtual 107, 3) := dk_182 0 107 (dk_at dksX3_readAct_5 2 rfl rfl)
theorem dX3_readAct_125 : decode cX3_readAct 125 = .ok (.ifCond .ne 5, 3) := dk_154 0 5 (dk_at dksX3_readAct_5 5 rfl rfl)
theorem dX3_readAct_128 : decode cX3_readAct 128 = .ok (.iconst 0, 1) := dk_3 (dk_at dksX3_readAct_5 8 rfl rfl)
theorem dX3_readAct_129 : decode cX3_readAct 129 = .ok (.ireturn, 1) := dk_172 (dk_at dksX3_readAct_5 9 rfl rfl)
theorem dX3_readAct_130 : decode cX3_readAct 130 = .ok (.aload_n 0, 1) := dk_42 (dk_at dksX3_readAct_5 10 rfl rfl)
theorem dX3_readAct_131 : decode cX3_readAct 131 = .ok (.dup, 1) := dk_89 (dk_at dksX3_readAct_5 11 rfl rfl)
theorem dX3_readAct_132 : decode cX3_readAct 132 = .ok (.getfield 128, 3) := dk_180 0 128 (dk_at dksX3_readAct_5 12 rfl rfl)
theorem dX3_readAct_135 : decode cX3_readAct 135 = .ok (.iconst 1, 1) := dk_4 (dk_at dksX3_readAct_5 15 rfl rfl)
theorem dX3_readAct_136 : decode cX3_readAct 136 = .ok (.iadd, 1) := dk_96 (dk_at dksX3_readAct_5 16 rfl rfl)
theorem dX3_readAct_137 : decode cX3_readAct 137 = .ok (.putfield 128, 3) := dk_181 0 128 (dk_at dksX3_readAct_5 17 rfl rfl)
theorem dX3_readAct_140 : decode cX3_readAct 140 = .ok (.aload_n 0, 1) := dk_42 (dk_at dksX3_readAct_5 20 rfl rfl)
theorem dX3_readAct_141 : decode cX3_readAct 141 = .ok (.bipush 43, 2) := dk_16 43 (dk_at dksX3_readAct_5 21 rfl rfl)
theorem dX3_readAct_143 : decode cX3_readAct 143 = .ok (.invokevirtual 166, 3) := dk_182 0 166 (dk_at dksX3_readAct_6 0 rfl rfl)
theorem dX3_readAct_146 : decode cX3_readAct 146 = .ok (.ifCond .ne 5, 3) := dk_154 0 5 (dk_at dksX3_readAct_6 3 rfl rfl)
theorem dX3_readAct_149 : decode cX3_readAct 149 = .ok (.iconst 0, 1) := dk_3 (dk_at dksX3_readAct_6 6 rfl rfl)
theorem dX3_readAct_150 : decode cX3_readAct 150 = .ok (.ireturn, 1) := dk_172 (dk_at dksX3_readAct_6 7 rfl rfl)
theorem dX3_readAct_151 : decode cX3_readAct 151 = .ok (.aload_n 0, 1) := dk_42 (dk_at dksX3_readAct_6 8 rfl rfl)
theorem dX3_readAct_152 : decode cX3_readAct 152 = .ok (.getfield 47, 3) := dk_180 0 47 (dk_at dksX3_readAct_6 9 rfl rfl)
theorem dX3_readAct_155 : decode cX3_readAct 155 = .ok (.iload_n 1, 1) := dk_27 (dk_at dksX3_readAct_6 12 rfl rfl)
theorem dX3_readAct_156 : decode cX3_readAct 156 = .ok (.iconst 2, 1) := dk_5 (dk_at dksX3_readAct_6 13 rfl rfl)
theorem dX3_readAct_157 : decode cX3_readAct 157 = .ok (.iadd, 1) := dk_96 (dk_at dksX3_readAct_6 14 rfl rfl)
theorem dX3_readAct_158 : decode cX3_readAct 158 = .ok (.aload_n 0, 1) := dk_42 (dk_at dksX3_readAct_6 15 rfl rfl)
theorem dX3_readAct_159 : decode cX3_readAct 159 = .ok (.iconst 1, 1) := dk_4 (dk_at dksX3_readAct_6 16 rfl rfl)
theorem dX3_readAct_160 : decode cX3_readAct 160 = .ok (.iload_n 2, 1) := dk_28 (dk_at dksX3_readAct_6 17 rfl rfl)
theorem dX3_readAct_161 : decode cX3_readAct 161 = .ok (.bipush 119, 2) := dk_16 119 (dk_at dksX3_readAct_6 18 rfl rfl)
theorem dX3_readAct_163 : decode cX3_readAct 163 = .ok (.if_icmp .ne 8, 3) := dk_160 0 8 (dk_at dksX3_readAct_6 20 rfl rfl)
theorem dX3_readAct_166 : decode cX3_readAct 166 = .ok (.bipush 99, 2) := dk_16 99 (dk_at dksX3_readAct_7 0 rfl rfl)
theorem dX3_readAct_168 : decode cX3_readAct 168 = .ok (.goto 6, 3) := dk_167 0 6 (dk_at dksX3_readAct_7 2 rfl rfl)
theorem dX3_readAct_171 : decode cX3_readAct 171 = .ok (.sipush 719, 3) := dk_17 2 207 (dk_at dksX3_readAct_7 5 rfl rfl)
theorem dX3_readAct_174 : decode cX3_readAct 174 = .ok (.invokevirtual 162, 3) := dk_182 0 162 (dk_at dksX3_readAct_7 8 rfl rfl)
theorem dX3_readAct_177 : decode cX3_readAct 177 = .ok (.iastore, 1) := dk_79 (dk_at dksX3_readAct_7 11 rfl rfl)
theorem dX3_readAct_178 : decode cX3_readAct 178 = .ok (.aload_n 0, 1) := dk_42 (dk_at dksX3_readAct_7 12 rfl rfl)
theorem dX3_readAct_179 : decode cX3_readAct 179 = .ok (.getfield 47, 3) := dk_180 0 47 (dk_at dksX3_readAct_7 13 rfl rfl)
theorem dX3_readAct_182 : decode cX3_readAct 182 = .ok (.iload_n 1, 1) := dk_27 (dk_at dksX3_readAct_7 16 rfl rfl)
theorem dX3_readAct_183 : decode cX3_readAct 183 = .ok (.iconst 2, 1) := dk_5 (dk_at dksX3_readAct_7 17 rfl rfl)
theorem dX3_readAct_184 : decode cX3_readAct 184 = .ok (.iadd, 1) := dk_96 (dk_at dksX3_readAct_7 18 rfl rfl)
theorem dX3_readAct_185 : decode cX3_readAct 185 = .ok (.iaload, 1) := dk_46 (dk_at dksX3_readAct_7 19 rfl rfl)
theorem dX3_readAct_186 : decode cX3_readAct 186 = .ok (.ifCond .lt 7, 3) := dk_155 0 7 (dk_at dksX3_readAct_7 20 rfl rfl)
theorem dX3_readAct_189 : decode cX3_readAct 189 = .ok (.iconst 1, 1) := dk_4 (dk_at dksX3_readAct_7 23 rfl rfl)
theorem dX3_readAct_190 : decode cX3_readAct 190 = .ok (.goto 4, 3) := dk_167 0 4 (dk_at dksX3_readAct_8 0 rfl rfl)
theorem dX3_readAct_193 : decode cX3_readAct 193 = .ok (.iconst 0, 1) := dk_3 (dk_at dksX3_readAct_8 3 rfl rfl)
theorem dX3_readAct_194 : decode cX3_readAct 194 = .ok (.ireturn, 1) := dk_172 (dk_at dksX3_readAct_8 4 rfl rfl)
abbrev cX3_readDay : ByteArray := prog_24_method_35_code
def yX3_readDay : MethodName := ⟨RX3, "readDay", "()Z"⟩
def dkwX3_readDay_2 : List UInt8 := [60, 167, 255, 220, 42, 182, 0, 131, 156, 0, 7, 4, 167, 0, 4, 3, 172]
abbrev dktX3_readDay_2 : List UInt8 := dkwX3_readDay_2 ++ []
def dkwX3_readDay_1 : List UInt8 := [182, 0, 176, 154, 0, 5, 3, 172, 42, 89, 180, 0, 139, 4, 96, 181, 0, 139, 42, 16, 59, 182, 0, 166]
abbrev dktX3_readDay_1 : List UInt8 := dkwX3_readDay_1 ++ dktX3_readDay_2
def dkwX3_readDay_0 : List UInt8 := [42, 3, 181, 0, 128, 42, 3, 181, 0, 139, 4, 60, 27, 153, 0, 38, 42, 6, 42, 180, 0, 139, 104]
abbrev dktX3_readDay_0 : List UInt8 := dkwX3_readDay_0 ++ dktX3_readDay_1
theorem dksX3_readDay_0 : cX3_readDay.data.toList.drop 0 = dktX3_readDay_0 := by decide +kernel
theorem dksX3_readDay_1 : cX3_readDay.data.toList.drop 23 = dktX3_readDay_1 := dk_seg dksX3_readDay_0 23 rfl rfl
theorem dksX3_readDay_2 : cX3_readDay.data.toList.drop 47 = dktX3_readDay_2 := dk_seg dksX3_readDay_1 24 rfl rfl
theorem dX3_readDay_0 : decode cX3_readDay 0 = .ok (.aload_n 0, 1) := dk_42 (dk_at dksX3_readDay_0 0 rfl rfl)
theorem dX3_readDay_1 : decode cX3_readDay 1 = .ok (.iconst 0, 1) := dk_3 (dk_at dksX3_readDay_0 1 rfl rfl)
theorem dX3_readDay_2 : decode cX3_readDay 2 = .ok (.putfield 128, 3) := dk_181 0 128 (dk_at dksX3_readDay_0 2 rfl rfl)
theorem dX3_readDay_5 : decode cX3_readDay 5 = .ok (.aload_n 0, 1) := dk_42 (dk_at dksX3_readDay_0 5 rfl rfl)
theorem dX3_readDay_6 : decode cX3_readDay 6 = .ok (.iconst 0, 1) := dk_3 (dk_at dksX3_readDay_0 6 rfl rfl)
theorem dX3_readDay_7 : decode cX3_readDay 7 = .ok (.putfield 139, 3) := dk_181 0 139 (dk_at dksX3_readDay_0 7 rfl rfl)
theorem dX3_readDay_10 : decode cX3_readDay 10 = .ok (.iconst 1, 1) := dk_4 (dk_at dksX3_readDay_0 10 rfl rfl)
theorem dX3_readDay_11 : decode cX3_readDay 11 = .ok (.istore_n 1, 1) := dk_60 (dk_at dksX3_readDay_0 11 rfl rfl)
theorem dX3_readDay_12 : decode cX3_readDay 12 = .ok (.iload_n 1, 1) := dk_27 (dk_at dksX3_readDay_0 12 rfl rfl)
theorem dX3_readDay_13 : decode cX3_readDay 13 = .ok (.ifCond .eq 38, 3) := dk_153 0 38 (dk_at dksX3_readDay_0 13 rfl rfl)
theorem dX3_readDay_16 : decode cX3_readDay 16 = .ok (.aload_n 0, 1) := dk_42 (dk_at dksX3_readDay_0 16 rfl rfl)
theorem dX3_readDay_17 : decode cX3_readDay 17 = .ok (.iconst 3, 1) := dk_6 (dk_at dksX3_readDay_0 17 rfl rfl)
theorem dX3_readDay_18 : decode cX3_readDay 18 = .ok (.aload_n 0, 1) := dk_42 (dk_at dksX3_readDay_0 18 rfl rfl)
theorem dX3_readDay_19 : decode cX3_readDay 19 = .ok (.getfield 139, 3) := dk_180 0 139 (dk_at dksX3_readDay_0 19 rfl rfl)
theorem dX3_readDay_22 : decode cX3_readDay 22 = .ok (.imul, 1) := dk_104 (dk_at dksX3_readDay_0 22 rfl rfl)
theorem dX3_readDay_23 : decode cX3_readDay 23 = .ok (.invokevirtual 176, 3) := dk_182 0 176 (dk_at dksX3_readDay_1 0 rfl rfl)
theorem dX3_readDay_26 : decode cX3_readDay 26 = .ok (.ifCond .ne 5, 3) := dk_154 0 5 (dk_at dksX3_readDay_1 3 rfl rfl)
theorem dX3_readDay_29 : decode cX3_readDay 29 = .ok (.iconst 0, 1) := dk_3 (dk_at dksX3_readDay_1 6 rfl rfl)
theorem dX3_readDay_30 : decode cX3_readDay 30 = .ok (.ireturn, 1) := dk_172 (dk_at dksX3_readDay_1 7 rfl rfl)
theorem dX3_readDay_31 : decode cX3_readDay 31 = .ok (.aload_n 0, 1) := dk_42 (dk_at dksX3_readDay_1 8 rfl rfl)
theorem dX3_readDay_32 : decode cX3_readDay 32 = .ok (.dup, 1) := dk_89 (dk_at dksX3_readDay_1 9 rfl rfl)
theorem dX3_readDay_33 : decode cX3_readDay 33 = .ok (.getfield 139, 3) := dk_180 0 139 (dk_at dksX3_readDay_1 10 rfl rfl)
theorem dX3_readDay_36 : decode cX3_readDay 36 = .ok (.iconst 1, 1) := dk_4 (dk_at dksX3_readDay_1 13 rfl rfl)
theorem dX3_readDay_37 : decode cX3_readDay 37 = .ok (.iadd, 1) := dk_96 (dk_at dksX3_readDay_1 14 rfl rfl)
theorem dX3_readDay_38 : decode cX3_readDay 38 = .ok (.putfield 139, 3) := dk_181 0 139 (dk_at dksX3_readDay_1 15 rfl rfl)
theorem dX3_readDay_41 : decode cX3_readDay 41 = .ok (.aload_n 0, 1) := dk_42 (dk_at dksX3_readDay_1 18 rfl rfl)
theorem dX3_readDay_42 : decode cX3_readDay 42 = .ok (.bipush 59, 2) := dk_16 59 (dk_at dksX3_readDay_1 19 rfl rfl)
theorem dX3_readDay_44 : decode cX3_readDay 44 = .ok (.invokevirtual 166, 3) := dk_182 0 166 (dk_at dksX3_readDay_1 21 rfl rfl)
theorem dX3_readDay_47 : decode cX3_readDay 47 = .ok (.istore_n 1, 1) := dk_60 (dk_at dksX3_readDay_2 0 rfl rfl)
theorem dX3_readDay_48 : decode cX3_readDay 48 = .ok (.goto (-36), 3) := dk_167 255 220 (dk_at dksX3_readDay_2 1 rfl rfl)
theorem dX3_readDay_51 : decode cX3_readDay 51 = .ok (.aload_n 0, 1) := dk_42 (dk_at dksX3_readDay_2 4 rfl rfl)
theorem dX3_readDay_52 : decode cX3_readDay 52 = .ok (.invokevirtual 131, 3) := dk_182 0 131 (dk_at dksX3_readDay_2 5 rfl rfl)
theorem dX3_readDay_55 : decode cX3_readDay 55 = .ok (.ifCond .ge 7, 3) := dk_156 0 7 (dk_at dksX3_readDay_2 8 rfl rfl)
theorem dX3_readDay_58 : decode cX3_readDay 58 = .ok (.iconst 1, 1) := dk_4 (dk_at dksX3_readDay_2 11 rfl rfl)
theorem dX3_readDay_59 : decode cX3_readDay 59 = .ok (.goto 4, 3) := dk_167 0 4 (dk_at dksX3_readDay_2 12 rfl rfl)
theorem dX3_readDay_62 : decode cX3_readDay 62 = .ok (.iconst 0, 1) := dk_3 (dk_at dksX3_readDay_2 15 rfl rfl)
theorem dX3_readDay_63 : decode cX3_readDay 63 = .ok (.ireturn, 1) := dk_172 (dk_at dksX3_readDay_2 16 rfl rfl)
abbrev cX3_day : ByteArray := prog_24_method_37_code
def yX3_day : MethodName := ⟨RX3, "day", "()I"⟩
def dkwX3_day_1 : List UInt8 := [162, 0, 21, 42, 6, 29, 104, 182, 0, 194, 154, 0, 5, 29, 172, 132, 3, 1, 167, 255, 236, 28, 172]
abbrev dktX3_day_1 : List UInt8 := dkwX3_day_1 ++ []
def dkwX3_day_0 : List UInt8 := [42, 42, 182, 0, 191, 182, 0, 152, 60, 27, 156, 0, 5, 27, 172, 42, 180, 0, 139, 61, 3, 62, 29, 28]
abbrev dktX3_day_0 : List UInt8 := dkwX3_day_0 ++ dktX3_day_1
theorem dksX3_day_0 : cX3_day.data.toList.drop 0 = dktX3_day_0 := by decide +kernel
theorem dksX3_day_1 : cX3_day.data.toList.drop 24 = dktX3_day_1 := dk_seg dksX3_day_0 24 rfl rfl
theorem dX3_day_0 : decode cX3_day 0 = .ok (.aload_n 0, 1) := dk_42 (dk_at dksX3_day_0 0 rfl rfl)
theorem dX3_day_1 : decode cX3_day 1 = .ok (.aload_n 0, 1) := dk_42 (dk_at dksX3_day_0 1 rfl rfl)
theorem dX3_day_2 : decode cX3_day 2 = .ok (.invokevirtual 191, 3) := dk_182 0 191 (dk_at dksX3_day_0 2 rfl rfl)
theorem dX3_day_5 : decode cX3_day 5 = .ok (.invokevirtual 152, 3) := dk_182 0 152 (dk_at dksX3_day_0 5 rfl rfl)
theorem dX3_day_8 : decode cX3_day 8 = .ok (.istore_n 1, 1) := dk_60 (dk_at dksX3_day_0 8 rfl rfl)
theorem dX3_day_9 : decode cX3_day 9 = .ok (.iload_n 1, 1) := dk_27 (dk_at dksX3_day_0 9 rfl rfl)
theorem dX3_day_10 : decode cX3_day 10 = .ok (.ifCond .ge 5, 3) := dk_156 0 5 (dk_at dksX3_day_0 10 rfl rfl)
theorem dX3_day_13 : decode cX3_day 13 = .ok (.iload_n 1, 1) := dk_27 (dk_at dksX3_day_0 13 rfl rfl)
theorem dX3_day_14 : decode cX3_day 14 = .ok (.ireturn, 1) := dk_172 (dk_at dksX3_day_0 14 rfl rfl)
theorem dX3_day_15 : decode cX3_day 15 = .ok (.aload_n 0, 1) := dk_42 (dk_at dksX3_day_0 15 rfl rfl)
theorem dX3_day_16 : decode cX3_day 16 = .ok (.getfield 139, 3) := dk_180 0 139 (dk_at dksX3_day_0 16 rfl rfl)
theorem dX3_day_19 : decode cX3_day 19 = .ok (.istore_n 2, 1) := dk_61 (dk_at dksX3_day_0 19 rfl rfl)
theorem dX3_day_20 : decode cX3_day 20 = .ok (.iconst 0, 1) := dk_3 (dk_at dksX3_day_0 20 rfl rfl)
theorem dX3_day_21 : decode cX3_day 21 = .ok (.istore_n 3, 1) := dk_62 (dk_at dksX3_day_0 21 rfl rfl)
theorem dX3_day_22 : decode cX3_day 22 = .ok (.iload_n 3, 1) := dk_29 (dk_at dksX3_day_0 22 rfl rfl)
theorem dX3_day_23 : decode cX3_day 23 = .ok (.iload_n 2, 1) := dk_28 (dk_at dksX3_day_0 23 rfl rfl)
theorem dX3_day_24 : decode cX3_day 24 = .ok (.if_icmp .ge 21, 3) := dk_162 0 21 (dk_at dksX3_day_1 0 rfl rfl)
theorem dX3_day_27 : decode cX3_day 27 = .ok (.aload_n 0, 1) := dk_42 (dk_at dksX3_day_1 3 rfl rfl)
theorem dX3_day_28 : decode cX3_day 28 = .ok (.iconst 3, 1) := dk_6 (dk_at dksX3_day_1 4 rfl rfl)
theorem dX3_day_29 : decode cX3_day 29 = .ok (.iload_n 3, 1) := dk_29 (dk_at dksX3_day_1 5 rfl rfl)
theorem dX3_day_30 : decode cX3_day 30 = .ok (.imul, 1) := dk_104 (dk_at dksX3_day_1 6 rfl rfl)
theorem dX3_day_31 : decode cX3_day 31 = .ok (.invokevirtual 194, 3) := dk_182 0 194 (dk_at dksX3_day_1 7 rfl rfl)
theorem dX3_day_34 : decode cX3_day 34 = .ok (.ifCond .ne 5, 3) := dk_154 0 5 (dk_at dksX3_day_1 10 rfl rfl)
theorem dX3_day_37 : decode cX3_day 37 = .ok (.iload_n 3, 1) := dk_29 (dk_at dksX3_day_1 13 rfl rfl)
theorem dX3_day_38 : decode cX3_day 38 = .ok (.ireturn, 1) := dk_172 (dk_at dksX3_day_1 14 rfl rfl)
theorem dX3_day_39 : decode cX3_day 39 = .ok (.iinc 3 1, 3) := dk_132 3 1 (dk_at dksX3_day_1 15 rfl rfl)
theorem dX3_day_42 : decode cX3_day 42 = .ok (.goto (-20), 3) := dk_167 255 236 (dk_at dksX3_day_1 18 rfl rfl)
theorem dX3_day_45 : decode cX3_day 45 = .ok (.iload_n 2, 1) := dk_28 (dk_at dksX3_day_1 21 rfl rfl)
theorem dX3_day_46 : decode cX3_day 46 = .ok (.ireturn, 1) := dk_172 (dk_at dksX3_day_1 22 rfl rfl)
abbrev cX3_isAhead : ByteArray := prog_24_method_38_code
def yX3_isAhead : MethodName := ⟨RX3, "isAhead", "(II)Z"⟩
def dkwX3_isAhead_3 : List UInt8 := [16, 42, 28, 96, 46, 164, 0, 7, 4, 167, 0, 4, 3, 172]
abbrev dktX3_isAhead_3 : List UInt8 := dkwX3_isAhead_3 ++ []
def dkwX3_isAhead_2 : List UInt8 := [154, 0, 32, 42, 28, 182, 0, 197, 154, 0, 28, 42, 180, 0, 7, 16, 42, 27, 96, 46, 42, 180, 0, 7]
abbrev dktX3_isAhead_2 : List UInt8 := dkwX3_isAhead_2 ++ dktX3_isAhead_3
def dkwX3_isAhead_1 : List UInt8 := [46, 42, 180, 0, 7, 16, 51, 28, 96, 46, 162, 0, 7, 4, 167, 0, 4, 3, 172, 42, 27, 182, 0, 197]
abbrev dktX3_isAhead_1 : List UInt8 := dkwX3_isAhead_1 ++ dktX3_isAhead_2
def dkwX3_isAhead_0 : List UInt8 := [42, 27, 182, 0, 197, 153, 0, 38, 42, 28, 182, 0, 197, 153, 0, 30, 42, 180, 0, 7, 16, 51, 27, 96]
abbrev dktX3_isAhead_0 : List UInt8 := dkwX3_isAhead_0 ++ dktX3_isAhead_1
theorem dksX3_isAhead_0 : cX3_isAhead.data.toList.drop 0 = dktX3_isAhead_0 := by decide +kernel
theorem dksX3_isAhead_1 : cX3_isAhead.data.toList.drop 24 = dktX3_isAhead_1 := dk_seg dksX3_isAhead_0 24 rfl rfl
theorem dksX3_isAhead_2 : cX3_isAhead.data.toList.drop 48 = dktX3_isAhead_2 := dk_seg dksX3_isAhead_1 24 rfl rfl
theorem dksX3_isAhead_3 : cX3_isAhead.data.toList.drop 72 = dktX3_isAhead_3 := dk_seg dksX3_isAhead_2 24 rfl rfl
theorem dX3_isAhead_0 : decode cX3_isAhead 0 = .ok (.aload_n 0, 1) := dk_42 (dk_at dksX3_isAhead_0 0 rfl rfl)
theorem dX3_isAhead_1 : decode cX3_isAhead 1 = .ok (.iload_n 1, 1) := dk_27 (dk_at dksX3_isAhead_0 1 rfl rfl)
theorem dX3_isAhead_2 : decode cX3_isAhead 2 = .ok (.invokevirtual 197, 3) := dk_182 0 197 (dk_at dksX3_isAhead_0 2 rfl rfl)
theorem dX3_isAhead_5 : decode cX3_isAhead 5 = .ok (.ifCond .eq 38, 3) := dk_153 0 38 (dk_at dksX3_isAhead_0 5 rfl rfl)
theorem dX3_isAhead_8 : decode cX3_isAhead 8 = .ok (.aload_n 0, 1) := dk_42 (dk_at dksX3_isAhead_0 8 rfl rfl)
theorem dX3_isAhead_9 : decode cX3_isAhead 9 = .ok (.iload_n 2, 1) := dk_28 (dk_at dksX3_isAhead_0 9 rfl rfl)
theorem dX3_isAhead_10 : decode cX3_isAhead 10 = .ok (.invokevirtual 197, 3) := dk_182 0 197 (dk_at dksX3_isAhead_0 10 rfl rfl)
theorem dX3_isAhead_13 : decode cX3_isAhead 13 = .ok (.ifCond .eq 30, 3) := dk_153 0 30 (dk_at dksX3_isAhead_0 13 rfl rfl)
theorem dX3_isAhead_16 : decode cX3_isAhead 16 = .ok (.aload_n 0, 1) := dk_42 (dk_at dksX3_isAhead_0 16 rfl rfl)
theorem dX3_isAhead_17 : decode cX3_isAhead 17 = .ok (.getfield 7, 3) := dk_180 0 7 (dk_at dksX3_isAhead_0 17 rfl rfl)
theorem dX3_isAhead_20 : decode cX3_isAhead 20 = .ok (.bipush 51, 2) := dk_16 51 (dk_at dksX3_isAhead_0 20 rfl rfl)
theorem dX3_isAhead_22 : decode cX3_isAhead 22 = .ok (.iload_n 1, 1) := dk_27 (dk_at dksX3_isAhead_0 22 rfl rfl)
theorem dX3_isAhead_23 : decode cX3_isAhead 23 = .ok (.iadd, 1) := dk_96 (dk_at dksX3_isAhead_0 23 rfl rfl)
theorem dX3_isAhead_24 : decode cX3_isAhead 24 = .ok (.iaload, 1) := dk_46 (dk_at dksX3_isAhead_1 0 rfl rfl)
theorem dX3_isAhead_25 : decode cX3_isAhead 25 = .ok (.aload_n 0, 1) := dk_42 (dk_at dksX3_isAhead_1 1 rfl rfl)
theorem dX3_isAhead_26 : decode cX3_isAhead 26 = .ok (.getfield 7, 3) := dk_180 0 7 (dk_at dksX3_isAhead_1 2 rfl rfl)
theorem dX3_isAhead_29 : decode cX3_isAhead 29 = .ok (.bipush 51, 2) := dk_16 51 (dk_at dksX3_isAhead_1 5 rfl rfl)
theorem dX3_isAhead_31 : decode cX3_isAhead 31 = .ok (.iload_n 2, 1) := dk_28 (dk_at dksX3_isAhead_1 7 rfl rfl)
theorem dX3_isAhead_32 : decode cX3_isAhead 32 = .ok (.iadd, 1) := dk_96 (dk_at dksX3_isAhead_1 8 rfl rfl)
theorem dX3_isAhead_33 : decode cX3_isAhead 33 = .ok (.iaload, 1) := dk_46 (dk_at dksX3_isAhead_1 9 rfl rfl)
theorem dX3_isAhead_34 : decode cX3_isAhead 34 = .ok (.if_icmp .ge 7, 3) := dk_162 0 7 (dk_at dksX3_isAhead_1 10 rfl rfl)
theorem dX3_isAhead_37 : decode cX3_isAhead 37 = .ok (.iconst 1, 1) := dk_4 (dk_at dksX3_isAhead_1 13 rfl rfl)
theorem dX3_isAhead_38 : decode cX3_isAhead 38 = .ok (.goto 4, 3) := dk_167 0 4 (dk_at dksX3_isAhead_1 14 rfl rfl)
theorem dX3_isAhead_41 : decode cX3_isAhead 41 = .ok (.iconst 0, 1) := dk_3 (dk_at dksX3_isAhead_1 17 rfl rfl)
theorem dX3_isAhead_42 : decode cX3_isAhead 42 = .ok (.ireturn, 1) := dk_172 (dk_at dksX3_isAhead_1 18 rfl rfl)
theorem dX3_isAhead_43 : decode cX3_isAhead 43 = .ok (.aload_n 0, 1) := dk_42 (dk_at dksX3_isAhead_1 19 rfl rfl)
theorem dX3_isAhead_44 : decode cX3_isAhead 44 = .ok (.iload_n 1, 1) := dk_27 (dk_at dksX3_isAhead_1 20 rfl rfl)
theorem dX3_isAhead_45 : decode cX3_isAhead 45 = .ok (.invokevirtual 197, 3) := dk_182 0 197 (dk_at dksX3_isAhead_1 21 rfl rfl)
theorem dX3_isAhead_48 : decode cX3_isAhead 48 = .ok (.ifCond .ne 32, 3) := dk_154 0 32 (dk_at dksX3_isAhead_2 0 rfl rfl)
theorem dX3_isAhead_51 : decode cX3_isAhead 51 = .ok (.aload_n 0, 1) := dk_42 (dk_at dksX3_isAhead_2 3 rfl rfl)
theorem dX3_isAhead_52 : decode cX3_isAhead 52 = .ok (.iload_n 2, 1) := dk_28 (dk_at dksX3_isAhead_2 4 rfl rfl)
theorem dX3_isAhead_53 : decode cX3_isAhead 53 = .ok (.invokevirtual 197, 3) := dk_182 0 197 (dk_at dksX3_isAhead_2 5 rfl rfl)
theorem dX3_isAhead_56 : decode cX3_isAhead 56 = .ok (.ifCond .ne 28, 3) := dk_154 0 28 (dk_at dksX3_isAhead_2 8 rfl rfl)
theorem dX3_isAhead_59 : decode cX3_isAhead 59 = .ok (.aload_n 0, 1) := dk_42 (dk_at dksX3_isAhead_2 11 rfl rfl)
theorem dX3_isAhead_60 : decode cX3_isAhead 60 = .ok (.getfield 7, 3) := dk_180 0 7 (dk_at dksX3_isAhead_2 12 rfl rfl)
theorem dX3_isAhead_63 : decode cX3_isAhead 63 = .ok (.bipush 42, 2) := dk_16 42 (dk_at dksX3_isAhead_2 15 rfl rfl)
theorem dX3_isAhead_65 : decode cX3_isAhead 65 = .ok (.iload_n 1, 1) := dk_27 (dk_at dksX3_isAhead_2 17 rfl rfl)
theorem dX3_isAhead_66 : decode cX3_isAhead 66 = .ok (.iadd, 1) := dk_96 (dk_at dksX3_isAhead_2 18 rfl rfl)
theorem dX3_isAhead_67 : decode cX3_isAhead 67 = .ok (.iaload, 1) := dk_46 (dk_at dksX3_isAhead_2 19 rfl rfl)
theorem dX3_isAhead_68 : decode cX3_isAhead 68 = .ok (.aload_n 0, 1) := dk_42 (dk_at dksX3_isAhead_2 20 rfl rfl)
theorem dX3_isAhead_69 : decode cX3_isAhead 69 = .ok (.getfield 7, 3) := dk_180 0 7 (dk_at dksX3_isAhead_2 21 rfl rfl)
theorem dX3_isAhead_72 : decode cX3_isAhead 72 = .ok (.bipush 42, 2) := dk_16 42 (dk_at dksX3_isAhead_3 0 rfl rfl)
theorem dX3_isAhead_74 : decode cX3_isAhead 74 = .ok (.iload_n 2, 1) := dk_28 (dk_at dksX3_isAhead_3 2 rfl rfl)
theorem dX3_isAhead_75 : decode cX3_isAhead 75 = .ok (.iadd, 1) := dk_96 (dk_at dksX3_isAhead_3 3 rfl rfl)
theorem dX3_isAhead_76 : decode cX3_isAhead 76 = .ok (.iaload, 1) := dk_46 (dk_at dksX3_isAhead_3 4 rfl rfl)
theorem dX3_isAhead_77 : decode cX3_isAhead 77 = .ok (.if_icmp .le 7, 3) := dk_164 0 7 (dk_at dksX3_isAhead_3 5 rfl rfl)
theorem dX3_isAhead_80 : decode cX3_isAhead 80 = .ok (.iconst 1, 1) := dk_4 (dk_at dksX3_isAhead_3 8 rfl rfl)
theorem dX3_isAhead_81 : decode cX3_isAhead 81 = .ok (.goto 4, 3) := dk_167 0 4 (dk_at dksX3_isAhead_3 9 rfl rfl)
theorem dX3_isAhead_84 : decode cX3_isAhead 84 = .ok (.iconst 0, 1) := dk_3 (dk_at dksX3_isAhead_3 12 rfl rfl)
theorem dX3_isAhead_85 : decode cX3_isAhead 85 = .ok (.ireturn, 1) := dk_172 (dk_at dksX3_isAhead_3 13 rfl rfl)
abbrev cX3_placeOf : ByteArray := prog_24_method_39_code
def yX3_placeOf : MethodName := ⟨RX3, "placeOf", "(I)I"⟩
def dkwX3_placeOf_1 : List UInt8 := [153, 0, 7, 4, 167, 0, 4, 3, 96, 61, 132, 3, 1, 167, 255, 223, 28, 172]
abbrev dktX3_placeOf_1 : List UInt8 := dkwX3_placeOf_1 ++ []
def dkwX3_placeOf_0 : List UInt8 := [4, 61, 3, 62, 29, 42, 180, 0, 72, 162, 0, 31, 28, 29, 27, 159, 0, 16, 42, 29, 27, 182, 0, 200]
abbrev dktX3_placeOf_0 : List UInt8 := dkwX3_placeOf_0 ++ dktX3_placeOf_1
theorem dksX3_placeOf_0 : cX3_placeOf.data.toList.drop 0 = dktX3_placeOf_0 := by decide +kernel
theorem dksX3_placeOf_1 : cX3_placeOf.data.toList.drop 24 = dktX3_placeOf_1 := dk_seg dksX3_placeOf_0 24 rfl rfl
theorem dX3_placeOf_0 : decode cX3_placeOf 0 = .ok (.iconst 1, 1) := dk_4 (dk_at dksX3_placeOf_0 0 rfl rfl)
theorem dX3_placeOf_1 : decode cX3_placeOf 1 = .ok (.istore_n 2, 1) := dk_61 (dk_at dksX3_placeOf_0 1 rfl rfl)
theorem dX3_placeOf_2 : decode cX3_placeOf 2 = .ok (.iconst 0, 1) := dk_3 (dk_at dksX3_placeOf_0 2 rfl rfl)
theorem dX3_placeOf_3 : decode cX3_placeOf 3 = .ok (.istore_n 3, 1) := dk_62 (dk_at dksX3_placeOf_0 3 rfl rfl)
theorem dX3_placeOf_4 : decode cX3_placeOf 4 = .ok (.iload_n 3, 1) := dk_29 (dk_at dksX3_placeOf_0 4 rfl rfl)
theorem dX3_placeOf_5 : decode cX3_placeOf 5 = .ok (.aload_n 0, 1) := dk_42 (dk_at dksX3_placeOf_0 5 rfl rfl)
theorem dX3_placeOf_6 : decode cX3_placeOf 6 = .ok (.getfield 72, 3) := dk_180 0 72 (dk_at dksX3_placeOf_0 6 rfl rfl)
theorem dX3_placeOf_9 : decode cX3_placeOf 9 = .ok (.if_icmp .ge 31, 3) := dk_162 0 31 (dk_at dksX3_placeOf_0 9 rfl rfl)
theorem dX3_placeOf_12 : decode cX3_placeOf 12 = .ok (.iload_n 2, 1) := dk_28 (dk_at dksX3_placeOf_0 12 rfl rfl)
theorem dX3_placeOf_13 : decode cX3_placeOf 13 = .ok (.iload_n 3, 1) := dk_29 (dk_at dksX3_placeOf_0 13 rfl rfl)
theorem dX3_placeOf_14 : decode cX3_placeOf 14 = .ok (.iload_n 1, 1) := dk_27 (dk_at dksX3_placeOf_0 14 rfl rfl)
theorem dX3_placeOf_15 : decode cX3_placeOf 15 = .ok (.if_icmp .eq 16, 3) := dk_159 0 16 (dk_at dksX3_placeOf_0 15 rfl rfl)
theorem dX3_placeOf_18 : decode cX3_placeOf 18 = .ok (.aload_n 0, 1) := dk_42 (dk_at dksX3_placeOf_0 18 rfl rfl)
theorem dX3_placeOf_19 : decode cX3_placeOf 19 = .ok (.iload_n 3, 1) := dk_29 (dk_at dksX3_placeOf_0 19 rfl rfl)
theorem dX3_placeOf_20 : decode cX3_placeOf 20 = .ok (.iload_n 1, 1) := dk_27 (dk_at dksX3_placeOf_0 20 rfl rfl)
theorem dX3_placeOf_21 : decode cX3_placeOf 21 = .ok (.invokevirtual 200, 3) := dk_182 0 200 (dk_at dksX3_placeOf_0 21 rfl rfl)
theorem dX3_placeOf_24 : decode cX3_placeOf 24 = .ok (.ifCond .eq 7, 3) := dk_153 0 7 (dk_at dksX3_placeOf_1 0 rfl rfl)
theorem dX3_placeOf_27 : decode cX3_placeOf 27 = .ok (.iconst 1, 1) := dk_4 (dk_at dksX3_placeOf_1 3 rfl rfl)
theorem dX3_placeOf_28 : decode cX3_placeOf 28 = .ok (.goto 4, 3) := dk_167 0 4 (dk_at dksX3_placeOf_1 4 rfl rfl)
theorem dX3_placeOf_31 : decode cX3_placeOf 31 = .ok (.iconst 0, 1) := dk_3 (dk_at dksX3_placeOf_1 7 rfl rfl)
theorem dX3_placeOf_32 : decode cX3_placeOf 32 = .ok (.iadd, 1) := dk_96 (dk_at dksX3_placeOf_1 8 rfl rfl)
theorem dX3_placeOf_33 : decode cX3_placeOf 33 = .ok (.istore_n 2, 1) := dk_61 (dk_at dksX3_placeOf_1 9 rfl rfl)
theorem dX3_placeOf_34 : decode cX3_placeOf 34 = .ok (.iinc 3 1, 3) := dk_132 3 1 (dk_at dksX3_placeOf_1 10 rfl rfl)
theorem dX3_placeOf_37 : decode cX3_placeOf 37 = .ok (.goto (-33), 3) := dk_167 255 223 (dk_at dksX3_placeOf_1 13 rfl rfl)
theorem dX3_placeOf_40 : decode cX3_placeOf 40 = .ok (.iload_n 2, 1) := dk_28 (dk_at dksX3_placeOf_1 16 rfl rfl)
theorem dX3_placeOf_41 : decode cX3_placeOf 41 = .ok (.ireturn, 1) := dk_172 (dk_at dksX3_placeOf_1 17 rfl rfl)
abbrev cX3_place : ByteArray := prog_24_method_40_code
def yX3_place : MethodName := ⟨RX3, "place", "(I)I"⟩
def dkwX3_place_0 : List UInt8 := [42, 27, 182, 0, 107, 153, 0, 11, 42, 27, 182, 0, 204, 167, 0, 4, 2, 172]
abbrev dktX3_place_0 : List UInt8 := dkwX3_place_0 ++ []
theorem dksX3_place_0 : cX3_place.data.toList.drop 0 = dktX3_place_0 := by decide +kernel
theorem dX3_place_0 : decode cX3_place 0 = .ok (.aload_n 0, 1) := dk_42 (dk_at dksX3_place_0 0 rfl rfl)
theorem dX3_place_1 : decode cX3_place 1 = .ok (.iload_n 1, 1) := dk_27 (dk_at dksX3_place_0 1 rfl rfl)
theorem dX3_place_2 : decode cX3_place 2 = .ok (.invokevirtual 107, 3) := dk_182 0 107 (dk_at dksX3_place_0 2 rfl rfl)
theorem dX3_place_5 : decode cX3_place 5 = .ok (.ifCond .eq 11, 3) := dk_153 0 11 (dk_at dksX3_place_0 5 rfl rfl)
theorem dX3_place_8 : decode cX3_place 8 = .ok (.aload_n 0, 1) := dk_42 (dk_at dksX3_place_0 8 rfl rfl)
theorem dX3_place_9 : decode cX3_place 9 = .ok (.iload_n 1, 1) := dk_27 (dk_at dksX3_place_0 9 rfl rfl)
theorem dX3_place_10 : decode cX3_place 10 = .ok (.invokevirtual 204, 3) := dk_182 0 204 (dk_at dksX3_place_0 10 rfl rfl)
theorem dX3_place_13 : decode cX3_place 13 = .ok (.goto 4, 3) := dk_167 0 4 (dk_at dksX3_place_0 13 rfl rfl)
theorem dX3_place_16 : decode cX3_place 16 = .ok (.iconst (-1), 1) := dk_2 (dk_at dksX3_place_0 16 rfl rfl)
theorem dX3_place_17 : decode cX3_place 17 = .ok (.ireturn, 1) := dk_172 (dk_at dksX3_place_0 17 rfl rfl)
theorem q1687 : (Jvm.Cond.fieldLink "LameClocksModel" (29 : Nat) "LameClocksModel" "sky" "I") ∈ lw_all := lw_g (lw_at lw_m7 178 rfl) rfl
theorem q1889 : (Jvm.Cond.code ({ cls := "LameClocksModel", name := "day", desc := "()I" } : Jvm.MethodName) prog_24_method_37_code (4 : Nat) (Option.some Jvm.ClassFile.FieldType.int)) ∈ lw_all := lw_g (lw_at lw_m8 140 rfl) rfl
theorem q1890 : (Jvm.Cond.methodLink "LameClocksModel" (191 : Nat) ({ cls := "LameClocksModel", name := "readDay", desc := "()Z" } : Jvm.MethodName)) ∈ lw_all := lw_g (lw_at lw_m8 141 rfl) rfl
theorem q1892 : (Jvm.Cond.instanceMethod ({ cls := "LameClocksModel", name := "readDay", desc := "()Z" } : Jvm.MethodName)) ∈ lw_all := lw_g (lw_at lw_m8 143 rfl) rfl
theorem q1893 : (Jvm.Cond.code ({ cls := "LameClocksModel", name := "readDay", desc := "()Z" } : Jvm.MethodName) prog_24_method_35_code (2 : Nat) (Option.some Jvm.ClassFile.FieldType.boolean)) ∈ lw_all := lw_g (lw_at lw_m8 144 rfl) rfl
theorem q1894 : (Jvm.Cond.methodLink "LameClocksModel" (176 : Nat) ({ cls := "LameClocksModel", name := "readAct", desc := "(I)Z" } : Jvm.MethodName)) ∈ lw_all := lw_g (lw_at lw_m8 145 rfl) rfl
theorem q1896 : (Jvm.Cond.instanceMethod ({ cls := "LameClocksModel", name := "readAct", desc := "(I)Z" } : Jvm.MethodName)) ∈ lw_all := lw_g (lw_at lw_m8 147 rfl) rfl
theorem q1897 : (Jvm.Cond.code ({ cls := "LameClocksModel", name := "readAct", desc := "(I)Z" } : Jvm.MethodName) prog_24_method_34_code (3 : Nat) (Option.some Jvm.ClassFile.FieldType.boolean)) ∈ lw_all := lw_g (lw_at lw_m8 148 rfl) rfl
theorem q1898 : (Jvm.Cond.methodLink "LameClocksModel" (194 : Nat) ({ cls := "LameClocksModel", name := "does", desc := "(I)Z" } : Jvm.MethodName)) ∈ lw_all := lw_g (lw_at lw_m8 149 rfl) rfl
theorem q1900 : (Jvm.Cond.instanceMethod ({ cls := "LameClocksModel", name := "does", desc := "(I)Z" } : Jvm.MethodName)) ∈ lw_all := lw_g (lw_at lw_m8 151 rfl) rfl
theorem q1901 : (Jvm.Cond.code ({ cls := "LameClocksModel", name := "does", desc := "(I)Z" } : Jvm.MethodName) prog_24_method_36_code (4 : Nat) (Option.some Jvm.ClassFile.FieldType.boolean)) ∈ lw_all := lw_g (lw_at lw_m8 152 rfl) rfl
theorem q1902 : (Jvm.Cond.methodLink "LameClocksModel" (179 : Nat) ({ cls := "LameClocksModel", name := "wind", desc := "(II)I" } : Jvm.MethodName)) ∈ lw_all := lw_g (lw_at lw_m8 153 rfl) rfl
theorem q1903 : (Jvm.Cond.instanceMethod ({ cls := "LameClocksModel", name := "wind", desc := "(II)I" } : Jvm.MethodName)) ∈ lw_all := lw_g (lw_at lw_m8 154 rfl) rfl
theorem q1904 : (Jvm.Cond.selects "LameClocksModel" ({ cls := "LameClocksModel", name := "wind", desc := "(II)I" } : Jvm.MethodName) ({ cls := "LameClocksModel", name := "wind", desc := "(II)I" } : Jvm.MethodName)) ∈ lw_all := lw_g (lw_at lw_m8 155 rfl) rfl
theorem q1905 : (Jvm.Cond.code ({ cls := "LameClocksModel", name := "wind", desc := "(II)I" } : Jvm.MethodName) prog_24_method_51_code (3 : Nat) (Option.some Jvm.ClassFile.FieldType.int)) ∈ lw_all := lw_g (lw_at lw_m8 156 rfl) rfl
theorem q1910 : (Jvm.Cond.methodLink "LameClocksModel" (233 : Nat) ({ cls := "LameClocksModel", name := "addSpring", desc := "(II)V" } : Jvm.MethodName)) ∈ lw_all := lw_g (lw_at lw_m8 161 rfl) rfl
theorem q1912 : (Jvm.Cond.instanceMethod ({ cls := "LameClocksModel", name := "addSpring", desc := "(II)V" } : Jvm.MethodName)) ∈ lw_all := lw_g (lw_at lw_m8 163 rfl) rfl
theorem q1913 : (Jvm.Cond.code ({ cls := "LameClocksModel", name := "addSpring", desc := "(II)V" } : Jvm.MethodName) prog_24_method_52_code (3 : Nat) (Option.none : Option Jvm.ClassFile.FieldType)) ∈ lw_all := lw_g (lw_at lw_m8 164 rfl) rfl
theorem q1914 : (Jvm.Cond.methodLink "LameClocksModel" (182 : Nat) ({ cls := "LameClocksModel", name := "turn", desc := "(II)I" } : Jvm.MethodName)) ∈ lw_all := lw_g (lw_at lw_m8 165 rfl) rfl
theorem q1915 : (Jvm.Cond.instanceMethod ({ cls := "LameClocksModel", name := "turn", desc := "(II)I" } : Jvm.MethodName)) ∈ lw_all := lw_g (lw_at lw_m8 166 rfl) rfl
theorem q1916 : (Jvm.Cond.selects "LameClocksModel" ({ cls := "LameClocksModel", name := "turn", desc := "(II)I" } : Jvm.MethodName) ({ cls := "LameClocksModel", name := "turn", desc := "(II)I" } : Jvm.MethodName)) ∈ lw_all := lw_g (lw_at lw_m8 167 rfl) rfl
theorem q1917 : (Jvm.Cond.code ({ cls := "LameClocksModel", name := "turn", desc := "(II)I" } : Jvm.MethodName) prog_24_method_54_code (3 : Nat) (Option.some Jvm.ClassFile.FieldType.int)) ∈ lw_all := lw_g (lw_at lw_m8 168 rfl) rfl
theorem q1918 : (Jvm.Cond.methodLink "LameClocksModel" (237 : Nat) ({ cls := "LameClocksModel", name := "addHands", desc := "(II)V" } : Jvm.MethodName)) ∈ lw_all := lw_g (lw_at lw_m8 169 rfl) rfl
theorem q1920 : (Jvm.Cond.instanceMethod ({ cls := "LameClocksModel", name := "addHands", desc := "(II)V" } : Jvm.MethodName)) ∈ lw_all := lw_g (lw_at lw_m8 171 rfl) rfl
theorem q1921 : (Jvm.Cond.code ({ cls := "LameClocksModel", name := "addHands", desc := "(II)V" } : Jvm.MethodName) prog_24_method_53_code (3 : Nat) (Option.none : Option Jvm.ClassFile.FieldType)) ∈ lw_all := lw_g (lw_at lw_m8 172 rfl) rfl
theorem q1922 : (Jvm.Cond.methodLink "LameClocksModel" (185 : Nat) ({ cls := "LameClocksModel", name := "breathe", desc := "(I)I" } : Jvm.MethodName)) ∈ lw_all := lw_g (lw_at lw_m8 173 rfl) rfl
theorem q1923 : (Jvm.Cond.instanceMethod ({ cls := "LameClocksModel", name := "breathe", desc := "(I)I" } : Jvm.MethodName)) ∈ lw_all := lw_g (lw_at lw_m8 174 rfl) rfl
theorem q1924 : (Jvm.Cond.selects "LameClocksModel" ({ cls := "LameClocksModel", name := "breathe", desc := "(I)I" } : Jvm.MethodName) ({ cls := "LameClocksModel", name := "breathe", desc := "(I)I" } : Jvm.MethodName)) ∈ lw_all := lw_g (lw_at lw_m8 175 rfl) rfl
theorem q1926 : (Jvm.Cond.methodLink "LameClocksModel" (188 : Nat) ({ cls := "LameClocksModel", name := "hour", desc := "()I" } : Jvm.MethodName)) ∈ lw_all := lw_g (lw_at lw_m8 177 rfl) rfl
theorem q1927 : (Jvm.Cond.instanceMethod ({ cls := "LameClocksModel", name := "hour", desc := "()I" } : Jvm.MethodName)) ∈ lw_all := lw_g (lw_at lw_m8 178 rfl) rfl
theorem q1928 : (Jvm.Cond.selects "LameClocksModel" ({ cls := "LameClocksModel", name := "hour", desc := "()I" } : Jvm.MethodName) ({ cls := "LameClocksModel", name := "hour", desc := "()I" } : Jvm.MethodName)) ∈ lw_all := lw_g (lw_at lw_m8 179 rfl) rfl
theorem q1929 : (Jvm.Cond.code ({ cls := "LameClocksModel", name := "hour", desc := "()I" } : Jvm.MethodName) prog_24_method_49_code (1 : Nat) (Option.some Jvm.ClassFile.FieldType.int)) ∈ lw_all := lw_g (lw_at lw_m8 180 rfl) rfl
theorem q1930 : (Jvm.Cond.methodLink "LameClocksModel" (223 : Nat) ({ cls := "LameClocksModel", name := "skyNow", desc := "()I" } : Jvm.MethodName)) ∈ lw_all := lw_g (lw_at lw_m8 181 rfl) rfl
theorem q1932 : (Jvm.Cond.instanceMethod ({ cls := "LameClocksModel", name := "skyNow", desc := "()I" } : Jvm.MethodName)) ∈ lw_all := lw_g (lw_at lw_m8 183 rfl) rfl
theorem q1933 : (Jvm.Cond.code ({ cls := "LameClocksModel", name := "skyNow", desc := "()I" } : Jvm.MethodName) prog_24_method_48_code (1 : Nat) (Option.some Jvm.ClassFile.FieldType.int)) ∈ lw_all := lw_g (lw_at lw_m8 184 rfl) rfl
theorem q1934 : (Jvm.Cond.methodLink "LameClocksModel" (226 : Nat) ({ cls := "LameClocksModel", name := "goOn", desc := "(I)I" } : Jvm.MethodName)) ∈ lw_all := lw_g (lw_at lw_m8 185 rfl) rfl
theorem q1936 : (Jvm.Cond.instanceMethod ({ cls := "LameClocksModel", name := "goOn", desc := "(I)I" } : Jvm.MethodName)) ∈ lw_all := lw_g (lw_at lw_m8 187 rfl) rfl
theorem q1937 : (Jvm.Cond.code ({ cls := "LameClocksModel", name := "goOn", desc := "(I)I" } : Jvm.MethodName) prog_24_method_47_code (7 : Nat) (Option.some Jvm.ClassFile.FieldType.int)) ∈ lw_all := lw_g (lw_at lw_m8 188 rfl) rfl
theorem q1938 : (Jvm.Cond.methodLink "LameClocksModel" (197 : Nat) ({ cls := "LameClocksModel", name := "isHome", desc := "(I)Z" } : Jvm.MethodName)) ∈ lw_all := lw_g (lw_at lw_m8 189 rfl) rfl
theorem q1940 : (Jvm.Cond.instanceMethod ({ cls := "LameClocksModel", name := "isHome", desc := "(I)Z" } : Jvm.MethodName)) ∈ lw_all := lw_g (lw_at lw_m8 191 rfl) rfl
theorem q1942 : (Jvm.Cond.methodLink "LameClocksModel" (213 : Nat) ({ cls := "LameClocksModel", name := "goes", desc := "(II)Z" } : Jvm.MethodName)) ∈ lw_all := lw_g (lw_at lw_m8 193 rfl) rfl
theorem q1944 : (Jvm.Cond.instanceMethod ({ cls := "LameClocksModel", name := "goes", desc := "(II)Z" } : Jvm.MethodName)) ∈ lw_all := lw_g (lw_at lw_m8 195 rfl) rfl
theorem q1946 : (Jvm.Cond.methodLink "LameClocksModel" (216 : Nat) ({ cls := "LameClocksModel", name := "strokesOf", desc := "(I)I" } : Jvm.MethodName)) ∈ lw_all := lw_g (lw_at lw_m8 197 rfl) rfl
theorem q1947 : (Jvm.Cond.static ({ cls := "LameClocksModel", name := "strokesOf", desc := "(I)I" } : Jvm.MethodName)) ∈ lw_all := lw_g (lw_at lw_m8 198 rfl) rfl
theorem q1949 : (Jvm.Cond.methodLink "LameClocksModel" (219 : Nat) ({ cls := "LameClocksModel", name := "run", desc := "(I)V" } : Jvm.MethodName)) ∈ lw_all := lw_g (lw_at lw_m8 200 rfl) rfl
theorem q1951 : (Jvm.Cond.instanceMethod ({ cls := "LameClocksModel", name := "run", desc := "(I)V" } : Jvm.MethodName)) ∈ lw_all := lw_g (lw_at lw_m8 202 rfl) rfl
theorem q1956 : (Jvm.Cond.code ({ cls := "LameClocksModel", name := "place", desc := "(I)I" } : Jvm.MethodName) prog_24_method_40_code (2 : Nat) (Option.some Jvm.ClassFile.FieldType.int)) ∈ lw_all := lw_g (lw_at lw_m8 207 rfl) rfl
theorem q1957 : (Jvm.Cond.methodLink "LameClocksModel" (204 : Nat) ({ cls := "LameClocksModel", name := "placeOf", desc := "(I)I" } : Jvm.MethodName)) ∈ lw_all := lw_g (lw_at lw_m8 208 rfl) rfl
theorem q1959 : (Jvm.Cond.instanceMethod ({ cls := "LameClocksModel", name := "placeOf", desc := "(I)I" } : Jvm.MethodName)) ∈ lw_all := lw_g (lw_at lw_m8 210 rfl) rfl
theorem q1960 : (Jvm.Cond.code ({ cls := "LameClocksModel", name := "placeOf", desc := "(I)I" } : Jvm.MethodName) prog_24_method_39_code (4 : Nat) (Option.some Jvm.ClassFile.FieldType.int)) ∈ lw_all := lw_g (lw_at lw_m8 211 rfl) rfl
theorem q1961 : (Jvm.Cond.methodLink "LameClocksModel" (200 : Nat) ({ cls := "LameClocksModel", name := "isAhead", desc := "(II)Z" } : Jvm.MethodName)) ∈ lw_all := lw_g (lw_at lw_m8 212 rfl) rfl
theorem q1963 : (Jvm.Cond.instanceMethod ({ cls := "LameClocksModel", name := "isAhead", desc := "(II)Z" } : Jvm.MethodName)) ∈ lw_all := lw_g (lw_at lw_m8 214 rfl) rfl
theorem q1964 : (Jvm.Cond.code ({ cls := "LameClocksModel", name := "isAhead", desc := "(II)Z" } : Jvm.MethodName) prog_24_method_38_code (3 : Nat) (Option.some Jvm.ClassFile.FieldType.boolean)) ∈ lw_all := lw_g (lw_at lw_m8 215 rfl) rfl
theorem dmS_X3_strokesOf : yX3_strokesOf.cls ≠ "java/lang/invoke/MethodHandle" ∧ yX3_strokesOf.cls ≠ "java/lang/invoke/VarHandle" ∧ (parseMethodDescriptor yX3_strokesOf.desc).map (fun d => d.parameters.length) = some 1 := by decide +kernel
theorem dmV_X3_isHome : yX3_isHome.cls = RX3 ∧ yX3_isHome.cls ≠ "java/lang/invoke/MethodHandle" ∧ yX3_isHome.cls ≠ "java/lang/invoke/VarHandle" ∧ (parseMethodDescriptor yX3_isHome.desc).map (fun d => d.parameters.length) = some 1 := by decide +kernel
theorem dmV_X3_run : yX3_run.cls = RX3 ∧ yX3_run.cls ≠ "java/lang/invoke/MethodHandle" ∧ yX3_run.cls ≠ "java/lang/invoke/VarHandle" ∧ (parseMethodDescriptor yX3_run.desc).map (fun d => d.parameters.length) = some 1 := by decide +kernel
theorem dmV_X3_goes : yX3_goes.cls = RX3 ∧ yX3_goes.cls ≠ "java/lang/invoke/MethodHandle" ∧ yX3_goes.cls ≠ "java/lang/invoke/VarHandle" ∧ (parseMethodDescriptor yX3_goes.desc).map (fun d => d.parameters.length) = some 2 := by decide +kernel
theorem fo_X3_29 : g_fo RX3 29 [3] 7 := ⟨_, _, _, Or.inl q1687, fun ci h => by rcases List.mem_singleton.mp h with rfl; exact ⟨_, _, _, rfl, by decide, rfl, rfl, Or.inl rfl, in_X3⟩⟩
theorem dmV_X3_skyNow : yX3_skyNow.cls = RX3 ∧ yX3_skyNow.cls ≠ "java/lang/invoke/MethodHandle" ∧ yX3_skyNow.cls ≠ "java/lang/invoke/VarHandle" ∧ (parseMethodDescriptor yX3_skyNow.desc).map (fun d => d.parameters.length) = some 0 := by decide +kernel
theorem dmV_X3_goOn : yX3_goOn.cls = RX3 ∧ yX3_goOn.cls ≠ "java/lang/invoke/MethodHandle" ∧ yX3_goOn.cls ≠ "java/lang/invoke/VarHandle" ∧ (parseMethodDescriptor yX3_goOn.desc).map (fun d => d.parameters.length) = some 1 := by decide +kernel
theorem dmV_X3_addHands : yX3_addHands.cls = RX3 ∧ yX3_addHands.cls ≠ "java/lang/invoke/MethodHandle" ∧ yX3_addHands.cls ≠ "java/lang/invoke/VarHandle" ∧ (parseMethodDescriptor yX3_addHands.desc).map (fun d => d.parameters.length) = some 2 := by decide +kernel
theorem dmV_X3_addSpring : yX3_addSpring.cls = RX3 ∧ yX3_addSpring.cls ≠ "java/lang/invoke/MethodHandle" ∧ yX3_addSpring.cls ≠ "java/lang/invoke/VarHandle" ∧ (parseMethodDescriptor yX3_addSpring.desc).map (fun d => d.parameters.length) = some 2 := by decide +kernel
theorem dmV_X3_hour : yX3_hour.cls = RX3 ∧ yX3_hour.cls ≠ "java/lang/invoke/MethodHandle" ∧ yX3_hour.cls ≠ "java/lang/invoke/VarHandle" ∧ (parseMethodDescriptor yX3_hour.desc).map (fun d => d.parameters.length) = some 0 := by decide +kernel
theorem dmV_X3_breathe : yX3_breathe.cls = RX3 ∧ yX3_breathe.cls ≠ "java/lang/invoke/MethodHandle" ∧ yX3_breathe.cls ≠ "java/lang/invoke/VarHandle" ∧ (parseMethodDescriptor yX3_breathe.desc).map (fun d => d.parameters.length) = some 1 := by decide +kernel
theorem dmV_X3_turn : yX3_turn.cls = RX3 ∧ yX3_turn.cls ≠ "java/lang/invoke/MethodHandle" ∧ yX3_turn.cls ≠ "java/lang/invoke/VarHandle" ∧ (parseMethodDescriptor yX3_turn.desc).map (fun d => d.parameters.length) = some 2 := by decide +kernel
theorem dmV_X3_wind : yX3_wind.cls = RX3 ∧ yX3_wind.cls ≠ "java/lang/invoke/MethodHandle" ∧ yX3_wind.cls ≠ "java/lang/invoke/VarHandle" ∧ (parseMethodDescriptor yX3_wind.desc).map (fun d => d.parameters.length) = some 2 := by decide +kernel
theorem dmV_X3_readAct : yX3_readAct.cls = RX3 ∧ yX3_readAct.cls ≠ "java/lang/invoke/MethodHandle" ∧ yX3_readAct.cls ≠ "java/lang/invoke/VarHandle" ∧ (parseMethodDescriptor yX3_readAct.desc).map (fun d => d.parameters.length) = some 1 := by decide +kernel
theorem dmV_X3_does : yX3_does.cls = RX3 ∧ yX3_does.cls ≠ "java/lang/invoke/MethodHandle" ∧ yX3_does.cls ≠ "java/lang/invoke/VarHandle" ∧ (parseMethodDescriptor yX3_does.desc).map (fun d => d.parameters.length) = some 1 := by decide +kernel
theorem dmV_X3_readDay : yX3_readDay.cls = RX3 ∧ yX3_readDay.cls ≠ "java/lang/invoke/MethodHandle" ∧ yX3_readDay.cls ≠ "java/lang/invoke/VarHandle" ∧ (parseMethodDescriptor yX3_readDay.desc).map (fun d => d.parameters.length) = some 0 := by decide +kernel
theorem dmV_X3_isAhead : yX3_isAhead.cls = RX3 ∧ yX3_isAhead.cls ≠ "java/lang/invoke/MethodHandle" ∧ yX3_isAhead.cls ≠ "java/lang/invoke/VarHandle" ∧ (parseMethodDescriptor yX3_isAhead.desc).map (fun d => d.parameters.length) = some 2 := by decide +kernel
theorem dmV_X3_placeOf : yX3_placeOf.cls = RX3 ∧ yX3_placeOf.cls ≠ "java/lang/invoke/MethodHandle" ∧ yX3_placeOf.cls ≠ "java/lang/invoke/VarHandle" ∧ (parseMethodDescriptor yX3_placeOf.desc).map (fun d => d.parameters.length) = some 1 := by decide +kernel
section MP
variable {Γ : Gc} {p : Program} {l : Launch} {e : Env} {s : State} {m : MethodId} {args : Array Value} {below : List Frame} {meth : Method} {c : Code} {mo : Nat} {ρ : Sg} {sz : Nat} {tF : MS}
def fX3_goOn_180 (kc20 : Int32 → Int32 → Int32 → MS → Option (Int32 × MS)) (x1 : Int32) (x2 : Int32) (x3 : Int32) (t : MS) : Option (Int32 × MS) := kc20 x1 x2 (x3 + 1) t
set_option maxHeartbeats 4000000 in
theorem wX3_goOn_180 {rF : Int32} (X : g_X Γ p s m args meth c cX3_goOn 7 RX3) (hr : meth.sig.returnType = (Option.some Jvm.ClassFile.FieldType.int)) {kc20 : Int32 → Int32 → Int32 → MS → Option (Int32 × MS)} (hk20 : ∀ (x1 : Int32) (x2 : Int32) (x3 : Int32) (t : MS), Wf Γ p l e 4 86 s m args below meth c 7 (m_ι mo ρ sz) v_i rF tF 20 [(0, .ref mo), (1, .int x1), (2, .int x2), (3, .int x3)] [] t (kc20 x1 x2 x3 t)) (x1 : Int32) (x2 : Int32) (x3 : Int32) (t : MS) : Wf Γ p l e 4 86 s m args below meth c 7 (m_ι mo ρ sz) v_i rF tF 180 [(0, .ref mo), (1, .int x1), (2, .int x2), (3, .int x3)] [] t (fX3_goOn_180 kc20 x1 x2 x3 t) := by
  unfold fX3_goOn_180
  refine g_iinc (pc := 180) X 1 3 (lv' := [(3, .int (x3 + 1)), (0, .ref mo), (1, .int x1), (2, .int x2)]) dX3_goOn_180 rfl rfl (by decide) rfl ?_
  refine g_goto (pc := 183) X 20 dX3_goOn_183 (by decide) ?_
  exact g_lv (pc := 20) (lv' := [(0, .ref mo), (1, .int x1), (2, .int x2), (3, .int (x3 + 1))]) [1, 2, 3, 0] rfl (hk20 x1 x2 (x3 + 1) t)
def fX3_goOn_175 (kc20 : Int32 → Int32 → Int32 → MS → Option (Int32 × MS)) (x1 : Int32) (x2 : Int32) (x3 : Int32) (s0 : Int32) (s1 : Int32) (s2 : Int32) (t : MS) : Option (Int32 × MS) := mast t 0 63 s2 (s1 + s0) fun t1 => fX3_goOn_180 kc20 x1 (x2 + 1) x3 t1
set_option maxHeartbeats 4000000 in
theorem wX3_goOn_175 {rF : Int32} (X : g_X Γ p s m args meth c cX3_goOn 7 RX3) (hr : meth.sig.returnType = (Option.some Jvm.ClassFile.FieldType.int)) {kc20 : Int32 → Int32 → Int32 → MS → Option (Int32 × MS)} (hk20 : ∀ (x1 : Int32) (x2 : Int32) (x3 : Int32) (t : MS), Wf Γ p l e 4 86 s m args below meth c 7 (m_ι mo ρ sz) v_i rF tF 20 [(0, .ref mo), (1, .int x1), (2, .int x2), (3, .int x3)] [] t (kc20 x1 x2 x3 t)) (x1 : Int32) (x2 : Int32) (x3 : Int32) (s0 : Int32) (s1 : Int32) (s2 : Int32) (t : MS) : Wf Γ p l e 4 86 s m args below meth c 7 (m_ι mo ρ sz) v_i rF tF 175 [(0, .ref mo), (1, .int x1), (2, .int x2), (3, .int x3)] [.int s0, .int s1, .int s2, .ref (mo + 1)] t (fX3_goOn_175 kc20 x1 x2 x3 s0 s1 s2 t) := by
  unfold fX3_goOn_175
  refine g_iadd (pc := 175) X dX3_goOn_175 ?_
  refine mg_ast (pc := 176) X (j := 0) dX3_goOn_176 (by decide) rfl (fun t1 => ?_)
  refine g_iinc (pc := 177) X 1 2 (lv' := [(2, .int (x2 + 1)), (0, .ref mo), (1, .int x1), (3, .int x3)]) dX3_goOn_177 rfl rfl (by decide) rfl ?_
  exact g_lv (pc := 180) (lv' := [(0, .ref mo), (1, .int x1), (2, .int (x2 + 1)), (3, .int x3)]) [1, 2, 0, 3] rfl (wX3_goOn_180 X hr hk20 x1 (x2 + 1) x3 t1)
def fX3_goOn_151 (kc20 : Int32 → Int32 → Int32 → MS → Option (Int32 × MS)) (x1 : Int32) (x2 : Int32) (x3 : Int32) (x5 : Int32) (s0 : Int32) (s1 : Int32) (s2 : Int32) (t : MS) : Option (Int32 × MS) := mast t 0 63 s2 (s1 ||| s0) fun t1 => mald t1 0 63 62 fun v2 => if x1 = 2 then fX3_goOn_175 kc20 x1 x2 x3 0 v2 62 t1 else gm (fX3_strokesOf x5 t1) fun r3 t4 => fX3_goOn_175 kc20 x1 x2 x3 r3 v2 62 t4
set_option maxHeartbeats 4000000 in
theorem wX3_goOn_151 {rF : Int32} (X : g_X Γ p s m args meth c cX3_goOn 7 RX3) (hr : meth.sig.returnType = (Option.some Jvm.ClassFile.FieldType.int)) {kc20 : Int32 → Int32 → Int32 → MS → Option (Int32 × MS)} (hk20 : ∀ (x1 : Int32) (x2 : Int32) (x3 : Int32) (t : MS), Wf Γ p l e 4 86 s m args below meth c 7 (m_ι mo ρ sz) v_i rF tF 20 [(0, .ref mo), (1, .int x1), (2, .int x2), (3, .int x3)] [] t (kc20 x1 x2 x3 t)) (x1 : Int32) (x2 : Int32) (x3 : Int32) (x5 : Int32) (s0 : Int32) (s1 : Int32) (s2 : Int32) (t : MS) : Wf Γ p l e 4 86 s m args below meth c 7 (m_ι mo ρ sz) v_i rF tF 151 [(0, .ref mo), (1, .int x1), (2, .int x2), (3, .int x3), (5, .int x5)] [.int s0, .int s1, .int s2, .ref (mo + 1)] t (fX3_goOn_151 kc20 x1 x2 x3 x5 s0 s1 s2 t) := by
  unfold fX3_goOn_151
  refine g_ior (pc := 151) X dX3_goOn_151 ?_
  refine mg_ast (pc := 152) X (j := 0) dX3_goOn_152 (by decide) rfl (fun t1 => ?_)
  refine g_aload_n (pc := 153) X 0 dX3_goOn_153 rfl rfl ?_
  refine mg_get (pc := 154) X fo_X3_7 dX3_goOn_154 rfl ?_
  refine g_bipush (pc := 157) X 62 dX3_goOn_157 rfl ?_
  refine g_dup2 (pc := 159) X dX3_goOn_159 rfl rfl ?_
  refine mg_ald (pc := 160) X (j := 0) dX3_goOn_160 (by decide) rfl (fun v2 => ?_)
  refine g_iload_n (pc := 161) X 1 dX3_goOn_161 rfl rfl ?_
  refine g_iconst (pc := 162) X 2 dX3_goOn_162 rfl ?_
  refine g_icmp_ne (pc := 163) X 170 dX3_goOn_163 (by decide) ?_ ?_
  · refine g_iload (pc := 170) X 4 dX3_goOn_170 rfl ?_
    refine g_mS_i (pc := 172) X (y := yX3_strokesOf) (As := [.int x5]) (rest := [.int v2, .int 62, .ref (mo + 1)]) (fr' := 0) (lo' := 0) (fun _ => va_cwS 1 X.2.2.2.2.1 (lw_S q1946 q1947 q76 q1948) rfl rfl rfl dmS_X3_strokesOf ⟨Nat.le_of_ble_eq_true rfl, Nat.le_of_ble_eq_true rfl⟩) dX3_goOn_172 rfl rfl (Nat.le_of_ble_eq_true rfl) (fun _ => rfl) (fun r u h => kX3_strokesOf h) (fun r3 t4 => ?_)
    exact g_lv (pc := 175) (lv' := [(0, .ref mo), (1, .int x1), (2, .int x2), (3, .int x3)]) [0, 1, 2, 3] rfl (wX3_goOn_175 X hr hk20 x1 x2 x3 r3 v2 62 t4)
  · refine g_iconst (pc := 166) X 0 dX3_goOn_166 rfl ?_
    refine g_goto (pc := 167) X 175 dX3_goOn_167 (by decide) ?_
    exact g_lv (pc := 175) (lv' := [(0, .ref mo), (1, .int x1), (2, .int x2), (3, .int x3)]) [0, 1, 2, 3] rfl (wX3_goOn_175 X hr hk20 x1 x2 x3 0 v2 62 t1)
def fX3_goOn_130 (kc20 : Int32 → Int32 → Int32 → MS → Option (Int32 × MS)) (x1 : Int32) (x2 : Int32) (x3 : Int32) (x5 : Int32) (s0 : Int32) (s1 : Int32) (t : MS) : Option (Int32 × MS) := mast t 0 63 s1 s0 fun t1 => mald t1 0 63 61 fun v2 => if x1 = 2 then fX3_goOn_151 kc20 x1 x2 x3 x5 0 v2 61 t1 else fX3_goOn_151 kc20 x1 x2 x3 x5 (1 <<< (x3 &&& 31)) v2 61 t1
set_option maxHeartbeats 4000000 in
theorem wX3_goOn_130 {rF : Int32} (X : g_X Γ p s m args meth c cX3_goOn 7 RX3) (hr : meth.sig.returnType = (Option.some Jvm.ClassFile.FieldType.int)) {kc20 : Int32 → Int32 → Int32 → MS → Option (Int32 × MS)} (hk20 : ∀ (x1 : Int32) (x2 : Int32) (x3 : Int32) (t : MS), Wf Γ p l e 4 86 s m args below meth c 7 (m_ι mo ρ sz) v_i rF tF 20 [(0, .ref mo), (1, .int x1), (2, .int x2), (3, .int x3)] [] t (kc20 x1 x2 x3 t)) (x1 : Int32) (x2 : Int32) (x3 : Int32) (x5 : Int32) (s0 : Int32) (s1 : Int32) (t : MS) : Wf Γ p l e 4 86 s m args below meth c 7 (m_ι mo ρ sz) v_i rF tF 130 [(0, .ref mo), (1, .int x1), (2, .int x2), (3, .int x3), (5, .int x5)] [.int s0, .int s1, .ref (mo + 1)] t (fX3_goOn_130 kc20 x1 x2 x3 x5 s0 s1 t) := by
  unfold fX3_goOn_130
  refine mg_ast (pc := 130) X (j := 0) dX3_goOn_130 (by decide) rfl (fun t1 => ?_)
  refine g_aload_n (pc := 131) X 0 dX3_goOn_131 rfl rfl ?_
  refine mg_get (pc := 132) X fo_X3_7 dX3_goOn_132 rfl ?_
  refine g_bipush (pc := 135) X 61 dX3_goOn_135 rfl ?_
  refine g_dup2 (pc := 137) X dX3_goOn_137 rfl rfl ?_
  refine mg_ald (pc := 138) X (j := 0) dX3_goOn_138 (by decide) rfl (fun v2 => ?_)
  refine g_iload_n (pc := 139) X 1 dX3_goOn_139 rfl rfl ?_
  refine g_iconst (pc := 140) X 2 dX3_goOn_140 rfl ?_
  refine g_icmp_ne (pc := 141) X 148 dX3_goOn_141 (by decide) ?_ ?_
  · refine g_iconst (pc := 148) X 1 dX3_goOn_148 rfl ?_
    refine g_iload_n (pc := 149) X 3 dX3_goOn_149 rfl rfl ?_
    refine g_ishl (pc := 150) X dX3_goOn_150 ?_
    exact g_lv (pc := 151) (lv' := [(0, .ref mo), (1, .int x1), (2, .int x2), (3, .int x3), (5, .int x5)]) [0, 1, 2, 3, 4] rfl (wX3_goOn_151 X hr hk20 x1 x2 x3 x5 (1 <<< (x3 &&& 31)) v2 61 t1)
  · refine g_iconst (pc := 144) X 0 dX3_goOn_144 rfl ?_
    refine g_goto (pc := 145) X 151 dX3_goOn_145 (by decide) ?_
    exact g_lv (pc := 151) (lv' := [(0, .ref mo), (1, .int x1), (2, .int x2), (3, .int x3), (5, .int x5)]) [0, 1, 2, 3, 4] rfl (wX3_goOn_151 X hr hk20 x1 x2 x3 x5 0 v2 61 t1)
def fX3_goOn_89 (kc20 : Int32 → Int32 → Int32 → MS → Option (Int32 × MS)) (x1 : Int32) (x2 : Int32) (x3 : Int32) (x4 : Int32) (x5 : Int32) (s0 : Int32) (t : MS) : Option (Int32 × MS) := mast t 0 63 x4 x5 fun t1 => if s0 ≤ (t1.1 4) - 1 then fX3_goOn_130 kc20 x1 x2 x3 x5 s0 (42 + x3) t1 else fX3_goOn_130 kc20 x1 x2 x3 x5 ((t1.1 4) - 1) (42 + x3) t1
set_option maxHeartbeats 4000000 in
theorem wX3_goOn_89 {rF : Int32} (X : g_X Γ p s m args meth c cX3_goOn 7 RX3) (hr : meth.sig.returnType = (Option.some Jvm.ClassFile.FieldType.int)) {kc20 : Int32 → Int32 → Int32 → MS → Option (Int32 × MS)} (hk20 : ∀ (x1 : Int32) (x2 : Int32) (x3 : Int32) (t : MS), Wf Γ p l e 4 86 s m args below meth c 7 (m_ι mo ρ sz) v_i rF tF 20 [(0, .ref mo), (1, .int x1), (2, .int x2), (3, .int x3)] [] t (kc20 x1 x2 x3 t)) (x1 : Int32) (x2 : Int32) (x3 : Int32) (x4 : Int32) (x5 : Int32) (s0 : Int32) (t : MS) : Wf Γ p l e 4 86 s m args below meth c 7 (m_ι mo ρ sz) v_i rF tF 89 [(0, .ref mo), (1, .int x1), (2, .int x2), (3, .int x3), (4, .int x4), (5, .int x5)] [.int s0] t (fX3_goOn_89 kc20 x1 x2 x3 x4 x5 s0 t) := by
  unfold fX3_goOn_89
  refine g_istore (pc := 89) X (lv' := [(6, .int s0), (0, .ref mo), (1, .int x1), (2, .int x2), (3, .int x3), (4, .int x4), (5, .int x5)]) dX3_goOn_89 (by decide) rfl ?_
  refine g_aload_n (pc := 91) X 1 dX3_goOn_91 rfl rfl ?_
  refine mg_get (pc := 92) X fo_X3_7 dX3_goOn_92 rfl ?_
  refine g_iload (pc := 95) X 5 dX3_goOn_95 rfl ?_
  refine g_iload (pc := 97) X 6 dX3_goOn_97 rfl ?_
  refine mg_ast (pc := 99) X (j := 0) dX3_goOn_99 (by decide) rfl (fun t1 => ?_)
  refine g_aload_n (pc := 100) X 1 dX3_goOn_100 rfl rfl ?_
  refine mg_get (pc := 101) X fo_X3_7 dX3_goOn_101 rfl ?_
  refine g_bipush (pc := 104) X 42 dX3_goOn_104 rfl ?_
  refine g_iload_n (pc := 106) X 4 dX3_goOn_106 rfl rfl ?_
  refine g_iadd (pc := 107) X dX3_goOn_107 ?_
  refine g_iload (pc := 108) X 0 dX3_goOn_108 rfl ?_
  refine g_aload_n (pc := 110) X 1 dX3_goOn_110 rfl rfl ?_
  refine mg_get (pc := 111) X fo_X3_19 dX3_goOn_111 rfl ?_
  refine g_iconst (pc := 114) X 1 dX3_goOn_114 rfl ?_
  refine g_isub (pc := 115) X dX3_goOn_115 ?_
  refine g_icmp_le (pc := 116) X 128 dX3_goOn_116 (by decide) ?_ ?_
  · refine g_iload (pc := 128) X 0 dX3_goOn_128 rfl ?_
    exact g_lv (pc := 130) (lv' := [(0, .ref mo), (1, .int x1), (2, .int x2), (3, .int x3), (5, .int x5)]) [1, 2, 3, 4, 6] rfl (wX3_goOn_130 X hr hk20 x1 x2 x3 x5 s0 (42 + x3) t1)
  · refine g_aload_n (pc := 119) X 1 dX3_goOn_119 rfl rfl ?_
    refine mg_get (pc := 120) X fo_X3_19 dX3_goOn_120 rfl ?_
    refine g_iconst (pc := 123) X 1 dX3_goOn_123 rfl ?_
    refine g_isub (pc := 124) X dX3_goOn_124 ?_
    refine g_goto (pc := 125) X 130 dX3_goOn_125 (by decide) ?_
    exact g_lv (pc := 130) (lv' := [(0, .ref mo), (1, .int x1), (2, .int x2), (3, .int x3), (5, .int x5)]) [1, 2, 3, 4, 6] rfl (wX3_goOn_130 X hr hk20 x1 x2 x3 x5 ((t1.1 4) - 1) (42 + x3) t1)
def fX3_goOn_85 (kc20 : Int32 → Int32 → Int32 → MS → Option (Int32 × MS)) (x1 : Int32) (x2 : Int32) (x3 : Int32) (x4 : Int32) (x5 : Int32) (t : MS) : Option (Int32 × MS) := fX3_goOn_89 kc20 x1 x2 x3 x4 x5 (x4 + 1) t
set_option maxHeartbeats 4000000 in
theorem wX3_goOn_85 {rF : Int32} (X : g_X Γ p s m args meth c cX3_goOn 7 RX3) (hr : meth.sig.returnType = (Option.some Jvm.ClassFile.FieldType.int)) {kc20 : Int32 → Int32 → Int32 → MS → Option (Int32 × MS)} (hk20 : ∀ (x1 : Int32) (x2 : Int32) (x3 : Int32) (t : MS), Wf Γ p l e 4 86 s m args below meth c 7 (m_ι mo ρ sz) v_i rF tF 20 [(0, .ref mo), (1, .int x1), (2, .int x2), (3, .int x3)] [] t (kc20 x1 x2 x3 t)) (x1 : Int32) (x2 : Int32) (x3 : Int32) (x4 : Int32) (x5 : Int32) (t : MS) : Wf Γ p l e 4 86 s m args below meth c 7 (m_ι mo ρ sz) v_i rF tF 85 [(0, .ref mo), (1, .int x1), (2, .int x2), (3, .int x3), (4, .int x4), (5, .int x5)] [] t (fX3_goOn_85 kc20 x1 x2 x3 x4 x5 t) := by
  unfold fX3_goOn_85
  refine g_iload (pc := 85) X 4 dX3_goOn_85 rfl ?_
  refine g_iconst (pc := 87) X 1 dX3_goOn_87 rfl ?_
  refine g_iadd (pc := 88) X dX3_goOn_88 ?_
  exact g_lv (pc := 89) (lv' := [(0, .ref mo), (1, .int x1), (2, .int x2), (3, .int x3), (4, .int x4), (5, .int x5)]) [0, 1, 2, 3, 4, 5] rfl (wX3_goOn_89 X hr hk20 x1 x2 x3 x4 x5 (x4 + 1) t)
def fX3_goOn_277 (kc220 : Int32 → Int32 → MS → Option (Int32 × MS)) (x2 : Int32) (x3 : Int32) (s0 : Int32) (s1 : Int32) (t : MS) : Option (Int32 × MS) := mast t 0 63 s1 s0 fun t1 => kc220 x2 (x3 + 1) t1
set_option maxHeartbeats 4000000 in
theorem wX3_goOn_277 {rF : Int32} (X : g_X Γ p s m args meth c cX3_goOn 7 RX3) (hr : meth.sig.returnType = (Option.some Jvm.ClassFile.FieldType.int)) {kc220 : Int32 → Int32 → MS → Option (Int32 × MS)} (hk220 : ∀ (x2 : Int32) (x3 : Int32) (t : MS), Wf Γ p l e 4 86 s m args below meth c 7 (m_ι mo ρ sz) v_i rF tF 220 [(0, .ref mo), (2, .int x2), (3, .int x3)] [] t (kc220 x2 x3 t)) (x2 : Int32) (x3 : Int32) (s0 : Int32) (s1 : Int32) (t : MS) : Wf Γ p l e 4 86 s m args below meth c 7 (m_ι mo ρ sz) v_i rF tF 277 [(0, .ref mo), (2, .int x2), (3, .int x3)] [.int s0, .int s1, .ref (mo + 1)] t (fX3_goOn_277 kc220 x2 x3 s0 s1 t) := by
  unfold fX3_goOn_277
  refine mg_ast (pc := 277) X (j := 0) dX3_goOn_277 (by decide) rfl (fun t1 => ?_)
  refine g_iinc (pc := 278) X 1 2 (lv' := [(3, .int (x3 + 1)), (0, .ref mo), (2, .int x2)]) dX3_goOn_278 rfl rfl (by decide) rfl ?_
  refine g_goto (pc := 281) X 220 dX3_goOn_281 (by decide) ?_
  exact g_lv (pc := 220) (lv' := [(0, .ref mo), (2, .int x2), (3, .int (x3 + 1))]) [1, 2, 0] rfl (hk220 x2 (x3 + 1) t1)
def fX3_goOn_268 (kc220 : Int32 → Int32 → MS → Option (Int32 × MS)) (x2 : Int32) (x3 : Int32) (s0 : Int32) (t : MS) : Option (Int32 × MS) := mald t 0 63 (51 + x3) fun v1 => fX3_goOn_277 kc220 x2 x3 v1 s0 t
set_option maxHeartbeats 4000000 in
theorem wX3_goOn_268 {rF : Int32} (X : g_X Γ p s m args meth c cX3_goOn 7 RX3) (hr : meth.sig.returnType = (Option.some Jvm.ClassFile.FieldType.int)) {kc220 : Int32 → Int32 → MS → Option (Int32 × MS)} (hk220 : ∀ (x2 : Int32) (x3 : Int32) (t : MS), Wf Γ p l e 4 86 s m args below meth c 7 (m_ι mo ρ sz) v_i rF tF 220 [(0, .ref mo), (2, .int x2), (3, .int x3)] [] t (kc220 x2 x3 t)) (x2 : Int32) (x3 : Int32) (s0 : Int32) (t : MS) : Wf Γ p l e 4 86 s m args below meth c 7 (m_ι mo ρ sz) v_i rF tF 268 [(0, .ref mo), (2, .int x2), (3, .int x3)] [.int s0, .ref (mo + 1)] t (fX3_goOn_268 kc220 x2 x3 s0 t) := by
  unfold fX3_goOn_268
  refine g_aload_n (pc := 268) X 0 dX3_goOn_268 rfl rfl ?_
  refine mg_get (pc := 269) X fo_X3_7 dX3_goOn_269 rfl ?_
  refine g_bipush (pc := 272) X 51 dX3_goOn_272 rfl ?_
  refine g_iload_n (pc := 274) X 2 dX3_goOn_274 rfl rfl ?_
  refine g_iadd (pc := 275) X dX3_goOn_275 ?_
  refine mg_ald (pc := 276) X (j := 0) dX3_goOn_276 (by decide) rfl (fun v1 => ?_)
  exact g_lv (pc := 277) (lv' := [(0, .ref mo), (2, .int x2), (3, .int x3)]) [0, 1, 2] rfl (wX3_goOn_277 X hr hk220 x2 x3 v1 s0 t)
def fX3_goOn_220 : Nat → Int32 → Int32 → MS → Option (Int32 × MS)
  | 0, _, _, _ => none
  | n + 1, x2, x3, t => if t.1 3 ≤ x3 then some (x2, t) else gm (fX3_isHome x3 t) fun r1 t2 => if r1 = 0 then fX3_goOn_268 (fun a0 a1 a2 => fX3_goOn_220 n a0 a1 a2) x2 x3 (51 + x3) t2 else mald t2 0 63 (51 + x3) fun v3 => if v3 = (-4) then mald t2 0 63 60 fun v4 => fX3_goOn_277 (fun a0 a1 a2 => fX3_goOn_220 n a0 a1 a2) x2 x3 v4 (51 + x3) t2 else fX3_goOn_268 (fun a0 a1 a2 => fX3_goOn_220 n a0 a1 a2) x2 x3 (51 + x3) t2
set_option maxHeartbeats 4000000 in
theorem wX3_goOn_220 {rF : Int32} (X : g_X Γ p s m args meth c cX3_goOn 7 RX3) (hr : meth.sig.returnType = (Option.some Jvm.ClassFile.FieldType.int)) (n : Nat) : ∀ (x2 : Int32) (x3 : Int32) (t : MS), Wf Γ p l e 4 86 s m args below meth c 7 (m_ι mo ρ sz) v_i rF tF 220 [(0, .ref mo), (2, .int x2), (3, .int x3)] [] t (fX3_goOn_220 n x2 x3 t) := by
  induction n with
  | zero => intro x2 x3 t; exact g_none
  | succ n ih =>
    intro x2 x3 t
    rw [fX3_goOn_220]
    refine g_iload_n (pc := 220) X 2 dX3_goOn_220 rfl rfl ?_
    refine g_aload_n (pc := 221) X 0 dX3_goOn_221 rfl rfl ?_
    refine mg_get (pc := 222) X fo_X3_72 dX3_goOn_222 rfl ?_
    refine g_icmp_ge (pc := 225) X 284 dX3_goOn_225 (by decide) ?_ ?_
    · refine g_iload_n (pc := 284) X 1 dX3_goOn_284 rfl rfl ?_
      exact g_iret (pc := 285) X hr dX3_goOn_285
    · refine g_aload_n (pc := 228) X 0 dX3_goOn_228 rfl rfl ?_
      refine mg_get (pc := 229) X fo_X3_7 dX3_goOn_229 rfl ?_
      refine g_bipush (pc := 232) X 51 dX3_goOn_232 rfl ?_
      refine g_iload_n (pc := 234) X 2 dX3_goOn_234 rfl rfl ?_
      refine g_iadd (pc := 235) X dX3_goOn_235 ?_
      refine g_aload_n (pc := 236) X 0 dX3_goOn_236 rfl rfl ?_
      refine g_iload_n (pc := 237) X 2 dX3_goOn_237 rfl rfl ?_
      refine g_mV_i (pc := 238) X (C := RX3) (y := yX3_isHome) (As := [.int x3]) (rest := [.int (51 + x3), .ref (mo + 1)]) (fr' := 0) (lo' := 0) (fun _ => cwV 1 X.2.2.2.2.1 (lw_V q1938 q1940 qs52 q76 q1941) rfl rfl rfl dmV_X3_isHome ⟨Nat.le_of_ble_eq_true rfl, Nat.le_of_ble_eq_true rfl⟩) dX3_goOn_238 MC_o ⟨_, _, rfl⟩ rfl rfl (Nat.le_of_ble_eq_true rfl) (fun _ => rfl) (fun r u h => kX3_isHome h) (fun r1 t2 => ?_)
      refine g_if_eq (pc := 241) X 268 dX3_goOn_241 (by decide) ?_ ?_
      · exact g_lv (pc := 268) (lv' := [(0, .ref mo), (2, .int x2), (3, .int x3)]) [0, 1, 2] rfl (wX3_goOn_268 X hr (fun a0 a1 a2 => ih a0 a1 a2) x2 x3 (51 + x3) t2)
      · refine g_aload_n (pc := 244) X 0 dX3_goOn_244 rfl rfl ?_
        refine mg_get (pc := 245) X fo_X3_7 dX3_goOn_245 rfl ?_
        refine g_bipush (pc := 248) X 51 dX3_goOn_248 rfl ?_
        refine g_iload_n (pc := 250) X 2 dX3_goOn_250 rfl rfl ?_
        refine g_iadd (pc := 251) X dX3_goOn_251 ?_
        refine mg_ald (pc := 252) X (j := 0) dX3_goOn_252 (by decide) rfl (fun v3 => ?_)
        refine g_bipush (pc := 253) X (-4) dX3_goOn_253 rfl ?_
        refine g_icmp_ne (pc := 255) X 268 dX3_goOn_255 (by decide) ?_ ?_
        · exact g_lv (pc := 268) (lv' := [(0, .ref mo), (2, .int x2), (3, .int x3)]) [0, 1, 2] rfl (wX3_goOn_268 X hr (fun a0 a1 a2 => ih a0 a1 a2) x2 x3 (51 + x3) t2)
        · refine g_aload_n (pc := 258) X 0 dX3_goOn_258 rfl rfl ?_
          refine mg_get (pc := 259) X fo_X3_7 dX3_goOn_259 rfl ?_
          refine g_bipush (pc := 262) X 60 dX3_goOn_262 rfl ?_
          refine mg_ald (pc := 264) X (j := 0) dX3_goOn_264 (by decide) rfl (fun v4 => ?_)
          refine g_goto (pc := 265) X 277 dX3_goOn_265 (by decide) ?_
          exact g_lv (pc := 277) (lv' := [(0, .ref mo), (2, .int x2), (3, .int x3)]) [0, 1, 2] rfl (wX3_goOn_277 X hr (fun a0 a1 a2 => ih a0 a1 a2) x2 x3 v4 (51 + x3) t2)
def fX3_goOn_188 : Nat → Int32 → Int32 → MS → Option (Int32 × MS)
  | 0, _, _, _ => none
  | n + 1, x2, x3, t => if t.1 3 ≤ x3 then mald t 0 63 60 fun v1 => mast t 0 63 60 (v1 + 1) fun t2 => fX3_goOn_220 1000 x2 0 t2 else gm (fX3_run x3 t) fun _ t4 => fX3_goOn_188 n x2 (x3 + 1) t4
set_option maxHeartbeats 4000000 in
theorem wX3_goOn_188 {rF : Int32} (X : g_X Γ p s m args meth c cX3_goOn 7 RX3) (hr : meth.sig.returnType = (Option.some Jvm.ClassFile.FieldType.int)) (n : Nat) : ∀ (x2 : Int32) (x3 : Int32) (t : MS), Wf Γ p l e 4 86 s m args below meth c 7 (m_ι mo ρ sz) v_i rF tF 188 [(0, .ref mo), (2, .int x2), (3, .int x3)] [] t (fX3_goOn_188 n x2 x3 t) := by
  induction n with
  | zero => intro x2 x3 t; exact g_none
  | succ n ih =>
    intro x2 x3 t
    rw [fX3_goOn_188]
    refine g_iload_n (pc := 188) X 2 dX3_goOn_188 rfl rfl ?_
    refine g_aload_n (pc := 189) X 0 dX3_goOn_189 rfl rfl ?_
    refine mg_get (pc := 190) X fo_X3_72 dX3_goOn_190 rfl ?_
    refine g_icmp_ge (pc := 193) X 207 dX3_goOn_193 (by decide) ?_ ?_
    · refine g_aload_n (pc := 207) X 0 dX3_goOn_207 rfl rfl ?_
      refine mg_get (pc := 208) X fo_X3_7 dX3_goOn_208 rfl ?_
      refine g_bipush (pc := 211) X 60 dX3_goOn_211 rfl ?_
      refine g_dup2 (pc := 213) X dX3_goOn_213 rfl rfl ?_
      refine mg_ald (pc := 214) X (j := 0) dX3_goOn_214 (by decide) rfl (fun v1 => ?_)
      refine g_iconst (pc := 215) X 1 dX3_goOn_215 rfl ?_
      refine g_iadd (pc := 216) X dX3_goOn_216 ?_
      refine mg_ast (pc := 217) X (j := 0) dX3_goOn_217 (by decide) rfl (fun t2 => ?_)
      refine g_iconst (pc := 218) X 0 dX3_goOn_218 rfl ?_
      refine g_istore_n (pc := 219) X (lv' := [(3, .int 0), (0, .ref mo), (2, .int x2)]) dX3_goOn_219 rfl (by decide) rfl ?_
      exact g_lv (pc := 220) (lv' := [(0, .ref mo), (2, .int x2), (3, .int 0)]) [1, 2, 0] rfl (wX3_goOn_220 X hr 1000 x2 0 t2)
    · refine g_aload_n (pc := 196) X 0 dX3_goOn_196 rfl rfl ?_
      refine g_iload_n (pc := 197) X 2 dX3_goOn_197 rfl rfl ?_
      refine g_mV_v (pc := 198) X (C := RX3) (y := yX3_run) (As := [.int x3]) (rest := []) (fr' := 0) (lo' := 0) (fun _ => cwV 1 X.2.2.2.2.1 (lw_V q1949 q1951 qs54 q76 q1952) rfl rfl rfl dmV_X3_run ⟨Nat.le_of_ble_eq_true rfl, Nat.le_of_ble_eq_true rfl⟩) dX3_goOn_198 MC_o ⟨_, _, rfl⟩ rfl rfl (Nat.le_of_ble_eq_true rfl) (fun _ => rfl) (fun r u h => kX3_run h) (fun r3 t4 => ?_)
      refine g_iinc (pc := 201) X 1 2 (lv' := [(3, .int (x3 + 1)), (0, .ref mo), (2, .int x2)]) dX3_goOn_201 rfl rfl (by decide) rfl ?_
      refine g_goto (pc := 204) X 188 dX3_goOn_204 (by decide) ?_
      exact g_lv (pc := 188) (lv' := [(0, .ref mo), (2, .int x2), (3, .int (x3 + 1))]) [1, 2, 0] rfl (ih x2 (x3 + 1) t4)
def fX3_goOn_20 : Nat → Int32 → Int32 → Int32 → MS → Option (Int32 × MS)
  | 0, _, _, _, _ => none
  | n + 1, x1, x2, x3, t => if t.1 3 ≤ x3 then fX3_goOn_188 1000 x2 0 t else gm (fX3_isHome x3 t) fun r1 t2 => if r1 = 0 then gm (fX3_goes x3 x1 t2) fun r3 t4 => if r3 = 0 then fX3_goOn_180 (fun a0 a1 a2 a3 => fX3_goOn_20 n a0 a1 a2 a3) x1 x2 x3 t4 else mald t4 0 63 (42 + x3) fun v5 => gm (fX3_strikes x3 t4) fun r6 t7 => mald t7 1 9 x3 fun v8 => if v8 = 1 then if x1 = 1 then fX3_goOn_89 (fun a0 a1 a2 a3 => fX3_goOn_20 n a0 a1 a2 a3) x1 x2 x3 v5 r6 (v5 + 2) t7 else fX3_goOn_85 (fun a0 a1 a2 a3 => fX3_goOn_20 n a0 a1 a2 a3) x1 x2 x3 v5 r6 t7 else fX3_goOn_85 (fun a0 a1 a2 a3 => fX3_goOn_20 n a0 a1 a2 a3) x1 x2 x3 v5 r6 t7 else fX3_goOn_180 (fun a0 a1 a2 a3 => fX3_goOn_20 n a0 a1 a2 a3) x1 x2 x3 t2
set_option maxHeartbeats 4000000 in
theorem wX3_goOn_20 {rF : Int32} (X : g_X Γ p s m args meth c cX3_goOn 7 RX3) (hr : meth.sig.returnType = (Option.some Jvm.ClassFile.FieldType.int)) (n : Nat) : ∀ (x1 : Int32) (x2 : Int32) (x3 : Int32) (t : MS), Wf Γ p l e 4 86 s m args below meth c 7 (m_ι mo ρ sz) v_i rF tF 20 [(0, .ref mo), (1, .int x1), (2, .int x2), (3, .int x3)] [] t (fX3_goOn_20 n x1 x2 x3 t) := by
  induction n with
  | zero => intro x1 x2 x3 t; exact g_none
  | succ n ih =>
    intro x1 x2 x3 t
    rw [fX3_goOn_20]
    refine g_iload_n (pc := 20) X 3 dX3_goOn_20 rfl rfl ?_
    refine g_aload_n (pc := 21) X 0 dX3_goOn_21 rfl rfl ?_
    refine mg_get (pc := 22) X fo_X3_72 dX3_goOn_22 rfl ?_
    refine g_icmp_ge (pc := 25) X 186 dX3_goOn_25 (by decide) ?_ ?_
    · refine g_iconst (pc := 186) X 0 dX3_goOn_186 rfl ?_
      refine g_istore_n (pc := 187) X (lv' := [(3, .int 0), (0, .ref mo), (1, .int x1), (2, .int x2)]) dX3_goOn_187 rfl (by decide) rfl ?_
      exact g_lv (pc := 188) (lv' := [(0, .ref mo), (2, .int x2), (3, .int 0)]) [1, 3, 0] rfl (wX3_goOn_188 X hr 1000 x2 0 t)
    · refine g_aload_n (pc := 28) X 0 dX3_goOn_28 rfl rfl ?_
      refine g_iload_n (pc := 29) X 3 dX3_goOn_29 rfl rfl ?_
      refine g_mV_i (pc := 30) X (C := RX3) (y := yX3_isHome) (As := [.int x3]) (rest := []) (fr' := 0) (lo' := 0) (fun _ => cwV 1 X.2.2.2.2.1 (lw_V q1938 q1940 qs52 q76 q1941) rfl rfl rfl dmV_X3_isHome ⟨Nat.le_of_ble_eq_true rfl, Nat.le_of_ble_eq_true rfl⟩) dX3_goOn_30 MC_o ⟨_, _, rfl⟩ rfl rfl (Nat.le_of_ble_eq_true rfl) (fun _ => rfl) (fun r u h => kX3_isHome h) (fun r1 t2 => ?_)
      refine g_if_ne (pc := 33) X 180 dX3_goOn_33 (by decide) ?_ ?_
      · exact g_lv (pc := 180) (lv' := [(0, .ref mo), (1, .int x1), (2, .int x2), (3, .int x3)]) [0, 1, 2, 3] rfl (wX3_goOn_180 X hr (fun a0 a1 a2 a3 => ih a0 a1 a2 a3) x1 x2 x3 t2)
      · refine g_aload_n (pc := 36) X 0 dX3_goOn_36 rfl rfl ?_
        refine g_iload_n (pc := 37) X 3 dX3_goOn_37 rfl rfl ?_
        refine g_iload_n (pc := 38) X 1 dX3_goOn_38 rfl rfl ?_
        refine g_mV_i (pc := 39) X (C := RX3) (y := yX3_goes) (As := [.int x3, .int x1]) (rest := []) (fr' := 3) (lo' := 63) (fun _ => cwV 2 X.2.2.2.2.1 (lw_V q1942 q1944 qs53 q76 q1945) rfl rfl rfl dmV_X3_goes ⟨Nat.le_of_ble_eq_true rfl, Nat.le_of_ble_eq_true rfl⟩) dX3_goOn_39 MC_o ⟨_, _, rfl⟩ rfl rfl (Nat.le_of_ble_eq_true rfl) (fun _ => rfl) (fun r u h => kX3_goes h) (fun r3 t4 => ?_)
        refine g_if_eq (pc := 42) X 180 dX3_goOn_42 (by decide) ?_ ?_
        · exact g_lv (pc := 180) (lv' := [(0, .ref mo), (1, .int x1), (2, .int x2), (3, .int x3)]) [0, 1, 2, 3] rfl (wX3_goOn_180 X hr (fun a0 a1 a2 a3 => ih a0 a1 a2 a3) x1 x2 x3 t4)
        · refine g_aload_n (pc := 45) X 0 dX3_goOn_45 rfl rfl ?_
          refine mg_get (pc := 46) X fo_X3_7 dX3_goOn_46 rfl ?_
          refine g_bipush (pc := 49) X 42 dX3_goOn_49 rfl ?_
          refine g_iload_n (pc := 51) X 3 dX3_goOn_51 rfl rfl ?_
          refine g_iadd (pc := 52) X dX3_goOn_52 ?_
          refine mg_ald (pc := 53) X (j := 0) dX3_goOn_53 (by decide) rfl (fun v5 => ?_)
          refine g_istore (pc := 54) X (lv' := [(4, .int v5), (0, .ref mo), (1, .int x1), (2, .int x2), (3, .int x3)]) dX3_goOn_54 (by decide) rfl ?_
          refine g_aload_n (pc := 56) X 1 dX3_goOn_56 rfl rfl ?_
          refine g_iload_n (pc := 57) X 4 dX3_goOn_57 rfl rfl ?_
          refine g_mV_i (pc := 58) X (C := RX3) (y := yX3_strikes) (As := [.int x3]) (rest := []) (fr' := 2) (lo' := 42) (fun _ => cwV 1 X.2.2.2.2.1 (lw_V q1798 q1800 qs34 q76 q1801) rfl rfl rfl dmV_X3_strikes ⟨Nat.le_of_ble_eq_true rfl, Nat.le_of_ble_eq_true rfl⟩) dX3_goOn_58 MC_o ⟨_, _, rfl⟩ rfl rfl (Nat.le_of_ble_eq_true rfl) (fun _ => rfl) (fun r u h => kX3_strikes h) (fun r6 t7 => ?_)
          refine g_istore (pc := 61) X (lv' := [(5, .int r6), (4, .int v5), (0, .ref mo), (1, .int x1), (2, .int x2), (3, .int x3)]) dX3_goOn_61 (by decide) rfl ?_
          refine g_aload_n (pc := 63) X 2 dX3_goOn_63 rfl rfl ?_
          refine mg_get (pc := 64) X fo_X3_13 dX3_goOn_64 rfl ?_
          refine g_iload_n (pc := 67) X 5 dX3_goOn_67 rfl rfl ?_
          refine mg_ald (pc := 68) X (j := 1) dX3_goOn_68 (by decide) rfl (fun v8 => ?_)
          refine g_iconst (pc := 69) X 1 dX3_goOn_69 rfl ?_
          refine g_icmp_ne (pc := 70) X 85 dX3_goOn_70 (by decide) ?_ ?_
          · exact g_lv (pc := 85) (lv' := [(0, .ref mo), (1, .int x1), (2, .int x2), (3, .int x3), (4, .int v5), (5, .int r6)]) [2, 3, 4, 5, 1, 0] rfl (wX3_goOn_85 X hr (fun a0 a1 a2 a3 => ih a0 a1 a2 a3) x1 x2 x3 v5 r6 t7)
          · refine g_iload_n (pc := 73) X 3 dX3_goOn_73 rfl rfl ?_
            refine g_iconst (pc := 74) X 1 dX3_goOn_74 rfl ?_
            refine g_icmp_ne (pc := 75) X 85 dX3_goOn_75 (by decide) ?_ ?_
            · exact g_lv (pc := 85) (lv' := [(0, .ref mo), (1, .int x1), (2, .int x2), (3, .int x3), (4, .int v5), (5, .int r6)]) [2, 3, 4, 5, 1, 0] rfl (wX3_goOn_85 X hr (fun a0 a1 a2 a3 => ih a0 a1 a2 a3) x1 x2 x3 v5 r6 t7)
            · refine g_iload (pc := 78) X 1 dX3_goOn_78 rfl ?_
              refine g_iconst (pc := 80) X 2 dX3_goOn_80 rfl ?_
              refine g_iadd (pc := 81) X dX3_goOn_81 ?_
              refine g_goto (pc := 82) X 89 dX3_goOn_82 (by decide) ?_
              exact g_lv (pc := 89) (lv' := [(0, .ref mo), (1, .int x1), (2, .int x2), (3, .int x3), (4, .int v5), (5, .int r6)]) [2, 3, 4, 5, 1, 0] rfl (wX3_goOn_89 X hr (fun a0 a1 a2 a3 => ih a0 a1 a2 a3) x1 x2 x3 v5 r6 (v5 + 2) t7)
def fX3_goOn (x1 : Int32) (t : MS) : Option (Int32 × MS) := mast t 0 63 61 0 fun t1 => mast t1 0 63 62 0 fun t2 => fX3_goOn_20 1000 x1 0 0 t2
set_option maxHeartbeats 4000000 in
theorem wX3_goOn {rF : Int32} (X : g_X Γ p s m args meth c cX3_goOn 7 RX3) (hr : meth.sig.returnType = (Option.some Jvm.ClassFile.FieldType.int)) (x1 : Int32) (t : MS) : Wf Γ p l e 4 86 s m args below meth c 7 (m_ι mo ρ sz) v_i rF tF 0 [(0, .ref mo), (1, .int x1)] [] t (fX3_goOn x1 t) := by
  unfold fX3_goOn
  refine g_iconst (pc := 0) X 0 dX3_goOn_0 rfl ?_
  refine g_istore_n (pc := 1) X (lv' := [(2, .int 0), (0, .ref mo), (1, .int x1)]) dX3_goOn_1 rfl (by decide) rfl ?_
  refine g_aload_n (pc := 2) X 1 dX3_goOn_2 rfl rfl ?_
  refine mg_get (pc := 3) X fo_X3_7 dX3_goOn_3 rfl ?_
  refine g_bipush (pc := 6) X 61 dX3_goOn_6 rfl ?_
  refine g_iconst (pc := 8) X 0 dX3_goOn_8 rfl ?_
  refine mg_ast (pc := 9) X (j := 0) dX3_goOn_9 (by decide) rfl (fun t1 => ?_)
  refine g_aload_n (pc := 10) X 1 dX3_goOn_10 rfl rfl ?_
  refine mg_get (pc := 11) X fo_X3_7 dX3_goOn_11 rfl ?_
  refine g_bipush (pc := 14) X 62 dX3_goOn_14 rfl ?_
  refine g_iconst (pc := 16) X 0 dX3_goOn_16 rfl ?_
  refine mg_ast (pc := 17) X (j := 0) dX3_goOn_17 (by decide) rfl (fun t2 => ?_)
  refine g_iconst (pc := 18) X 0 dX3_goOn_18 rfl ?_
  refine g_istore_n (pc := 19) X (lv' := [(3, .int 0), (2, .int 0), (0, .ref mo), (1, .int x1)]) dX3_goOn_19 rfl (by decide) rfl ?_
  exact g_lv (pc := 20) (lv' := [(0, .ref mo), (1, .int x1), (2, .int 0), (3, .int 0)]) [2, 3, 1, 0] rfl (wX3_goOn_20 X hr 1000 x1 0 0 t2)
theorem kX3_goOn {mo : Nat} {ρ : Sg} {sz : Nat} {x1 : Int32} {t : MS} {r : Int32} {u : MS} (h : fX3_goOn x1 t = some (r, u)) : g_C Γ l yX3_goOn cX3_goOn 7 (Option.some Jvm.ClassFile.FieldType.int) 4 86 [.ref mo, .int x1] (MC mo t ρ) sz v_i r (m_ι mo ρ sz u) :=
  g_met [.ref mo, .int x1] (by decide) (Nat.le_of_ble_eq_true rfl) h rfl (fun p e s m args below meth c X hr hn => wX3_goOn X hr x1 t)
def fX3_skyNow (t : MS) : Option (Int32 × MS) := if t.1 7 < 0 then mald t 0 63 60 fun v1 => if t.1 6 = 0 then none else mald t 3 12 (v1 - v1 / (t.1 6) * (t.1 6)) fun v3 => some (v3, t) else some (t.1 7, t)
set_option maxHeartbeats 4000000 in
theorem wX3_skyNow {rF : Int32} (X : g_X Γ p s m args meth c cX3_skyNow 1 RX3) (hr : meth.sig.returnType = (Option.some Jvm.ClassFile.FieldType.int)) (t : MS) : Wf Γ p l e 0 0 s m args below meth c 1 (m_ι mo ρ sz) v_i rF tF 0 [(0, .ref mo)] [] t (fX3_skyNow  t) := by
  unfold fX3_skyNow
  refine g_aload_n (pc := 0) X 0 dX3_skyNow_0 rfl rfl ?_
  refine mg_get (pc := 1) X fo_X3_29 dX3_skyNow_1 rfl ?_
  refine g_if_lt (pc := 4) X 14 dX3_skyNow_4 (by decide) ?_ ?_
  · refine g_aload_n (pc := 14) X 0 dX3_skyNow_14 rfl rfl ?_
    refine mg_get (pc := 15) X fo_X3_23 dX3_skyNow_15 rfl ?_
    refine g_aload_n (pc := 18) X 0 dX3_skyNow_18 rfl rfl ?_
    refine mg_get (pc := 19) X fo_X3_7 dX3_skyNow_19 rfl ?_
    refine g_bipush (pc := 22) X 60 dX3_skyNow_22 rfl ?_
    refine mg_ald (pc := 24) X (j := 0) dX3_skyNow_24 (by decide) rfl (fun v1 => ?_)
    refine g_aload_n (pc := 25) X 0 dX3_skyNow_25 rfl rfl ?_
    refine mg_get (pc := 26) X fo_X3_26 dX3_skyNow_26 rfl ?_
    refine g_no (pc := 29) (fun hn2 => ?_)
    refine g_irem (pc := 29) X dX3_skyNow_29 hn2 ?_
    refine mg_ald (pc := 30) X (j := 3) dX3_skyNow_30 (by decide) rfl (fun v3 => ?_)
    exact g_iret (pc := 31) X hr dX3_skyNow_31
  · refine g_aload_n (pc := 7) X 0 dX3_skyNow_7 rfl rfl ?_
    refine mg_get (pc := 8) X fo_X3_29 dX3_skyNow_8 rfl ?_
    refine g_goto (pc := 11) X 31 dX3_skyNow_11 (by decide) ?_
    exact g_iret (pc := 31) X hr dX3_skyNow_31
theorem kX3_skyNow {mo : Nat} {ρ : Sg} {sz : Nat} {t : MS} {r : Int32} {u : MS} (h : fX3_skyNow  t = some (r, u)) : g_C Γ l yX3_skyNow cX3_skyNow 1 (Option.some Jvm.ClassFile.FieldType.int) 0 0 [.ref mo] (MC mo t ρ) sz v_i r (m_ι mo ρ sz u) :=
  g_met [.ref mo] (by decide) (Nat.le_of_ble_eq_true rfl) h rfl (fun p e s m args below meth c X hr hn => wX3_skyNow X hr  t)
def fX3_hour (t : MS) : Option (Int32 × MS) := mald t 0 63 60 fun v1 => if v1 = 9999 then some ((-3), t) else gm (fX3_skyNow t) fun r2 t3 => gm (fX3_goOn r2 t3) fun r4 t5 => some (r4, t5)
set_option maxHeartbeats 4000000 in
theorem wX3_hour {rF : Int32} (X : g_X Γ p s m args meth c cX3_hour 1 RX3) (hr : meth.sig.returnType = (Option.some Jvm.ClassFile.FieldType.int)) (t : MS) : Wf Γ p l e 5 112 s m args below meth c 1 (m_ι mo ρ sz) v_i rF tF 0 [(0, .ref mo)] [] t (fX3_hour  t) := by
  unfold fX3_hour
  refine g_aload_n (pc := 0) X 0 dX3_hour_0 rfl rfl ?_
  refine mg_get (pc := 1) X fo_X3_7 dX3_hour_1 rfl ?_
  refine g_bipush (pc := 4) X 60 dX3_hour_4 rfl ?_
  refine mg_ald (pc := 6) X (j := 0) dX3_hour_6 (by decide) rfl (fun v1 => ?_)
  refine g_sipush (pc := 7) X 9999 dX3_hour_7 rfl ?_
  refine g_icmp_ne (pc := 10) X 18 dX3_hour_10 (by decide) ?_ ?_
  · refine g_aload_n (pc := 18) X 0 dX3_hour_18 rfl rfl ?_
    refine g_aload_n (pc := 19) X 0 dX3_hour_19 rfl rfl ?_
    refine g_mV_i (pc := 20) X (C := RX3) (y := yX3_skyNow) (As := []) (rest := [.ref mo]) (fr' := 0) (lo' := 0) (fun _ => cwV 0 X.2.2.2.2.1 (lw_V q1930 q1932 qs50 q76 q1933) rfl rfl rfl dmV_X3_skyNow ⟨Nat.le_of_ble_eq_true rfl, Nat.le_of_ble_eq_true rfl⟩) dX3_hour_20 MC_o ⟨_, _, rfl⟩ rfl rfl (Nat.le_of_ble_eq_true rfl) (fun _ => rfl) (fun r u h => kX3_skyNow h) (fun r2 t3 => ?_)
    refine g_mV_i (pc := 23) X (C := RX3) (y := yX3_goOn) (As := [.int r2]) (rest := []) (fr' := 4) (lo' := 86) (fun _ => cwV 1 X.2.2.2.2.1 (lw_V q1934 q1936 qs51 q76 q1937) rfl rfl rfl dmV_X3_goOn ⟨Nat.le_of_ble_eq_true rfl, Nat.le_of_ble_eq_true rfl⟩) dX3_hour_23 MC_o ⟨_, _, rfl⟩ rfl rfl (Nat.le_of_ble_eq_true rfl) (fun _ => rfl) (fun r u h => kX3_goOn h) (fun r4 t5 => ?_)
    exact g_iret (pc := 26) X hr dX3_hour_26
  · refine g_bipush (pc := 13) X (-3) dX3_hour_13 rfl ?_
    refine g_goto (pc := 15) X 26 dX3_hour_15 (by decide) ?_
    exact g_iret (pc := 26) X hr dX3_hour_26
theorem kX3_hour {mo : Nat} {ρ : Sg} {sz : Nat} {t : MS} {r : Int32} {u : MS} (h : fX3_hour  t = some (r, u)) : g_C Γ l yX3_hour cX3_hour 1 (Option.some Jvm.ClassFile.FieldType.int) 5 112 [.ref mo] (MC mo t ρ) sz v_i r (m_ι mo ρ sz u) :=
  g_met [.ref mo] (by decide) (Nat.le_of_ble_eq_true rfl) h rfl (fun p e s m args below meth c X hr hn => wX3_hour X hr  t)
def fX3_addHands (x1 : Int32) (x2 : Int32) (t : MS) : Option (Unit × MS) := mald t 0 63 (24 + x1) fun v1 => mast t 0 63 (24 + x1) ((v1 + x2) - (v1 + x2) / 720 * 720) fun t2 => some ((), t2)
set_option maxHeartbeats 4000000 in
theorem wX3_addHands {rF : Unit} (X : g_X Γ p s m args meth c cX3_addHands 3 RX3) (hr : meth.sig.returnType = (Option.none : Option Jvm.ClassFile.FieldType)) (x1 : Int32) (x2 : Int32) (t : MS) : Wf Γ p l e 0 0 s m args below meth c 3 (m_ι mo ρ sz) v_v rF tF 0 [(0, .ref mo), (1, .int x1), (2, .int x2)] [] t (fX3_addHands x1 x2 t) := by
  unfold fX3_addHands
  refine g_aload_n (pc := 0) X 0 dX3_addHands_0 rfl rfl ?_
  refine mg_get (pc := 1) X fo_X3_7 dX3_addHands_1 rfl ?_
  refine g_bipush (pc := 4) X 24 dX3_addHands_4 rfl ?_
  refine g_iload_n (pc := 6) X 1 dX3_addHands_6 rfl rfl ?_
  refine g_iadd (pc := 7) X dX3_addHands_7 ?_
  refine g_aload_n (pc := 8) X 0 dX3_addHands_8 rfl rfl ?_
  refine mg_get (pc := 9) X fo_X3_7 dX3_addHands_9 rfl ?_
  refine g_bipush (pc := 12) X 24 dX3_addHands_12 rfl ?_
  refine g_iload_n (pc := 14) X 1 dX3_addHands_14 rfl rfl ?_
  refine g_iadd (pc := 15) X dX3_addHands_15 ?_
  refine mg_ald (pc := 16) X (j := 0) dX3_addHands_16 (by decide) rfl (fun v1 => ?_)
  refine g_iload_n (pc := 17) X 2 dX3_addHands_17 rfl rfl ?_
  refine g_iadd (pc := 18) X dX3_addHands_18 ?_
  refine g_sipush (pc := 19) X 720 dX3_addHands_19 rfl ?_
  refine g_irem (pc := 22) X dX3_addHands_22 (by decide) ?_
  refine mg_ast (pc := 23) X (j := 0) dX3_addHands_23 (by decide) rfl (fun t2 => ?_)
  exact g_vret (pc := 24) X hr dX3_addHands_24
theorem kX3_addHands {mo : Nat} {ρ : Sg} {sz : Nat} {x1 : Int32} {x2 : Int32} {t : MS} {r : Unit} {u : MS} (h : fX3_addHands x1 x2 t = some (r, u)) : g_C Γ l yX3_addHands cX3_addHands 3 (Option.none : Option Jvm.ClassFile.FieldType) 0 0 [.ref mo, .int x1, .int x2] (MC mo t ρ) sz v_v r (m_ι mo ρ sz u) :=
  g_met [.ref mo, .int x1, .int x2] (by decide) (Nat.le_of_ble_eq_true rfl) h rfl (fun p e s m args below meth c X hr hn => wX3_addHands X hr x1 x2 t)
def fX3_turn (x1 : Int32) (x2 : Int32) (t : MS) : Option (Int32 × MS) := gm (fX3_isClock x1 t) fun r1 t2 => if r1 = 0 then some ((-1), t2) else gm (fX3_in x2.toInt64 1 719 t2) fun r3 t4 => if r3 = 0 then some ((-1), t4) else mald t4 0 63 (24 + x1) fun v5 => gm (fX3_note 1 x1 v5 t4) fun _ t7 => gm (fX3_addHands x1 x2 t7) fun _ t9 => mald t9 0 63 (24 + x1) fun v10 => some (v10, t9)
set_option maxHeartbeats 4000000 in
theorem wX3_turn {rF : Int32} (X : g_X Γ p s m args meth c cX3_turn 3 RX3) (hr : meth.sig.returnType = (Option.some Jvm.ClassFile.FieldType.int)) (x1 : Int32) (x2 : Int32) (t : MS) : Wf Γ p l e 2 46 s m args below meth c 3 (m_ι mo ρ sz) v_i rF tF 0 [(0, .ref mo), (1, .int x1), (2, .int x2)] [] t (fX3_turn x1 x2 t) := by
  unfold fX3_turn
  refine g_aload_n (pc := 0) X 0 dX3_turn_0 rfl rfl ?_
  refine g_iload_n (pc := 1) X 1 dX3_turn_1 rfl rfl ?_
  refine g_mV_i (pc := 2) X (C := RX3) (y := yX3_isClock) (As := [.int x1]) (rest := []) (fr' := 1) (lo' := 25) (fun _ => cwV 1 X.2.2.2.2.1 (lw_V q1786 q1788 qs31 q76 q1789) rfl rfl rfl dmV_X3_isClock ⟨Nat.le_of_ble_eq_true rfl, Nat.le_of_ble_eq_true rfl⟩) dX3_turn_2 MC_o ⟨_, _, rfl⟩ rfl rfl (Nat.le_of_ble_eq_true rfl) (fun _ => rfl) (fun r u h => kX3_isClock h) (fun r1 t2 => ?_)
  refine g_if_eq (pc := 5) X 20 dX3_turn_5 (by decide) ?_ ?_
  · refine g_iconst (pc := 20) X (-1) dX3_turn_20 rfl ?_
    exact g_iret (pc := 21) X hr dX3_turn_21
  · refine g_iload_n (pc := 8) X 2 dX3_turn_8 rfl rfl ?_
    refine g_i2l (pc := 9) X dX3_turn_9 ?_
    refine g_lconst (pc := 10) X 1 dX3_turn_10 rfl ?_
    refine g_ldc2 (pc := 11) X 719 dX3_turn_11 q1770 ?_
    refine g_mS_i (pc := 14) X (y := yX3_in) (As := [.long x2.toInt64, .long 1, .long 719]) (rest := []) (fr' := 0) (lo' := 0) (fun _ => va_cwS 3 X.2.2.2.2.1 (lw_S q1767 q1768 q76 q1769) rfl rfl rfl dmS_X3_in ⟨Nat.le_of_ble_eq_true rfl, Nat.le_of_ble_eq_true rfl⟩) dX3_turn_14 rfl rfl (Nat.le_of_ble_eq_true rfl) (fun _ => rfl) (fun r u h => kX3_in h) (fun r3 t4 => ?_)
    refine g_if_ne (pc := 17) X 22 dX3_turn_17 (by decide) ?_ ?_
    · refine g_aload_n (pc := 22) X 0 dX3_turn_22 rfl rfl ?_
      refine g_iconst (pc := 23) X 1 dX3_turn_23 rfl ?_
      refine g_iload_n (pc := 24) X 1 dX3_turn_24 rfl rfl ?_
      refine g_aload_n (pc := 25) X 0 dX3_turn_25 rfl rfl ?_
      refine mg_get (pc := 26) X fo_X3_7 dX3_turn_26 rfl ?_
      refine g_bipush (pc := 29) X 24 dX3_turn_29 rfl ?_
      refine g_iload_n (pc := 31) X 1 dX3_turn_31 rfl rfl ?_
      refine g_iadd (pc := 32) X dX3_turn_32 ?_
      refine mg_ald (pc := 33) X (j := 0) dX3_turn_33 (by decide) rfl (fun v5 => ?_)
      refine g_mV_v (pc := 34) X (C := RX3) (y := yX3_note) (As := [.int 1, .int x1, .int v5]) (rest := []) (fr' := 0) (lo' := 0) (fun _ => cwV 3 X.2.2.2.2.1 (lw_V q1906 q1908 qs47 q76 q1909) rfl rfl rfl dmV_X3_note ⟨Nat.le_of_ble_eq_true rfl, Nat.le_of_ble_eq_true rfl⟩) dX3_turn_34 MC_o ⟨_, _, rfl⟩ rfl rfl (Nat.le_of_ble_eq_true rfl) (fun _ => rfl) (fun r u h => kX3_note h) (fun r6 t7 => ?_)
      refine g_aload_n (pc := 37) X 0 dX3_turn_37 rfl rfl ?_
      refine g_iload_n (pc := 38) X 1 dX3_turn_38 rfl rfl ?_
      refine g_iload_n (pc := 39) X 2 dX3_turn_39 rfl rfl ?_
      refine g_mV_v (pc := 40) X (C := RX3) (y := yX3_addHands) (As := [.int x1, .int x2]) (rest := []) (fr' := 0) (lo' := 0) (fun _ => cwV 2 X.2.2.2.2.1 (lw_V q1918 q1920 qs49 q76 q1921) rfl rfl rfl dmV_X3_addHands ⟨Nat.le_of_ble_eq_true rfl, Nat.le_of_ble_eq_true rfl⟩) dX3_turn_40 MC_o ⟨_, _, rfl⟩ rfl rfl (Nat.le_of_ble_eq_true rfl) (fun _ => rfl) (fun r u h => kX3_addHands h) (fun r8 t9 => ?_)
      refine g_aload_n (pc := 43) X 0 dX3_turn_43 rfl rfl ?_
      refine mg_get (pc := 44) X fo_X3_7 dX3_turn_44 rfl ?_
      refine g_bipush (pc := 47) X 24 dX3_turn_47 rfl ?_
      refine g_iload_n (pc := 49) X 1 dX3_turn_49 rfl rfl ?_
      refine g_iadd (pc := 50) X dX3_turn_50 ?_
      refine mg_ald (pc := 51) X (j := 0) dX3_turn_51 (by decide) rfl (fun v10 => ?_)
      exact g_iret (pc := 52) X hr dX3_turn_52
    · refine g_iconst (pc := 20) X (-1) dX3_turn_20 rfl ?_
      exact g_iret (pc := 21) X hr dX3_turn_21
theorem kX3_turn {mo : Nat} {ρ : Sg} {sz : Nat} {x1 : Int32} {x2 : Int32} {t : MS} {r : Int32} {u : MS} (h : fX3_turn x1 x2 t = some (r, u)) : g_C Γ l yX3_turn cX3_turn 3 (Option.some Jvm.ClassFile.FieldType.int) 2 46 [.ref mo, .int x1, .int x2] (MC mo t ρ) sz v_i r (m_ι mo ρ sz u) :=
  g_met [.ref mo, .int x1, .int x2] (by decide) (Nat.le_of_ble_eq_true rfl) h rfl (fun p e s m args below meth c X hr hn => wX3_turn X hr x1 x2 t)
def fX3_addSpring (x1 : Int32) (x2 : Int32) (t : MS) : Option (Unit × MS) := mald t 0 63 (33 + x1) fun v1 => if v1 + x2 ≤ 99 then mald t 0 63 (33 + x1) fun v2 => mast t 0 63 (33 + x1) (v2 + x2) fun t3 => some ((), t3) else mast t 0 63 (33 + x1) 99 fun t4 => some ((), t4)
set_option maxHeartbeats 4000000 in
theorem wX3_addSpring {rF : Unit} (X : g_X Γ p s m args meth c cX3_addSpring 3 RX3) (hr : meth.sig.returnType = (Option.none : Option Jvm.ClassFile.FieldType)) (x1 : Int32) (x2 : Int32) (t : MS) : Wf Γ p l e 0 0 s m args below meth c 3 (m_ι mo ρ sz) v_v rF tF 0 [(0, .ref mo), (1, .int x1), (2, .int x2)] [] t (fX3_addSpring x1 x2 t) := by
  unfold fX3_addSpring
  refine g_aload_n (pc := 0) X 0 dX3_addSpring_0 rfl rfl ?_
  refine mg_get (pc := 1) X fo_X3_7 dX3_addSpring_1 rfl ?_
  refine g_bipush (pc := 4) X 33 dX3_addSpring_4 rfl ?_
  refine g_iload_n (pc := 6) X 1 dX3_addSpring_6 rfl rfl ?_
  refine g_iadd (pc := 7) X dX3_addSpring_7 ?_
  refine g_aload_n (pc := 8) X 0 dX3_addSpring_8 rfl rfl ?_
  refine mg_get (pc := 9) X fo_X3_7 dX3_addSpring_9 rfl ?_
  refine g_bipush (pc := 12) X 33 dX3_addSpring_12 rfl ?_
  refine g_iload_n (pc := 14) X 1 dX3_addSpring_14 rfl rfl ?_
  refine g_iadd (pc := 15) X dX3_addSpring_15 ?_
  refine mg_ald (pc := 16) X (j := 0) dX3_addSpring_16 (by decide) rfl (fun v1 => ?_)
  refine g_iload_n (pc := 17) X 2 dX3_addSpring_17 rfl rfl ?_
  refine g_iadd (pc := 18) X dX3_addSpring_18 ?_
  refine g_bipush (pc := 19) X 99 dX3_addSpring_19 rfl ?_
  refine g_icmp_le (pc := 21) X 29 dX3_addSpring_21 (by decide) ?_ ?_
  · refine g_aload_n (pc := 29) X 0 dX3_addSpring_29 rfl rfl ?_
    refine mg_get (pc := 30) X fo_X3_7 dX3_addSpring_30 rfl ?_
    refine g_bipush (pc := 33) X 33 dX3_addSpring_33 rfl ?_
    refine g_iload_n (pc := 35) X 1 dX3_addSpring_35 rfl rfl ?_
    refine g_iadd (pc := 36) X dX3_addSpring_36 ?_
    refine mg_ald (pc := 37) X (j := 0) dX3_addSpring_37 (by decide) rfl (fun v2 => ?_)
    refine g_iload_n (pc := 38) X 2 dX3_addSpring_38 rfl rfl ?_
    refine g_iadd (pc := 39) X dX3_addSpring_39 ?_
    refine mg_ast (pc := 40) X (j := 0) dX3_addSpring_40 (by decide) rfl (fun t3 => ?_)
    exact g_vret (pc := 41) X hr dX3_addSpring_41
  · refine g_bipush (pc := 24) X 99 dX3_addSpring_24 rfl ?_
    refine g_goto (pc := 26) X 40 dX3_addSpring_26 (by decide) ?_
    refine mg_ast (pc := 40) X (j := 0) dX3_addSpring_40 (by decide) rfl (fun t4 => ?_)
    exact g_vret (pc := 41) X hr dX3_addSpring_41
theorem kX3_addSpring {mo : Nat} {ρ : Sg} {sz : Nat} {x1 : Int32} {x2 : Int32} {t : MS} {r : Unit} {u : MS} (h : fX3_addSpring x1 x2 t = some (r, u)) : g_C Γ l yX3_addSpring cX3_addSpring 3 (Option.none : Option Jvm.ClassFile.FieldType) 0 0 [.ref mo, .int x1, .int x2] (MC mo t ρ) sz v_v r (m_ι mo ρ sz u) :=
  g_met [.ref mo, .int x1, .int x2] (by decide) (Nat.le_of_ble_eq_true rfl) h rfl (fun p e s m args below meth c X hr hn => wX3_addSpring X hr x1 x2 t)
def fX3_wind (x1 : Int32) (x2 : Int32) (t : MS) : Option (Int32 × MS) := gm (fX3_isClock x1 t) fun r1 t2 => if r1 = 0 then some ((-1), t2) else gm (fX3_in x2.toInt64 1 99 t2) fun r3 t4 => if r3 = 0 then some ((-1), t4) else mald t4 0 63 (33 + x1) fun v5 => gm (fX3_note 0 x1 v5 t4) fun _ t7 => gm (fX3_addSpring x1 x2 t7) fun _ t9 => mald t9 0 63 (33 + x1) fun v10 => some (v10, t9)
set_option maxHeartbeats 4000000 in
theorem wX3_wind {rF : Int32} (X : g_X Γ p s m args meth c cX3_wind 3 RX3) (hr : meth.sig.returnType = (Option.some Jvm.ClassFile.FieldType.int)) (x1 : Int32) (x2 : Int32) (t : MS) : Wf Γ p l e 2 46 s m args below meth c 3 (m_ι mo ρ sz) v_i rF tF 0 [(0, .ref mo), (1, .int x1), (2, .int x2)] [] t (fX3_wind x1 x2 t) := by
  unfold fX3_wind
  refine g_aload_n (pc := 0) X 0 dX3_wind_0 rfl rfl ?_
  refine g_iload_n (pc := 1) X 1 dX3_wind_1 rfl rfl ?_
  refine g_mV_i (pc := 2) X (C := RX3) (y := yX3_isClock) (As := [.int x1]) (rest := []) (fr' := 1) (lo' := 25) (fun _ => cwV 1 X.2.2.2.2.1 (lw_V q1786 q1788 qs31 q76 q1789) rfl rfl rfl dmV_X3_isClock ⟨Nat.le_of_ble_eq_true rfl, Nat.le_of_ble_eq_true rfl⟩) dX3_wind_2 MC_o ⟨_, _, rfl⟩ rfl rfl (Nat.le_of_ble_eq_true rfl) (fun _ => rfl) (fun r u h => kX3_isClock h) (fun r1 t2 => ?_)
  refine g_if_eq (pc := 5) X 20 dX3_wind_5 (by decide) ?_ ?_
  · refine g_iconst (pc := 20) X (-1) dX3_wind_20 rfl ?_
    exact g_iret (pc := 21) X hr dX3_wind_21
  · refine g_iload_n (pc := 8) X 2 dX3_wind_8 rfl rfl ?_
    refine g_i2l (pc := 9) X dX3_wind_9 ?_
    refine g_lconst (pc := 10) X 1 dX3_wind_10 rfl ?_
    refine g_ldc2 (pc := 11) X 99 dX3_wind_11 q1773 ?_
    refine g_mS_i (pc := 14) X (y := yX3_in) (As := [.long x2.toInt64, .long 1, .long 99]) (rest := []) (fr' := 0) (lo' := 0) (fun _ => va_cwS 3 X.2.2.2.2.1 (lw_S q1767 q1768 q76 q1769) rfl rfl rfl dmS_X3_in ⟨Nat.le_of_ble_eq_true rfl, Nat.le_of_ble_eq_true rfl⟩) dX3_wind_14 rfl rfl (Nat.le_of_ble_eq_true rfl) (fun _ => rfl) (fun r u h => kX3_in h) (fun r3 t4 => ?_)
    refine g_if_ne (pc := 17) X 22 dX3_wind_17 (by decide) ?_ ?_
    · refine g_aload_n (pc := 22) X 0 dX3_wind_22 rfl rfl ?_
      refine g_iconst (pc := 23) X 0 dX3_wind_23 rfl ?_
      refine g_iload_n (pc := 24) X 1 dX3_wind_24 rfl rfl ?_
      refine g_aload_n (pc := 25) X 0 dX3_wind_25 rfl rfl ?_
      refine mg_get (pc := 26) X fo_X3_7 dX3_wind_26 rfl ?_
      refine g_bipush (pc := 29) X 33 dX3_wind_29 rfl ?_
      refine g_iload_n (pc := 31) X 1 dX3_wind_31 rfl rfl ?_
      refine g_iadd (pc := 32) X dX3_wind_32 ?_
      refine mg_ald (pc := 33) X (j := 0) dX3_wind_33 (by decide) rfl (fun v5 => ?_)
      refine g_mV_v (pc := 34) X (C := RX3) (y := yX3_note) (As := [.int 0, .int x1, .int v5]) (rest := []) (fr' := 0) (lo' := 0) (fun _ => cwV 3 X.2.2.2.2.1 (lw_V q1906 q1908 qs47 q76 q1909) rfl rfl rfl dmV_X3_note ⟨Nat.le_of_ble_eq_true rfl, Nat.le_of_ble_eq_true rfl⟩) dX3_wind_34 MC_o ⟨_, _, rfl⟩ rfl rfl (Nat.le_of_ble_eq_true rfl) (fun _ => rfl) (fun r u h => kX3_note h) (fun r6 t7 => ?_)
      refine g_aload_n (pc := 37) X 0 dX3_wind_37 rfl rfl ?_
      refine g_iload_n (pc := 38) X 1 dX3_wind_38 rfl rfl ?_
      refine g_iload_n (pc := 39) X 2 dX3_wind_39 rfl rfl ?_
      refine g_mV_v (pc := 40) X (C := RX3) (y := yX3_addSpring) (As := [.int x1, .int x2]) (rest := []) (fr' := 0) (lo' := 0) (fun _ => cwV 2 X.2.2.2.2.1 (lw_V q1910 q1912 qs48 q76 q1913) rfl rfl rfl dmV_X3_addSpring ⟨Nat.le_of_ble_eq_true rfl, Nat.le_of_ble_eq_true rfl⟩) dX3_wind_40 MC_o ⟨_, _, rfl⟩ rfl rfl (Nat.le_of_ble_eq_true rfl) (fun _ => rfl) (fun r u h => kX3_addSpring h) (fun r8 t9 => ?_)
      refine g_aload_n (pc := 43) X 0 dX3_wind_43 rfl rfl ?_
      refine mg_get (pc := 44) X fo_X3_7 dX3_wind_44 rfl ?_
      refine g_bipush (pc := 47) X 33 dX3_wind_47 rfl ?_
      refine g_iload_n (pc := 49) X 1 dX3_wind_49 rfl rfl ?_
      refine g_iadd (pc := 50) X dX3_wind_50 ?_
      refine mg_ald (pc := 51) X (j := 0) dX3_wind_51 (by decide) rfl (fun v10 => ?_)
      exact g_iret (pc := 52) X hr dX3_wind_52
    · refine g_iconst (pc := 20) X (-1) dX3_wind_20 rfl ?_
      exact g_iret (pc := 21) X hr dX3_wind_21
theorem kX3_wind {mo : Nat} {ρ : Sg} {sz : Nat} {x1 : Int32} {x2 : Int32} {t : MS} {r : Int32} {u : MS} (h : fX3_wind x1 x2 t = some (r, u)) : g_C Γ l yX3_wind cX3_wind 3 (Option.some Jvm.ClassFile.FieldType.int) 2 46 [.ref mo, .int x1, .int x2] (MC mo t ρ) sz v_i r (m_ι mo ρ sz u) :=
  g_met [.ref mo, .int x1, .int x2] (by decide) (Nat.le_of_ble_eq_true rfl) h rfl (fun p e s m args below meth c X hr hn => wX3_wind X hr x1 x2 t)
def fX3_does_78 (s0 : Int32) (t : MS) : Option (Int32 × MS) := if s0 < 0 then some (0, t) else some (1, t)
set_option maxHeartbeats 4000000 in
theorem wX3_does_78 {rF : Int32} (X : g_X Γ p s m args meth c cX3_does 4 RX3) (hr : meth.sig.returnType = (Option.some Jvm.ClassFile.FieldType.boolean)) (s0 : Int32) (t : MS) : Wf Γ p l e 6 132 s m args below meth c 4 (m_ι mo ρ sz) v_i rF tF 78 [] [.int s0] t (fX3_does_78 s0 t) := by
  unfold fX3_does_78
  refine g_if_lt (pc := 78) X 85 dX3_does_78 (by decide) ?_ ?_
  · refine g_iconst (pc := 85) X 0 dX3_does_85 rfl ?_
    exact g_zret (pc := 86) X hr rfl dX3_does_86
  · refine g_iconst (pc := 81) X 1 dX3_does_81 rfl ?_
    refine g_goto (pc := 82) X 86 dX3_does_82 (by decide) ?_
    exact g_zret (pc := 86) X hr rfl dX3_does_86
def fX3_does (x1 : Int32) (t : MS) : Option (Int32 × MS) := mald t 8 480 x1 fun v1 => mald t 8 480 (x1 + 1) fun v2 => if v1 = 119 then mald t 8 480 (x1 + 2) fun v10 => gm (fX3_wind v2 v10 t) fun r11 t12 => fX3_does_78 r11 t12 else if v1 = 116 then mald t 8 480 (x1 + 2) fun v7 => gm (fX3_turn v2 v7 t) fun r8 t9 => fX3_does_78 r8 t9 else if v1 = 98 then gm (fX3_breathe v2 t) fun r5 t6 => fX3_does_78 r5 t6 else gm (fX3_hour t) fun r3 t4 => fX3_does_78 r3 t4
set_option maxHeartbeats 4000000 in
theorem wX3_does {rF : Int32} (X : g_X Γ p s m args meth c cX3_does 4 RX3) (hr : meth.sig.returnType = (Option.some Jvm.ClassFile.FieldType.boolean)) (x1 : Int32) (t : MS) : Wf Γ p l e 6 132 s m args below meth c 4 (m_ι mo ρ sz) v_i rF tF 0 [(0, .ref mo), (1, .int x1)] [] t (fX3_does x1 t) := by
  unfold fX3_does
  refine g_aload_n (pc := 0) X 0 dX3_does_0 rfl rfl ?_
  refine mg_get (pc := 1) X fo_X3_47 dX3_does_1 rfl ?_
  refine g_iload_n (pc := 4) X 1 dX3_does_4 rfl rfl ?_
  refine mg_ald (pc := 5) X (j := 8) dX3_does_5 (by decide) rfl (fun v1 => ?_)
  refine g_istore_n (pc := 6) X (lv' := [(2, .int v1), (0, .ref mo), (1, .int x1)]) dX3_does_6 rfl (by decide) rfl ?_
  refine g_aload_n (pc := 7) X 1 dX3_does_7 rfl rfl ?_
  refine mg_get (pc := 8) X fo_X3_47 dX3_does_8 rfl ?_
  refine g_iload_n (pc := 11) X 2 dX3_does_11 rfl rfl ?_
  refine g_iconst (pc := 12) X 1 dX3_does_12 rfl ?_
  refine g_iadd (pc := 13) X dX3_does_13 ?_
  refine mg_ald (pc := 14) X (j := 8) dX3_does_14 (by decide) rfl (fun v2 => ?_)
  refine g_istore_n (pc := 15) X (lv' := [(3, .int v2), (2, .int v1), (0, .ref mo), (1, .int x1)]) dX3_does_15 rfl (by decide) rfl ?_
  refine g_iload_n (pc := 16) X 1 dX3_does_16 rfl rfl ?_
  refine g_bipush (pc := 17) X 119 dX3_does_17 rfl ?_
  refine g_icmp_ne (pc := 19) X 38 dX3_does_19 (by decide) ?_ ?_
  · refine g_iload_n (pc := 38) X 1 dX3_does_38 rfl rfl ?_
    refine g_bipush (pc := 39) X 116 dX3_does_39 rfl ?_
    refine g_icmp_ne (pc := 41) X 60 dX3_does_41 (by decide) ?_ ?_
    · refine g_iload_n (pc := 60) X 1 dX3_does_60 rfl rfl ?_
      refine g_bipush (pc := 61) X 98 dX3_does_61 rfl ?_
      refine g_icmp_ne (pc := 63) X 74 dX3_does_63 (by decide) ?_ ?_
      · refine g_aload_n (pc := 74) X 2 dX3_does_74 rfl rfl ?_
        refine g_mV_i (pc := 75) X (C := RX3) (y := yX3_hour) (As := []) (rest := []) (fr' := 5) (lo' := 112) (fun _ => cwV 0 X.2.2.2.2.1 (lw_V q1926 q1927 q1928 q76 q1929) rfl rfl rfl dmV_X3_hour ⟨Nat.le_of_ble_eq_true rfl, Nat.le_of_ble_eq_true rfl⟩) dX3_does_75 MC_o ⟨_, _, rfl⟩ rfl rfl (Nat.le_of_ble_eq_true rfl) (fun _ => rfl) (fun r u h => kX3_hour h) (fun r3 t4 => ?_)
        exact g_lv (pc := 78) (lv' := []) [] rfl (wX3_does_78 X hr r3 t4)
      · refine g_aload_n (pc := 66) X 2 dX3_does_66 rfl rfl ?_
        refine g_iload_n (pc := 67) X 0 dX3_does_67 rfl rfl ?_
        refine g_mV_i (pc := 68) X (C := RX3) (y := yX3_breathe) (As := [.int v2]) (rest := []) (fr' := 2) (lo' := 46) (fun _ => cwV 1 X.2.2.2.2.1 (lw_V q1922 q1923 q1924 q76 q1925) rfl rfl rfl dmV_X3_breathe ⟨Nat.le_of_ble_eq_true rfl, Nat.le_of_ble_eq_true rfl⟩) dX3_does_68 MC_o ⟨_, _, rfl⟩ rfl rfl (Nat.le_of_ble_eq_true rfl) (fun _ => rfl) (fun r u h => kX3_breathe h) (fun r5 t6 => ?_)
        refine g_goto (pc := 71) X 78 dX3_does_71 (by decide) ?_
        exact g_lv (pc := 78) (lv' := []) [] rfl (wX3_does_78 X hr r5 t6)
    · refine g_aload_n (pc := 44) X 2 dX3_does_44 rfl rfl ?_
      refine g_iload_n (pc := 45) X 0 dX3_does_45 rfl rfl ?_
      refine g_aload_n (pc := 46) X 2 dX3_does_46 rfl rfl ?_
      refine mg_get (pc := 47) X fo_X3_47 dX3_does_47 rfl ?_
      refine g_iload_n (pc := 50) X 3 dX3_does_50 rfl rfl ?_
      refine g_iconst (pc := 51) X 2 dX3_does_51 rfl ?_
      refine g_iadd (pc := 52) X dX3_does_52 ?_
      refine mg_ald (pc := 53) X (j := 8) dX3_does_53 (by decide) rfl (fun v7 => ?_)
      refine g_mV_i (pc := 54) X (C := RX3) (y := yX3_turn) (As := [.int v2, .int v7]) (rest := []) (fr' := 2) (lo' := 46) (fun _ => cwV 2 X.2.2.2.2.1 (lw_V q1914 q1915 q1916 q76 q1917) rfl rfl rfl dmV_X3_turn ⟨Nat.le_of_ble_eq_true rfl, Nat.le_of_ble_eq_true rfl⟩) dX3_does_54 MC_o ⟨_, _, rfl⟩ rfl rfl (Nat.le_of_ble_eq_true rfl) (fun _ => rfl) (fun r u h => kX3_turn h) (fun r8 t9 => ?_)
      refine g_goto (pc := 57) X 78 dX3_does_57 (by decide) ?_
      exact g_lv (pc := 78) (lv' := []) [] rfl (wX3_does_78 X hr r8 t9)
  · refine g_aload_n (pc := 22) X 2 dX3_does_22 rfl rfl ?_
    refine g_iload_n (pc := 23) X 0 dX3_does_23 rfl rfl ?_
    refine g_aload_n (pc := 24) X 2 dX3_does_24 rfl rfl ?_
    refine mg_get (pc := 25) X fo_X3_47 dX3_does_25 rfl ?_
    refine g_iload_n (pc := 28) X 3 dX3_does_28 rfl rfl ?_
    refine g_iconst (pc := 29) X 2 dX3_does_29 rfl ?_
    refine g_iadd (pc := 30) X dX3_does_30 ?_
    refine mg_ald (pc := 31) X (j := 8) dX3_does_31 (by decide) rfl (fun v10 => ?_)
    refine g_mV_i (pc := 32) X (C := RX3) (y := yX3_wind) (As := [.int v2, .int v10]) (rest := []) (fr' := 2) (lo' := 46) (fun _ => cwV 2 X.2.2.2.2.1 (lw_V q1902 q1903 q1904 q76 q1905) rfl rfl rfl dmV_X3_wind ⟨Nat.le_of_ble_eq_true rfl, Nat.le_of_ble_eq_true rfl⟩) dX3_does_32 MC_o ⟨_, _, rfl⟩ rfl rfl (Nat.le_of_ble_eq_true rfl) (fun _ => rfl) (fun r u h => kX3_wind h) (fun r11 t12 => ?_)
    refine g_goto (pc := 35) X 78 dX3_does_35 (by decide) ?_
    exact g_lv (pc := 78) (lv' := []) [] rfl (wX3_does_78 X hr r11 t12)
theorem kX3_does {mo : Nat} {ρ : Sg} {sz : Nat} {x1 : Int32} {t : MS} {r : Int32} {u : MS} (h : fX3_does x1 t = some (r, u)) : g_C Γ l yX3_does cX3_does 4 (Option.some Jvm.ClassFile.FieldType.boolean) 6 132 [.ref mo, .int x1] (MC mo t ρ) sz v_i r (m_ι mo ρ sz u) :=
  g_met [.ref mo, .int x1] (by decide) (Nat.le_of_ble_eq_true rfl) h rfl (fun p e s m args below meth c X hr hn => wX3_does X hr x1 t)
def fX3_readAct_174 (x1 : Int32) (s0 : Int32) (s1 : Int32) (s3 : Int32) (t : MS) : Option (Int32 × MS) := gm (fX3_readNumber s1 s0 t) fun r1 t2 => mast t2 8 480 s3 r1 fun t3 => mald t3 8 480 (x1 + 2) fun v4 => if v4 < 0 then some (0, t3) else some (1, t3)
set_option maxHeartbeats 4000000 in
theorem wX3_readAct_174 {rF : Int32} (X : g_X Γ p s m args meth c cX3_readAct 3 RX3) (hr : meth.sig.returnType = (Option.some Jvm.ClassFile.FieldType.boolean)) (x1 : Int32) (s0 : Int32) (s1 : Int32) (s3 : Int32) (t : MS) : Wf Γ p l e 2 49 s m args below meth c 3 (m_ι mo ρ sz) v_i rF tF 174 [(0, .ref mo), (1, .int x1)] [.int s0, .int s1, .ref mo, .int s3, .ref (mo + 9)] t (fX3_readAct_174 x1 s0 s1 s3 t) := by
  unfold fX3_readAct_174
  refine g_mV_i (pc := 174) X (C := RX3) (y := yX3_readNumber) (As := [.int s1, .int s0]) (rest := [.int s3, .ref (mo + 9)]) (fr' := 1) (lo' := 25) (fun _ => cwV 2 X.2.2.2.2.1 (lw_V q1877 q1879 qs42 q76 q1880) rfl rfl rfl dmV_X3_readNumber ⟨Nat.le_of_ble_eq_true rfl, Nat.le_of_ble_eq_true rfl⟩) dX3_readAct_174 MC_o ⟨_, _, rfl⟩ rfl rfl (Nat.le_of_ble_eq_true rfl) (fun _ => rfl) (fun r u h => kX3_readNumber h) (fun r1 t2 => ?_)
  refine mg_ast (pc := 177) X (j := 8) dX3_readAct_177 (by decide) rfl (fun t3 => ?_)
  refine g_aload_n (pc := 178) X 0 dX3_readAct_178 rfl rfl ?_
  refine mg_get (pc := 179) X fo_X3_47 dX3_readAct_179 rfl ?_
  refine g_iload_n (pc := 182) X 1 dX3_readAct_182 rfl rfl ?_
  refine g_iconst (pc := 183) X 2 dX3_readAct_183 rfl ?_
  refine g_iadd (pc := 184) X dX3_readAct_184 ?_
  refine mg_ald (pc := 185) X (j := 8) dX3_readAct_185 (by decide) rfl (fun v4 => ?_)
  refine g_if_lt (pc := 186) X 193 dX3_readAct_186 (by decide) ?_ ?_
  · refine g_iconst (pc := 193) X 0 dX3_readAct_193 rfl ?_
    exact g_zret (pc := 194) X hr rfl dX3_readAct_194
  · refine g_iconst (pc := 189) X 1 dX3_readAct_189 rfl ?_
    refine g_goto (pc := 190) X 194 dX3_readAct_190 (by decide) ?_
    exact g_zret (pc := 194) X hr rfl dX3_readAct_194
def fX3_readAct_31 (x1 : Int32) (x2 : Int32) (t : MS) : Option (Int32 × MS) := lt (setI t 16 ((t.1 16) + 1)) fun t1 => mast t1 8 480 x1 x2 fun t2 => if x2 = 104 then some (1, t2) else if x2 = 98 then gm (fX3_readNumber 0 ((t2.1 4) - 1) t2) fun r12 t13 => mast t13 8 480 (x1 + 1) r12 fun t14 => mald t14 8 480 (x1 + 1) fun v15 => if v15 < 0 then some (0, t14) else some (1, t14) else gm (fX3_nextLetter t2) fun r3 t4 => mast t4 8 480 (x1 + 1) (r3 - 48) fun t5 => mald t5 8 480 (x1 + 1) fun v6 => gm (fX3_isClock v6 t5) fun r7 t8 => if r7 = 0 then some (0, t8) else lt (setI t8 16 ((t8.1 16) + 1)) fun t9 => gm (fX3_takes 43 t9) fun r10 t11 => if r10 = 0 then some (0, t11) else if x2 = 119 then fX3_readAct_174 x1 99 1 (x1 + 2) t11 else fX3_readAct_174 x1 719 1 (x1 + 2) t11
set_option maxHeartbeats 4000000 in
theorem wX3_readAct_31 {rF : Int32} (X : g_X Γ p s m args meth c cX3_readAct 3 RX3) (hr : meth.sig.returnType = (Option.some Jvm.ClassFile.FieldType.boolean)) (x1 : Int32) (x2 : Int32) (t : MS) : Wf Γ p l e 2 49 s m args below meth c 3 (m_ι mo ρ sz) v_i rF tF 31 [(0, .ref mo), (1, .int x1), (2, .int x2)] [] t (fX3_readAct_31 x1 x2 t) := by
  unfold fX3_readAct_31
  refine g_aload_n (pc := 31) X 0 dX3_readAct_31 rfl rfl ?_
  refine g_dup (pc := 32) X dX3_readAct_32 rfl ?_
  refine mg_get (pc := 33) X fo_X3_128 dX3_readAct_33 rfl ?_
  refine g_iconst (pc := 36) X 1 dX3_readAct_36 rfl ?_
  refine g_iadd (pc := 37) X dX3_readAct_37 ?_
  refine mg_put (pc := 38) X fp_X3_128 dX3_readAct_38 rfl rfl (by decide) rfl (fun t1 => ?_)
  refine g_aload_n (pc := 41) X 0 dX3_readAct_41 rfl rfl ?_
  refine mg_get (pc := 42) X fo_X3_47 dX3_readAct_42 rfl ?_
  refine g_iload_n (pc := 45) X 1 dX3_readAct_45 rfl rfl ?_
  refine g_iload_n (pc := 46) X 2 dX3_readAct_46 rfl rfl ?_
  refine mg_ast (pc := 47) X (j := 8) dX3_readAct_47 (by decide) rfl (fun t2 => ?_)
  refine g_iload_n (pc := 48) X 2 dX3_readAct_48 rfl rfl ?_
  refine g_bipush (pc := 49) X 104 dX3_readAct_49 rfl ?_
  refine g_icmp_ne (pc := 51) X 56 dX3_readAct_51 (by decide) ?_ ?_
  · refine g_iload_n (pc := 56) X 2 dX3_readAct_56 rfl rfl ?_
    refine g_bipush (pc := 57) X 98 dX3_readAct_57 rfl ?_
    refine g_icmp_ne (pc := 59) X 98 dX3_readAct_59 (by decide) ?_ ?_
    · refine g_aload_n (pc := 98) X 0 dX3_readAct_98 rfl rfl ?_
      refine mg_get (pc := 99) X fo_X3_47 dX3_readAct_99 rfl ?_
      refine g_iload_n (pc := 102) X 1 dX3_readAct_102 rfl rfl ?_
      refine g_iconst (pc := 103) X 1 dX3_readAct_103 rfl ?_
      refine g_iadd (pc := 104) X dX3_readAct_104 ?_
      refine g_aload_n (pc := 105) X 0 dX3_readAct_105 rfl rfl ?_
      refine g_mV_i (pc := 106) X (C := RX3) (y := yX3_nextLetter) (As := []) (rest := [.int (x1 + 1), .ref (mo + 9)]) (fr' := 0) (lo' := 0) (fun _ => cwV 0 X.2.2.2.2.1 (lw_V q1838 q1840 qs37 q76 q1841) rfl rfl rfl dmV_X3_nextLetter ⟨Nat.le_of_ble_eq_true rfl, Nat.le_of_ble_eq_true rfl⟩) dX3_readAct_106 MC_o ⟨_, _, rfl⟩ rfl rfl (Nat.le_of_ble_eq_true rfl) (fun _ => rfl) (fun r u h => kX3_nextLetter h) (fun r3 t4 => ?_)
      refine g_bipush (pc := 109) X 48 dX3_readAct_109 rfl ?_
      refine g_isub (pc := 111) X dX3_readAct_111 ?_
      refine mg_ast (pc := 112) X (j := 8) dX3_readAct_112 (by decide) rfl (fun t5 => ?_)
      refine g_aload_n (pc := 113) X 0 dX3_readAct_113 rfl rfl ?_
      refine g_aload_n (pc := 114) X 0 dX3_readAct_114 rfl rfl ?_
      refine mg_get (pc := 115) X fo_X3_47 dX3_readAct_115 rfl ?_
      refine g_iload_n (pc := 118) X 1 dX3_readAct_118 rfl rfl ?_
      refine g_iconst (pc := 119) X 1 dX3_readAct_119 rfl ?_
      refine g_iadd (pc := 120) X dX3_readAct_120 ?_
      refine mg_ald (pc := 121) X (j := 8) dX3_readAct_121 (by decide) rfl (fun v6 => ?_)
      refine g_mV_i (pc := 122) X (C := RX3) (y := yX3_isClock) (As := [.int v6]) (rest := []) (fr' := 1) (lo' := 25) (fun _ => cwV 1 X.2.2.2.2.1 (lw_V q1786 q1788 qs31 q76 q1789) rfl rfl rfl dmV_X3_isClock ⟨Nat.le_of_ble_eq_true rfl, Nat.le_of_ble_eq_true rfl⟩) dX3_readAct_122 MC_o ⟨_, _, rfl⟩ rfl rfl (Nat.le_of_ble_eq_true rfl) (fun _ => rfl) (fun r u h => kX3_isClock h) (fun r7 t8 => ?_)
      refine g_if_ne (pc := 125) X 130 dX3_readAct_125 (by decide) ?_ ?_
      · refine g_aload_n (pc := 130) X 0 dX3_readAct_130 rfl rfl ?_
        refine g_dup (pc := 131) X dX3_readAct_131 rfl ?_
        refine mg_get (pc := 132) X fo_X3_128 dX3_readAct_132 rfl ?_
        refine g_iconst (pc := 135) X 1 dX3_readAct_135 rfl ?_
        refine g_iadd (pc := 136) X dX3_readAct_136 ?_
        refine mg_put (pc := 137) X fp_X3_128 dX3_readAct_137 rfl rfl (by decide) rfl (fun t9 => ?_)
        refine g_aload_n (pc := 140) X 0 dX3_readAct_140 rfl rfl ?_
        refine g_bipush (pc := 141) X 43 dX3_readAct_141 rfl ?_
        refine g_mV_i (pc := 143) X (C := RX3) (y := yX3_takes) (As := [.int 43]) (rest := []) (fr' := 1) (lo' := 20) (fun _ => cwV 1 X.2.2.2.2.1 (lw_V q1882 q1884 qs43 q76 q1885) rfl rfl rfl dmV_X3_takes ⟨Nat.le_of_ble_eq_true rfl, Nat.le_of_ble_eq_true rfl⟩) dX3_readAct_143 MC_o ⟨_, _, rfl⟩ rfl rfl (Nat.le_of_ble_eq_true rfl) (fun _ => rfl) (fun r u h => kX3_takes h) (fun r10 t11 => ?_)
        refine g_if_ne (pc := 146) X 151 dX3_readAct_146 (by decide) ?_ ?_
        · refine g_aload_n (pc := 151) X 0 dX3_readAct_151 rfl rfl ?_
          refine mg_get (pc := 152) X fo_X3_47 dX3_readAct_152 rfl ?_
          refine g_iload_n (pc := 155) X 1 dX3_readAct_155 rfl rfl ?_
          refine g_iconst (pc := 156) X 2 dX3_readAct_156 rfl ?_
          refine g_iadd (pc := 157) X dX3_readAct_157 ?_
          refine g_aload_n (pc := 158) X 0 dX3_readAct_158 rfl rfl ?_
          refine g_iconst (pc := 159) X 1 dX3_readAct_159 rfl ?_
          refine g_iload_n (pc := 160) X 2 dX3_readAct_160 rfl rfl ?_
          refine g_bipush (pc := 161) X 119 dX3_readAct_161 rfl ?_
          refine g_icmp_ne (pc := 163) X 171 dX3_readAct_163 (by decide) ?_ ?_
          · refine g_sipush (pc := 171) X 719 dX3_readAct_171 rfl ?_
            exact g_lv (pc := 174) (lv' := [(0, .ref mo), (1, .int x1)]) [0, 1] rfl (wX3_readAct_174 X hr x1 719 1 (x1 + 2) t11)
          · refine g_bipush (pc := 166) X 99 dX3_readAct_166 rfl ?_
            refine g_goto (pc := 168) X 174 dX3_readAct_168 (by decide) ?_
            exact g_lv (pc := 174) (lv' := [(0, .ref mo), (1, .int x1)]) [0, 1] rfl (wX3_readAct_174 X hr x1 99 1 (x1 + 2) t11)
        · refine g_iconst (pc := 149) X 0 dX3_readAct_149 rfl ?_
          exact g_zret (pc := 150) X hr rfl dX3_readAct_150
      · refine g_iconst (pc := 128) X 0 dX3_readAct_128 rfl ?_
        exact g_zret (pc := 129) X hr rfl dX3_readAct_129
    · refine g_aload_n (pc := 62) X 0 dX3_readAct_62 rfl rfl ?_
      refine mg_get (pc := 63) X fo_X3_47 dX3_readAct_63 rfl ?_
      refine g_iload_n (pc := 66) X 1 dX3_readAct_66 rfl rfl ?_
      refine g_iconst (pc := 67) X 1 dX3_readAct_67 rfl ?_
      refine g_iadd (pc := 68) X dX3_readAct_68 ?_
      refine g_aload_n (pc := 69) X 0 dX3_readAct_69 rfl rfl ?_
      refine g_iconst (pc := 70) X 0 dX3_readAct_70 rfl ?_
      refine g_aload_n (pc := 71) X 0 dX3_readAct_71 rfl rfl ?_
      refine mg_get (pc := 72) X fo_X3_19 dX3_readAct_72 rfl ?_
      refine g_iconst (pc := 75) X 1 dX3_readAct_75 rfl ?_
      refine g_isub (pc := 76) X dX3_readAct_76 ?_
      refine g_mV_i (pc := 77) X (C := RX3) (y := yX3_readNumber) (As := [.int 0, .int ((t2.1 4) - 1)]) (rest := [.int (x1 + 1), .ref (mo + 9)]) (fr' := 1) (lo' := 25) (fun _ => cwV 2 X.2.2.2.2.1 (lw_V q1877 q1879 qs42 q76 q1880) rfl rfl rfl dmV_X3_readNumber ⟨Nat.le_of_ble_eq_true rfl, Nat.le_of_ble_eq_true rfl⟩) dX3_readAct_77 MC_o ⟨_, _, rfl⟩ rfl rfl (Nat.le_of_ble_eq_true rfl) (fun _ => rfl) (fun r u h => kX3_readNumber h) (fun r12 t13 => ?_)
      refine mg_ast (pc := 80) X (j := 8) dX3_readAct_80 (by decide) rfl (fun t14 => ?_)
      refine g_aload_n (pc := 81) X 0 dX3_readAct_81 rfl rfl ?_
      refine mg_get (pc := 82) X fo_X3_47 dX3_readAct_82 rfl ?_
      refine g_iload_n (pc := 85) X 1 dX3_readAct_85 rfl rfl ?_
      refine g_iconst (pc := 86) X 1 dX3_readAct_86 rfl ?_
      refine g_iadd (pc := 87) X dX3_readAct_87 ?_
      refine mg_ald (pc := 88) X (j := 8) dX3_readAct_88 (by decide) rfl (fun v15 => ?_)
      refine g_if_lt (pc := 89) X 96 dX3_readAct_89 (by decide) ?_ ?_
      · refine g_iconst (pc := 96) X 0 dX3_readAct_96 rfl ?_
        exact g_zret (pc := 97) X hr rfl dX3_readAct_97
      · refine g_iconst (pc := 92) X 1 dX3_readAct_92 rfl ?_
        refine g_goto (pc := 93) X 97 dX3_readAct_93 (by decide) ?_
        exact g_zret (pc := 97) X hr rfl dX3_readAct_97
  · refine g_iconst (pc := 54) X 1 dX3_readAct_54 rfl ?_
    exact g_zret (pc := 55) X hr rfl dX3_readAct_55
def fX3_readAct (x1 : Int32) (t : MS) : Option (Int32 × MS) := gm (fX3_nextLetter t) fun r1 t2 => if r1 = 119 then fX3_readAct_31 x1 r1 t2 else if r1 = 116 then fX3_readAct_31 x1 r1 t2 else if r1 = 98 then fX3_readAct_31 x1 r1 t2 else if r1 = 104 then fX3_readAct_31 x1 r1 t2 else some (0, t2)
set_option maxHeartbeats 4000000 in
theorem wX3_readAct {rF : Int32} (X : g_X Γ p s m args meth c cX3_readAct 3 RX3) (hr : meth.sig.returnType = (Option.some Jvm.ClassFile.FieldType.boolean)) (x1 : Int32) (t : MS) : Wf Γ p l e 2 49 s m args below meth c 3 (m_ι mo ρ sz) v_i rF tF 0 [(0, .ref mo), (1, .int x1)] [] t (fX3_readAct x1 t) := by
  unfold fX3_readAct
  refine g_aload_n (pc := 0) X 0 dX3_readAct_0 rfl rfl ?_
  refine g_mV_i (pc := 1) X (C := RX3) (y := yX3_nextLetter) (As := []) (rest := []) (fr' := 0) (lo' := 0) (fun _ => cwV 0 X.2.2.2.2.1 (lw_V q1838 q1840 qs37 q76 q1841) rfl rfl rfl dmV_X3_nextLetter ⟨Nat.le_of_ble_eq_true rfl, Nat.le_of_ble_eq_true rfl⟩) dX3_readAct_1 MC_o ⟨_, _, rfl⟩ rfl rfl (Nat.le_of_ble_eq_true rfl) (fun _ => rfl) (fun r u h => kX3_nextLetter h) (fun r1 t2 => ?_)
  refine g_istore_n (pc := 4) X (lv' := [(2, .int r1), (0, .ref mo), (1, .int x1)]) dX3_readAct_4 rfl (by decide) rfl ?_
  refine g_iload_n (pc := 5) X 0 dX3_readAct_5 rfl rfl ?_
  refine g_bipush (pc := 6) X 119 dX3_readAct_6 rfl ?_
  refine g_icmp_eq (pc := 8) X 31 dX3_readAct_8 (by decide) ?_ ?_
  · exact g_lv (pc := 31) (lv' := [(0, .ref mo), (1, .int x1), (2, .int r1)]) [1, 2, 0] rfl (wX3_readAct_31 X hr x1 r1 t2)
  · refine g_iload_n (pc := 11) X 0 dX3_readAct_11 rfl rfl ?_
    refine g_bipush (pc := 12) X 116 dX3_readAct_12 rfl ?_
    refine g_icmp_eq (pc := 14) X 31 dX3_readAct_14 (by decide) ?_ ?_
    · exact g_lv (pc := 31) (lv' := [(0, .ref mo), (1, .int x1), (2, .int r1)]) [1, 2, 0] rfl (wX3_readAct_31 X hr x1 r1 t2)
    · refine g_iload_n (pc := 17) X 0 dX3_readAct_17 rfl rfl ?_
      refine g_bipush (pc := 18) X 98 dX3_readAct_18 rfl ?_
      refine g_icmp_eq (pc := 20) X 31 dX3_readAct_20 (by decide) ?_ ?_
      · exact g_lv (pc := 31) (lv' := [(0, .ref mo), (1, .int x1), (2, .int r1)]) [1, 2, 0] rfl (wX3_readAct_31 X hr x1 r1 t2)
      · refine g_iload_n (pc := 23) X 0 dX3_readAct_23 rfl rfl ?_
        refine g_bipush (pc := 24) X 104 dX3_readAct_24 rfl ?_
        refine g_icmp_eq (pc := 26) X 31 dX3_readAct_26 (by decide) ?_ ?_
        · exact g_lv (pc := 31) (lv' := [(0, .ref mo), (1, .int x1), (2, .int r1)]) [1, 2, 0] rfl (wX3_readAct_31 X hr x1 r1 t2)
        · refine g_iconst (pc := 29) X 0 dX3_readAct_29 rfl ?_
          exact g_zret (pc := 30) X hr rfl dX3_readAct_30
theorem kX3_readAct {mo : Nat} {ρ : Sg} {sz : Nat} {x1 : Int32} {t : MS} {r : Int32} {u : MS} (h : fX3_readAct x1 t = some (r, u)) : g_C Γ l yX3_readAct cX3_readAct 3 (Option.some Jvm.ClassFile.FieldType.boolean) 2 49 [.ref mo, .int x1] (MC mo t ρ) sz v_i r (m_ι mo ρ sz u) :=
  g_met [.ref mo, .int x1] (by decide) (Nat.le_of_ble_eq_true rfl) h rfl (fun p e s m args below meth c X hr hn => wX3_readAct X hr x1 t)
def fX3_readDay_12 : Nat → Int32 → MS → Option (Int32 × MS)
  | 0, _, _ => none
  | n + 1, x1, t => if x1 = 0 then gm (fX3_nextLetter t) fun r1 t2 => if 0 ≤ r1 then some (0, t2) else some (1, t2) else gm (fX3_readAct (3 * (t.1 17)) t) fun r3 t4 => if r3 = 0 then some (0, t4) else lt (setI t4 17 ((t4.1 17) + 1)) fun t5 => gm (fX3_takes 59 t5) fun r6 t7 => fX3_readDay_12 n r6 t7
set_option maxHeartbeats 4000000 in
theorem wX3_readDay_12 {rF : Int32} (X : g_X Γ p s m args meth c cX3_readDay 2 RX3) (hr : meth.sig.returnType = (Option.some Jvm.ClassFile.FieldType.boolean)) (n : Nat) : ∀ (x1 : Int32) (t : MS), Wf Γ p l e 3 71 s m args below meth c 2 (m_ι mo ρ sz) v_i rF tF 12 [(0, .ref mo), (1, .int x1)] [] t (fX3_readDay_12 n x1 t) := by
  induction n with
  | zero => intro x1 t; exact g_none
  | succ n ih =>
    intro x1 t
    rw [fX3_readDay_12]
    refine g_iload_n (pc := 12) X 1 dX3_readDay_12 rfl rfl ?_
    refine g_if_eq (pc := 13) X 51 dX3_readDay_13 (by decide) ?_ ?_
    · refine g_aload_n (pc := 51) X 0 dX3_readDay_51 rfl rfl ?_
      refine g_mV_i (pc := 52) X (C := RX3) (y := yX3_nextLetter) (As := []) (rest := []) (fr' := 0) (lo' := 0) (fun _ => cwV 0 X.2.2.2.2.1 (lw_V q1838 q1840 qs37 q76 q1841) rfl rfl rfl dmV_X3_nextLetter ⟨Nat.le_of_ble_eq_true rfl, Nat.le_of_ble_eq_true rfl⟩) dX3_readDay_52 MC_o ⟨_, _, rfl⟩ rfl rfl (Nat.le_of_ble_eq_true rfl) (fun _ => rfl) (fun r u h => kX3_nextLetter h) (fun r1 t2 => ?_)
      refine g_if_ge (pc := 55) X 62 dX3_readDay_55 (by decide) ?_ ?_
      · refine g_iconst (pc := 62) X 0 dX3_readDay_62 rfl ?_
        exact g_zret (pc := 63) X hr rfl dX3_readDay_63
      · refine g_iconst (pc := 58) X 1 dX3_readDay_58 rfl ?_
        refine g_goto (pc := 59) X 63 dX3_readDay_59 (by decide) ?_
        exact g_zret (pc := 63) X hr rfl dX3_readDay_63
    · refine g_aload_n (pc := 16) X 0 dX3_readDay_16 rfl rfl ?_
      refine g_iconst (pc := 17) X 3 dX3_readDay_17 rfl ?_
      refine g_aload_n (pc := 18) X 0 dX3_readDay_18 rfl rfl ?_
      refine mg_get (pc := 19) X fo_X3_139 dX3_readDay_19 rfl ?_
      refine g_imul (pc := 22) X dX3_readDay_22 ?_
      refine g_mV_i (pc := 23) X (C := RX3) (y := yX3_readAct) (As := [.int (3 * (t.1 17))]) (rest := []) (fr' := 2) (lo' := 49) (fun _ => cwV 1 X.2.2.2.2.1 (lw_V q1894 q1896 qs45 q76 q1897) rfl rfl rfl dmV_X3_readAct ⟨Nat.le_of_ble_eq_true rfl, Nat.le_of_ble_eq_true rfl⟩) dX3_readDay_23 MC_o ⟨_, _, rfl⟩ rfl rfl (Nat.le_of_ble_eq_true rfl) (fun _ => rfl) (fun r u h => kX3_readAct h) (fun r3 t4 => ?_)
      refine g_if_ne (pc := 26) X 31 dX3_readDay_26 (by decide) ?_ ?_
      · refine g_aload_n (pc := 31) X 0 dX3_readDay_31 rfl rfl ?_
        refine g_dup (pc := 32) X dX3_readDay_32 rfl ?_
        refine mg_get (pc := 33) X fo_X3_139 dX3_readDay_33 rfl ?_
        refine g_iconst (pc := 36) X 1 dX3_readDay_36 rfl ?_
        refine g_iadd (pc := 37) X dX3_readDay_37 ?_
        refine mg_put (pc := 38) X fp_X3_139 dX3_readDay_38 rfl rfl (by decide) rfl (fun t5 => ?_)
        refine g_aload_n (pc := 41) X 0 dX3_readDay_41 rfl rfl ?_
        refine g_bipush (pc := 42) X 59 dX3_readDay_42 rfl ?_
        refine g_mV_i (pc := 44) X (C := RX3) (y := yX3_takes) (As := [.int 59]) (rest := []) (fr' := 1) (lo' := 20) (fun _ => cwV 1 X.2.2.2.2.1 (lw_V q1882 q1884 qs43 q76 q1885) rfl rfl rfl dmV_X3_takes ⟨Nat.le_of_ble_eq_true rfl, Nat.le_of_ble_eq_true rfl⟩) dX3_readDay_44 MC_o ⟨_, _, rfl⟩ rfl rfl (Nat.le_of_ble_eq_true rfl) (fun _ => rfl) (fun r u h => kX3_takes h) (fun r6 t7 => ?_)
        refine g_istore_n (pc := 47) X (lv' := [(1, .int r6), (0, .ref mo)]) dX3_readDay_47 rfl (by decide) rfl ?_
        refine g_goto (pc := 48) X 12 dX3_readDay_48 (by decide) ?_
        exact g_lv (pc := 12) (lv' := [(0, .ref mo), (1, .int r6)]) [1, 0] rfl (ih r6 t7)
      · refine g_iconst (pc := 29) X 0 dX3_readDay_29 rfl ?_
        exact g_zret (pc := 30) X hr rfl dX3_readDay_30
def fX3_readDay (t : MS) : Option (Int32 × MS) := lt (setI t 16 0) fun t1 => lt (setI t1 17 0) fun t2 => fX3_readDay_12 1000 1 t2
set_option maxHeartbeats 4000000 in
theorem wX3_readDay {rF : Int32} (X : g_X Γ p s m args meth c cX3_readDay 2 RX3) (hr : meth.sig.returnType = (Option.some Jvm.ClassFile.FieldType.boolean)) (t : MS) : Wf Γ p l e 3 71 s m args below meth c 2 (m_ι mo ρ sz) v_i rF tF 0 [(0, .ref mo)] [] t (fX3_readDay  t) := by
  unfold fX3_readDay
  refine g_aload_n (pc := 0) X 0 dX3_readDay_0 rfl rfl ?_
  refine g_iconst (pc := 1) X 0 dX3_readDay_1 rfl ?_
  refine mg_put (pc := 2) X fp_X3_128 dX3_readDay_2 rfl rfl (by decide) rfl (fun t1 => ?_)
  refine g_aload_n (pc := 5) X 0 dX3_readDay_5 rfl rfl ?_
  refine g_iconst (pc := 6) X 0 dX3_readDay_6 rfl ?_
  refine mg_put (pc := 7) X fp_X3_139 dX3_readDay_7 rfl rfl (by decide) rfl (fun t2 => ?_)
  refine g_iconst (pc := 10) X 1 dX3_readDay_10 rfl ?_
  refine g_istore_n (pc := 11) X (lv' := [(1, .int 1), (0, .ref mo)]) dX3_readDay_11 rfl (by decide) rfl ?_
  exact g_lv (pc := 12) (lv' := [(0, .ref mo), (1, .int 1)]) [1, 0] rfl (wX3_readDay_12 X hr 1000 1 t2)
theorem kX3_readDay {mo : Nat} {ρ : Sg} {sz : Nat} {t : MS} {r : Int32} {u : MS} (h : fX3_readDay  t = some (r, u)) : g_C Γ l yX3_readDay cX3_readDay 2 (Option.some Jvm.ClassFile.FieldType.boolean) 3 71 [.ref mo] (MC mo t ρ) sz v_i r (m_ι mo ρ sz u) :=
  g_met [.ref mo] (by decide) (Nat.le_of_ble_eq_true rfl) h rfl (fun p e s m args below meth c X hr hn => wX3_readDay X hr  t)
def fX3_day_22 : Nat → Int32 → Int32 → MS → Option (Int32 × MS)
  | 0, _, _, _ => none
  | n + 1, x2, x3, t => if x2 ≤ x3 then some (x2, t) else gm (fX3_does (3 * x3) t) fun r1 t2 => if r1 = 0 then some (x3, t2) else fX3_day_22 n x2 (x3 + 1) t2
set_option maxHeartbeats 4000000 in
theorem wX3_day_22 {rF : Int32} (X : g_X Γ p s m args meth c cX3_day 4 RX3) (hr : meth.sig.returnType = (Option.some Jvm.ClassFile.FieldType.int)) (n : Nat) : ∀ (x2 : Int32) (x3 : Int32) (t : MS), Wf Γ p l e 7 155 s m args below meth c 4 (m_ι mo ρ sz) v_i rF tF 22 [(0, .ref mo), (2, .int x2), (3, .int x3)] [] t (fX3_day_22 n x2 x3 t) := by
  induction n with
  | zero => intro x2 x3 t; exact g_none
  | succ n ih =>
    intro x2 x3 t
    rw [fX3_day_22]
    refine g_iload_n (pc := 22) X 2 dX3_day_22 rfl rfl ?_
    refine g_iload_n (pc := 23) X 1 dX3_day_23 rfl rfl ?_
    refine g_icmp_ge (pc := 24) X 45 dX3_day_24 (by decide) ?_ ?_
    · refine g_iload_n (pc := 45) X 1 dX3_day_45 rfl rfl ?_
      exact g_iret (pc := 46) X hr dX3_day_46
    · refine g_aload_n (pc := 27) X 0 dX3_day_27 rfl rfl ?_
      refine g_iconst (pc := 28) X 3 dX3_day_28 rfl ?_
      refine g_iload_n (pc := 29) X 2 dX3_day_29 rfl rfl ?_
      refine g_imul (pc := 30) X dX3_day_30 ?_
      refine g_mV_i (pc := 31) X (C := RX3) (y := yX3_does) (As := [.int (3 * x3)]) (rest := []) (fr' := 6) (lo' := 132) (fun _ => cwV 1 X.2.2.2.2.1 (lw_V q1898 q1900 qs46 q76 q1901) rfl rfl rfl dmV_X3_does ⟨Nat.le_of_ble_eq_true rfl, Nat.le_of_ble_eq_true rfl⟩) dX3_day_31 MC_o ⟨_, _, rfl⟩ rfl rfl (Nat.le_of_ble_eq_true rfl) (fun _ => rfl) (fun r u h => kX3_does h) (fun r1 t2 => ?_)
      refine g_if_ne (pc := 34) X 39 dX3_day_34 (by decide) ?_ ?_
      · refine g_iinc (pc := 39) X 1 2 (lv' := [(3, .int (x3 + 1)), (0, .ref mo), (2, .int x2)]) dX3_day_39 rfl rfl (by decide) rfl ?_
        refine g_goto (pc := 42) X 22 dX3_day_42 (by decide) ?_
        exact g_lv (pc := 22) (lv' := [(0, .ref mo), (2, .int x2), (3, .int (x3 + 1))]) [1, 2, 0] rfl (ih x2 (x3 + 1) t2)
      · refine g_iload_n (pc := 37) X 2 dX3_day_37 rfl rfl ?_
        exact g_iret (pc := 38) X hr dX3_day_38
def fX3_day (t : MS) : Option (Int32 × MS) := gm (fX3_readDay t) fun r1 t2 => gm (fX3_end r1 t2) fun r3 t4 => if 0 ≤ r3 then fX3_day_22 1000 (t4.1 17) 0 t4 else some (r3, t4)
set_option maxHeartbeats 4000000 in
theorem wX3_day {rF : Int32} (X : g_X Γ p s m args meth c cX3_day 4 RX3) (hr : meth.sig.returnType = (Option.some Jvm.ClassFile.FieldType.int)) (t : MS) : Wf Γ p l e 7 155 s m args below meth c 4 (m_ι mo ρ sz) v_i rF tF 0 [(0, .ref mo)] [] t (fX3_day  t) := by
  unfold fX3_day
  refine g_aload_n (pc := 0) X 0 dX3_day_0 rfl rfl ?_
  refine g_aload_n (pc := 1) X 0 dX3_day_1 rfl rfl ?_
  refine g_mV_i (pc := 2) X (C := RX3) (y := yX3_readDay) (As := []) (rest := [.ref mo]) (fr' := 3) (lo' := 71) (fun _ => cwV 0 X.2.2.2.2.1 (lw_V q1890 q1892 qs44 q76 q1893) rfl rfl rfl dmV_X3_readDay ⟨Nat.le_of_ble_eq_true rfl, Nat.le_of_ble_eq_true rfl⟩) dX3_day_2 MC_o ⟨_, _, rfl⟩ rfl rfl (Nat.le_of_ble_eq_true rfl) (fun _ => rfl) (fun r u h => kX3_readDay h) (fun r1 t2 => ?_)
  refine g_mV_i (pc := 5) X (C := RX3) (y := yX3_end) (As := [.int r1]) (rest := []) (fr' := 1) (lo' := 20) (fun _ => cwV 1 X.2.2.2.2.1 (lw_V q1850 q1852 qs38 q76 q1853) rfl rfl rfl dmV_X3_end ⟨Nat.le_of_ble_eq_true rfl, Nat.le_of_ble_eq_true rfl⟩) dX3_day_5 MC_o ⟨_, _, rfl⟩ rfl rfl (Nat.le_of_ble_eq_true rfl) (fun _ => rfl) (fun r u h => kX3_end h) (fun r3 t4 => ?_)
  refine g_istore_n (pc := 8) X (lv' := [(1, .int r3), (0, .ref mo)]) dX3_day_8 rfl (by decide) rfl ?_
  refine g_iload_n (pc := 9) X 0 dX3_day_9 rfl rfl ?_
  refine g_if_ge (pc := 10) X 15 dX3_day_10 (by decide) ?_ ?_
  · refine g_aload_n (pc := 15) X 1 dX3_day_15 rfl rfl ?_
    refine mg_get (pc := 16) X fo_X3_139 dX3_day_16 rfl ?_
    refine g_istore_n (pc := 19) X (lv' := [(2, .int (t4.1 17)), (1, .int r3), (0, .ref mo)]) dX3_day_19 rfl (by decide) rfl ?_
    refine g_iconst (pc := 20) X 0 dX3_day_20 rfl ?_
    refine g_istore_n (pc := 21) X (lv' := [(3, .int 0), (2, .int (t4.1 17)), (1, .int r3), (0, .ref mo)]) dX3_day_21 rfl (by decide) rfl ?_
    exact g_lv (pc := 22) (lv' := [(0, .ref mo), (2, .int (t4.1 17)), (3, .int 0)]) [3, 1, 0] rfl (wX3_day_22 X hr 1000 (t4.1 17) 0 t4)
  · refine g_iload_n (pc := 13) X 0 dX3_day_13 rfl rfl ?_
    exact g_iret (pc := 14) X hr dX3_day_14
theorem kX3_day {mo : Nat} {ρ : Sg} {sz : Nat} {t : MS} {r : Int32} {u : MS} (h : fX3_day  t = some (r, u)) : g_C Γ l yX3_day cX3_day 4 (Option.some Jvm.ClassFile.FieldType.int) 7 155 [.ref mo] (MC mo t ρ) sz v_i r (m_ι mo ρ sz u) :=
  g_met [.ref mo] (by decide) (Nat.le_of_ble_eq_true rfl) h rfl (fun p e s m args below meth c X hr hn => wX3_day X hr  t)
def fX3_isAhead_43 (x1 : Int32) (x2 : Int32) (t : MS) : Option (Int32 × MS) := gm (fX3_isHome x1 t) fun r1 t2 => if r1 = 0 then gm (fX3_isHome x2 t2) fun r3 t4 => if r3 = 0 then mald t4 0 63 (42 + x1) fun v5 => mald t4 0 63 (42 + x2) fun v6 => if v5 ≤ v6 then some (0, t4) else some (1, t4) else some (0, t4) else some (1, t2)
set_option maxHeartbeats 4000000 in
theorem wX3_isAhead_43 {rF : Int32} (X : g_X Γ p s m args meth c cX3_isAhead 3 RX3) (hr : meth.sig.returnType = (Option.some Jvm.ClassFile.FieldType.boolean)) (x1 : Int32) (x2 : Int32) (t : MS) : Wf Γ p l e 1 21 s m args below meth c 3 (m_ι mo ρ sz) v_i rF tF 43 [(0, .ref mo), (1, .int x1), (2, .int x2)] [] t (fX3_isAhead_43 x1 x2 t) := by
  unfold fX3_isAhead_43
  refine g_aload_n (pc := 43) X 0 dX3_isAhead_43 rfl rfl ?_
  refine g_iload_n (pc := 44) X 1 dX3_isAhead_44 rfl rfl ?_
  refine g_mV_i (pc := 45) X (C := RX3) (y := yX3_isHome) (As := [.int x1]) (rest := []) (fr' := 0) (lo' := 0) (fun _ => cwV 1 X.2.2.2.2.1 (lw_V q1938 q1940 qs52 q76 q1941) rfl rfl rfl dmV_X3_isHome ⟨Nat.le_of_ble_eq_true rfl, Nat.le_of_ble_eq_true rfl⟩) dX3_isAhead_45 MC_o ⟨_, _, rfl⟩ rfl rfl (Nat.le_of_ble_eq_true rfl) (fun _ => rfl) (fun r u h => kX3_isHome h) (fun r1 t2 => ?_)
  refine g_if_ne (pc := 48) X 80 dX3_isAhead_48 (by decide) ?_ ?_
  · refine g_iconst (pc := 80) X 1 dX3_isAhead_80 rfl ?_
    refine g_goto (pc := 81) X 85 dX3_isAhead_81 (by decide) ?_
    exact g_zret (pc := 85) X hr rfl dX3_isAhead_85
  · refine g_aload_n (pc := 51) X 0 dX3_isAhead_51 rfl rfl ?_
    refine g_iload_n (pc := 52) X 2 dX3_isAhead_52 rfl rfl ?_
    refine g_mV_i (pc := 53) X (C := RX3) (y := yX3_isHome) (As := [.int x2]) (rest := []) (fr' := 0) (lo' := 0) (fun _ => cwV 1 X.2.2.2.2.1 (lw_V q1938 q1940 qs52 q76 q1941) rfl rfl rfl dmV_X3_isHome ⟨Nat.le_of_ble_eq_true rfl, Nat.le_of_ble_eq_true rfl⟩) dX3_isAhead_53 MC_o ⟨_, _, rfl⟩ rfl rfl (Nat.le_of_ble_eq_true rfl) (fun _ => rfl) (fun r u h => kX3_isHome h) (fun r3 t4 => ?_)
    refine g_if_ne (pc := 56) X 84 dX3_isAhead_56 (by decide) ?_ ?_
    · refine g_iconst (pc := 84) X 0 dX3_isAhead_84 rfl ?_
      exact g_zret (pc := 85) X hr rfl dX3_isAhead_85
    · refine g_aload_n (pc := 59) X 0 dX3_isAhead_59 rfl rfl ?_
      refine mg_get (pc := 60) X fo_X3_7 dX3_isAhead_60 rfl ?_
      refine g_bipush (pc := 63) X 42 dX3_isAhead_63 rfl ?_
      refine g_iload_n (pc := 65) X 1 dX3_isAhead_65 rfl rfl ?_
      refine g_iadd (pc := 66) X dX3_isAhead_66 ?_
      refine mg_ald (pc := 67) X (j := 0) dX3_isAhead_67 (by decide) rfl (fun v5 => ?_)
      refine g_aload_n (pc := 68) X 0 dX3_isAhead_68 rfl rfl ?_
      refine mg_get (pc := 69) X fo_X3_7 dX3_isAhead_69 rfl ?_
      refine g_bipush (pc := 72) X 42 dX3_isAhead_72 rfl ?_
      refine g_iload_n (pc := 74) X 2 dX3_isAhead_74 rfl rfl ?_
      refine g_iadd (pc := 75) X dX3_isAhead_75 ?_
      refine mg_ald (pc := 76) X (j := 0) dX3_isAhead_76 (by decide) rfl (fun v6 => ?_)
      refine g_icmp_le (pc := 77) X 84 dX3_isAhead_77 (by decide) ?_ ?_
      · refine g_iconst (pc := 84) X 0 dX3_isAhead_84 rfl ?_
        exact g_zret (pc := 85) X hr rfl dX3_isAhead_85
      · refine g_iconst (pc := 80) X 1 dX3_isAhead_80 rfl ?_
        refine g_goto (pc := 81) X 85 dX3_isAhead_81 (by decide) ?_
        exact g_zret (pc := 85) X hr rfl dX3_isAhead_85
def fX3_isAhead (x1 : Int32) (x2 : Int32) (t : MS) : Option (Int32 × MS) := gm (fX3_isHome x1 t) fun r1 t2 => if r1 = 0 then fX3_isAhead_43 x1 x2 t2 else gm (fX3_isHome x2 t2) fun r3 t4 => if r3 = 0 then fX3_isAhead_43 x1 x2 t4 else mald t4 0 63 (51 + x1) fun v5 => mald t4 0 63 (51 + x2) fun v6 => if v6 ≤ v5 then some (0, t4) else some (1, t4)
set_option maxHeartbeats 4000000 in
theorem wX3_isAhead {rF : Int32} (X : g_X Γ p s m args meth c cX3_isAhead 3 RX3) (hr : meth.sig.returnType = (Option.some Jvm.ClassFile.FieldType.boolean)) (x1 : Int32) (x2 : Int32) (t : MS) : Wf Γ p l e 1 21 s m args below meth c 3 (m_ι mo ρ sz) v_i rF tF 0 [(0, .ref mo), (1, .int x1), (2, .int x2)] [] t (fX3_isAhead x1 x2 t) := by
  unfold fX3_isAhead
  refine g_aload_n (pc := 0) X 0 dX3_isAhead_0 rfl rfl ?_
  refine g_iload_n (pc := 1) X 1 dX3_isAhead_1 rfl rfl ?_
  refine g_mV_i (pc := 2) X (C := RX3) (y := yX3_isHome) (As := [.int x1]) (rest := []) (fr' := 0) (lo' := 0) (fun _ => cwV 1 X.2.2.2.2.1 (lw_V q1938 q1940 qs52 q76 q1941) rfl rfl rfl dmV_X3_isHome ⟨Nat.le_of_ble_eq_true rfl, Nat.le_of_ble_eq_true rfl⟩) dX3_isAhead_2 MC_o ⟨_, _, rfl⟩ rfl rfl (Nat.le_of_ble_eq_true rfl) (fun _ => rfl) (fun r u h => kX3_isHome h) (fun r1 t2 => ?_)
  refine g_if_eq (pc := 5) X 43 dX3_isAhead_5 (by decide) ?_ ?_
  · exact g_lv (pc := 43) (lv' := [(0, .ref mo), (1, .int x1), (2, .int x2)]) [0, 1, 2] rfl (wX3_isAhead_43 X hr x1 x2 t2)
  · refine g_aload_n (pc := 8) X 0 dX3_isAhead_8 rfl rfl ?_
    refine g_iload_n (pc := 9) X 2 dX3_isAhead_9 rfl rfl ?_
    refine g_mV_i (pc := 10) X (C := RX3) (y := yX3_isHome) (As := [.int x2]) (rest := []) (fr' := 0) (lo' := 0) (fun _ => cwV 1 X.2.2.2.2.1 (lw_V q1938 q1940 qs52 q76 q1941) rfl rfl rfl dmV_X3_isHome ⟨Nat.le_of_ble_eq_true rfl, Nat.le_of_ble_eq_true rfl⟩) dX3_isAhead_10 MC_o ⟨_, _, rfl⟩ rfl rfl (Nat.le_of_ble_eq_true rfl) (fun _ => rfl) (fun r u h => kX3_isHome h) (fun r3 t4 => ?_)
    refine g_if_eq (pc := 13) X 43 dX3_isAhead_13 (by decide) ?_ ?_
    · exact g_lv (pc := 43) (lv' := [(0, .ref mo), (1, .int x1), (2, .int x2)]) [0, 1, 2] rfl (wX3_isAhead_43 X hr x1 x2 t4)
    · refine g_aload_n (pc := 16) X 0 dX3_isAhead_16 rfl rfl ?_
      refine mg_get (pc := 17) X fo_X3_7 dX3_isAhead_17 rfl ?_
      refine g_bipush (pc := 20) X 51 dX3_isAhead_20 rfl ?_
      refine g_iload_n (pc := 22) X 1 dX3_isAhead_22 rfl rfl ?_
      refine g_iadd (pc := 23) X dX3_isAhead_23 ?_
      refine mg_ald (pc := 24) X (j := 0) dX3_isAhead_24 (by decide) rfl (fun v5 => ?_)
      refine g_aload_n (pc := 25) X 0 dX3_isAhead_25 rfl rfl ?_
      refine mg_get (pc := 26) X fo_X3_7 dX3_isAhead_26 rfl ?_
      refine g_bipush (pc := 29) X 51 dX3_isAhead_29 rfl ?_
      refine g_iload_n (pc := 31) X 2 dX3_isAhead_31 rfl rfl ?_
      refine g_iadd (pc := 32) X dX3_isAhead_32 ?_
      refine mg_ald (pc := 33) X (j := 0) dX3_isAhead_33 (by decide) rfl (fun v6 => ?_)
      refine g_icmp_ge (pc := 34) X 41 dX3_isAhead_34 (by decide) ?_ ?_
      · refine g_iconst (pc := 41) X 0 dX3_isAhead_41 rfl ?_
        exact g_zret (pc := 42) X hr rfl dX3_isAhead_42
      · refine g_iconst (pc := 37) X 1 dX3_isAhead_37 rfl ?_
        refine g_goto (pc := 38) X 42 dX3_isAhead_38 (by decide) ?_
        exact g_zret (pc := 42) X hr rfl dX3_isAhead_42
theorem kX3_isAhead {mo : Nat} {ρ : Sg} {sz : Nat} {x1 : Int32} {x2 : Int32} {t : MS} {r : Int32} {u : MS} (h : fX3_isAhead x1 x2 t = some (r, u)) : g_C Γ l yX3_isAhead cX3_isAhead 3 (Option.some Jvm.ClassFile.FieldType.boolean) 1 21 [.ref mo, .int x1, .int x2] (MC mo t ρ) sz v_i r (m_ι mo ρ sz u) :=
  g_met [.ref mo, .int x1, .int x2] (by decide) (Nat.le_of_ble_eq_true rfl) h rfl (fun p e s m args below meth c X hr hn => wX3_isAhead X hr x1 x2 t)
def fX3_placeOf_32 (kc4 : Int32 → Int32 → Int32 → MS → Option (Int32 × MS)) (x1 : Int32) (x3 : Int32) (s0 : Int32) (s1 : Int32) (t : MS) : Option (Int32 × MS) := lt (s1 + s0) fun y1 => kc4 x1 y1 (x3 + 1) t
set_option maxHeartbeats 4000000 in
theorem wX3_placeOf_32 {rF : Int32} (X : g_X Γ p s m args meth c cX3_placeOf 4 RX3) (hr : meth.sig.returnType = (Option.some Jvm.ClassFile.FieldType.int)) {kc4 : Int32 → Int32 → Int32 → MS → Option (Int32 × MS)} (hk4 : ∀ (x1 : Int32) (x2 : Int32) (x3 : Int32) (t : MS), Wf Γ p l e 2 43 s m args below meth c 4 (m_ι mo ρ sz) v_i rF tF 4 [(0, .ref mo), (1, .int x1), (2, .int x2), (3, .int x3)] [] t (kc4 x1 x2 x3 t)) (x1 : Int32) (x3 : Int32) (s0 : Int32) (s1 : Int32) (t : MS) : Wf Γ p l e 2 43 s m args below meth c 4 (m_ι mo ρ sz) v_i rF tF 32 [(0, .ref mo), (1, .int x1), (3, .int x3)] [.int s0, .int s1] t (fX3_placeOf_32 kc4 x1 x3 s0 s1 t) := by
  unfold fX3_placeOf_32
  refine g_iadd (pc := 32) X dX3_placeOf_32 ?_
  refine g_lti (pc := 33) (fun y1 => ?_)
  refine g_istore_n (pc := 33) X (lv' := [(2, .int y1), (0, .ref mo), (1, .int x1), (3, .int x3)]) dX3_placeOf_33 rfl (by decide) rfl ?_
  refine g_iinc (pc := 34) X 1 3 (lv' := [(3, .int (x3 + 1)), (2, .int y1), (0, .ref mo), (1, .int x1)]) dX3_placeOf_34 rfl rfl (by decide) rfl ?_
  refine g_goto (pc := 37) X 4 dX3_placeOf_37 (by decide) ?_
  exact g_lv (pc := 4) (lv' := [(0, .ref mo), (1, .int x1), (2, .int y1), (3, .int (x3 + 1))]) [2, 3, 1, 0] rfl (hk4 x1 y1 (x3 + 1) t)
def fX3_placeOf_31 (kc4 : Int32 → Int32 → Int32 → MS → Option (Int32 × MS)) (x1 : Int32) (x3 : Int32) (s0 : Int32) (t : MS) : Option (Int32 × MS) := fX3_placeOf_32 kc4 x1 x3 0 s0 t
set_option maxHeartbeats 4000000 in
theorem wX3_placeOf_31 {rF : Int32} (X : g_X Γ p s m args meth c cX3_placeOf 4 RX3) (hr : meth.sig.returnType = (Option.some Jvm.ClassFile.FieldType.int)) {kc4 : Int32 → Int32 → Int32 → MS → Option (Int32 × MS)} (hk4 : ∀ (x1 : Int32) (x2 : Int32) (x3 : Int32) (t : MS), Wf Γ p l e 2 43 s m args below meth c 4 (m_ι mo ρ sz) v_i rF tF 4 [(0, .ref mo), (1, .int x1), (2, .int x2), (3, .int x3)] [] t (kc4 x1 x2 x3 t)) (x1 : Int32) (x3 : Int32) (s0 : Int32) (t : MS) : Wf Γ p l e 2 43 s m args below meth c 4 (m_ι mo ρ sz) v_i rF tF 31 [(0, .ref mo), (1, .int x1), (3, .int x3)] [.int s0] t (fX3_placeOf_31 kc4 x1 x3 s0 t) := by
  unfold fX3_placeOf_31
  refine g_iconst (pc := 31) X 0 dX3_placeOf_31 rfl ?_
  exact g_lv (pc := 32) (lv' := [(0, .ref mo), (1, .int x1), (3, .int x3)]) [0, 1, 2] rfl (wX3_placeOf_32 X hr hk4 x1 x3 0 s0 t)
def fX3_placeOf_4 : Nat → Int32 → Int32 → Int32 → MS → Option (Int32 × MS)
  | 0, _, _, _, _ => none
  | n + 1, x1, x2, x3, t => if t.1 3 ≤ x3 then some (x2, t) else if x3 = x1 then fX3_placeOf_31 (fun a0 a1 a2 a3 => fX3_placeOf_4 n a0 a1 a2 a3) x1 x3 x2 t else gm (fX3_isAhead x3 x1 t) fun r1 t2 => if r1 = 0 then fX3_placeOf_31 (fun a0 a1 a2 a3 => fX3_placeOf_4 n a0 a1 a2 a3) x1 x3 x2 t2 else fX3_placeOf_32 (fun a0 a1 a2 a3 => fX3_placeOf_4 n a0 a1 a2 a3) x1 x3 1 x2 t2
set_option maxHeartbeats 4000000 in
theorem wX3_placeOf_4 {rF : Int32} (X : g_X Γ p s m args meth c cX3_placeOf 4 RX3) (hr : meth.sig.returnType = (Option.some Jvm.ClassFile.FieldType.int)) (n : Nat) : ∀ (x1 : Int32) (x2 : Int32) (x3 : Int32) (t : MS), Wf Γ p l e 2 43 s m args below meth c 4 (m_ι mo ρ sz) v_i rF tF 4 [(0, .ref mo), (1, .int x1), (2, .int x2), (3, .int x3)] [] t (fX3_placeOf_4 n x1 x2 x3 t) := by
  induction n with
  | zero => intro x1 x2 x3 t; exact g_none
  | succ n ih =>
    intro x1 x2 x3 t
    rw [fX3_placeOf_4]
    refine g_iload_n (pc := 4) X 3 dX3_placeOf_4 rfl rfl ?_
    refine g_aload_n (pc := 5) X 0 dX3_placeOf_5 rfl rfl ?_
    refine mg_get (pc := 6) X fo_X3_72 dX3_placeOf_6 rfl ?_
    refine g_icmp_ge (pc := 9) X 40 dX3_placeOf_9 (by decide) ?_ ?_
    · refine g_iload_n (pc := 40) X 2 dX3_placeOf_40 rfl rfl ?_
      exact g_iret (pc := 41) X hr dX3_placeOf_41
    · refine g_iload_n (pc := 12) X 2 dX3_placeOf_12 rfl rfl ?_
      refine g_iload_n (pc := 13) X 3 dX3_placeOf_13 rfl rfl ?_
      refine g_iload_n (pc := 14) X 1 dX3_placeOf_14 rfl rfl ?_
      refine g_icmp_eq (pc := 15) X 31 dX3_placeOf_15 (by decide) ?_ ?_
      · exact g_lv (pc := 31) (lv' := [(0, .ref mo), (1, .int x1), (3, .int x3)]) [0, 1, 3] rfl (wX3_placeOf_31 X hr (fun a0 a1 a2 a3 => ih a0 a1 a2 a3) x1 x3 x2 t)
      · refine g_aload_n (pc := 18) X 0 dX3_placeOf_18 rfl rfl ?_
        refine g_iload_n (pc := 19) X 3 dX3_placeOf_19 rfl rfl ?_
        refine g_iload_n (pc := 20) X 1 dX3_placeOf_20 rfl rfl ?_
        refine g_mV_i (pc := 21) X (C := RX3) (y := yX3_isAhead) (As := [.int x3, .int x1]) (rest := [.int x2]) (fr' := 1) (lo' := 21) (fun _ => cwV 2 X.2.2.2.2.1 (lw_V q1961 q1963 qs56 q76 q1964) rfl rfl rfl dmV_X3_isAhead ⟨Nat.le_of_ble_eq_true rfl, Nat.le_of_ble_eq_true rfl⟩) dX3_placeOf_21 MC_o ⟨_, _, rfl⟩ rfl rfl (Nat.le_of_ble_eq_true rfl) (fun _ => rfl) (fun r u h => kX3_isAhead h) (fun r1 t2 => ?_)
        refine g_if_eq (pc := 24) X 31 dX3_placeOf_24 (by decide) ?_ ?_
        · exact g_lv (pc := 31) (lv' := [(0, .ref mo), (1, .int x1), (3, .int x3)]) [0, 1, 3] rfl (wX3_placeOf_31 X hr (fun a0 a1 a2 a3 => ih a0 a1 a2 a3) x1 x3 x2 t2)
        · refine g_iconst (pc := 27) X 1 dX3_placeOf_27 rfl ?_
          refine g_goto (pc := 28) X 32 dX3_placeOf_28 (by decide) ?_
          exact g_lv (pc := 32) (lv' := [(0, .ref mo), (1, .int x1), (3, .int x3)]) [0, 1, 3] rfl (wX3_placeOf_32 X hr (fun a0 a1 a2 a3 => ih a0 a1 a2 a3) x1 x3 1 x2 t2)
def fX3_placeOf (x1 : Int32) (t : MS) : Option (Int32 × MS) := fX3_placeOf_4 1000 x1 1 0 t
set_option maxHeartbeats 4000000 in
theorem wX3_placeOf {rF : Int32} (X : g_X Γ p s m args meth c cX3_placeOf 4 RX3) (hr : meth.sig.returnType = (Option.some Jvm.ClassFile.FieldType.int)) (x1 : Int32) (t : MS) : Wf Γ p l e 2 43 s m args below meth c 4 (m_ι mo ρ sz) v_i rF tF 0 [(0, .ref mo), (1, .int x1)] [] t (fX3_placeOf x1 t) := by
  unfold fX3_placeOf
  refine g_iconst (pc := 0) X 1 dX3_placeOf_0 rfl ?_
  refine g_istore_n (pc := 1) X (lv' := [(2, .int 1), (0, .ref mo), (1, .int x1)]) dX3_placeOf_1 rfl (by decide) rfl ?_
  refine g_iconst (pc := 2) X 0 dX3_placeOf_2 rfl ?_
  refine g_istore_n (pc := 3) X (lv' := [(3, .int 0), (2, .int 1), (0, .ref mo), (1, .int x1)]) dX3_placeOf_3 rfl (by decide) rfl ?_
  exact g_lv (pc := 4) (lv' := [(0, .ref mo), (1, .int x1), (2, .int 1), (3, .int 0)]) [2, 3, 1, 0] rfl (wX3_placeOf_4 X hr 1000 x1 1 0 t)
theorem kX3_placeOf {mo : Nat} {ρ : Sg} {sz : Nat} {x1 : Int32} {t : MS} {r : Int32} {u : MS} (h : fX3_placeOf x1 t = some (r, u)) : g_C Γ l yX3_placeOf cX3_placeOf 4 (Option.some Jvm.ClassFile.FieldType.int) 2 43 [.ref mo, .int x1] (MC mo t ρ) sz v_i r (m_ι mo ρ sz u) :=
  g_met [.ref mo, .int x1] (by decide) (Nat.le_of_ble_eq_true rfl) h rfl (fun p e s m args below meth c X hr hn => wX3_placeOf X hr x1 t)
def fX3_place (x1 : Int32) (t : MS) : Option (Int32 × MS) := gm (fX3_isClock x1 t) fun r1 t2 => if r1 = 0 then some ((-1), t2) else gm (fX3_placeOf x1 t2) fun r3 t4 => some (r3, t4)
set_option maxHeartbeats 4000000 in
theorem wX3_place {rF : Int32} (X : g_X Γ p s m args meth c cX3_place 2 RX3) (hr : meth.sig.returnType = (Option.some Jvm.ClassFile.FieldType.int)) (x1 : Int32) (t : MS) : Wf Γ p l e 3 66 s m args below meth c 2 (m_ι mo ρ sz) v_i rF tF 0 [(0, .ref mo), (1, .int x1)] [] t (fX3_place x1 t) := by
  unfold fX3_place
  refine g_aload_n (pc := 0) X 0 dX3_place_0 rfl rfl ?_
  refine g_iload_n (pc := 1) X 1 dX3_place_1 rfl rfl ?_
  refine g_mV_i (pc := 2) X (C := RX3) (y := yX3_isClock) (As := [.int x1]) (rest := []) (fr' := 1) (lo' := 25) (fun _ => cwV 1 X.2.2.2.2.1 (lw_V q1786 q1788 qs31 q76 q1789) rfl rfl rfl dmV_X3_isClock ⟨Nat.le_of_ble_eq_true rfl, Nat.le_of_ble_eq_true rfl⟩) dX3_place_2 MC_o ⟨_, _, rfl⟩ rfl rfl (Nat.le_of_ble_eq_true rfl) (fun _ => rfl) (fun r u h => kX3_isClock h) (fun r1 t2 => ?_)
  refine g_if_eq (pc := 5) X 16 dX3_place_5 (by decide) ?_ ?_
  · refine g_iconst (pc := 16) X (-1) dX3_place_16 rfl ?_
    exact g_iret (pc := 17) X hr dX3_place_17
  · refine g_aload_n (pc := 8) X 0 dX3_place_8 rfl rfl ?_
    refine g_iload_n (pc := 9) X 1 dX3_place_9 rfl rfl ?_
    refine g_mV_i (pc := 10) X (C := RX3) (y := yX3_placeOf) (As := [.int x1]) (rest := []) (fr' := 2) (lo' := 43) (fun _ => cwV 1 X.2.2.2.2.1 (lw_V q1957 q1959 qs55 q76 q1960) rfl rfl rfl dmV_X3_placeOf ⟨Nat.le_of_ble_eq_true rfl, Nat.le_of_ble_eq_true rfl⟩) dX3_place_10 MC_o ⟨_, _, rfl⟩ rfl rfl (Nat.le_of_ble_eq_true rfl) (fun _ => rfl) (fun r u h => kX3_placeOf h) (fun r3 t4 => ?_)
    refine g_goto (pc := 13) X 17 dX3_place_13 (by decide) ?_
    exact g_iret (pc := 17) X hr dX3_place_17
theorem kX3_place {mo : Nat} {ρ : Sg} {sz : Nat} {x1 : Int32} {t : MS} {r : Int32} {u : MS} (h : fX3_place x1 t = some (r, u)) : g_C Γ l yX3_place cX3_place 2 (Option.some Jvm.ClassFile.FieldType.int) 3 66 [.ref mo, .int x1] (MC mo t ρ) sz v_i r (m_ι mo ρ sz u) :=
  g_met [.ref mo, .int x1] (by decide) (Nat.le_of_ble_eq_true rfl) h rfl (fun p e s m args below meth c X hr hn => wX3_place X hr x1 t)
end MP
