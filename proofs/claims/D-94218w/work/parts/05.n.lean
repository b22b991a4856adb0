set_option maxRecDepth 100000
abbrev cX6_ahead : ByteArray := prog_29_method_9_code
def yX6_ahead : MethodName := ⟨RX6, "ahead", "()V"⟩
def dkwX6_ahead_13 : List UInt8 := [16, 48, 100, 181, 0, 29, 132, 5, 1, 132, 1, 1, 167, 255, 136, 42, 27, 181, 0, 26, 177]
abbrev dktX6_ahead_13 : List UInt8 := dkwX6_ahead_13 ++ []
def dkwX6_ahead_12 : List UInt8 := [21, 4, 162, 0, 28, 29, 153, 0, 24, 42, 16, 10, 42, 180, 0, 29, 104, 42, 180, 0, 7, 27, 46, 96]
abbrev dktX6_ahead_12 : List UInt8 := dkwX6_ahead_12 ++ dktX6_ahead_13
def dkwX6_ahead_11 : List UInt8 := [153, 0, 22, 42, 42, 180, 0, 32, 16, 8, 121, 42, 180, 0, 7, 27, 46, 133, 129, 181, 0, 32, 21, 5]
abbrev dktX6_ahead_11 : List UInt8 := dkwX6_ahead_11 ++ dktX6_ahead_12
def dkwX6_ahead_10 : List UInt8 := [153, 0, 87, 21, 5, 21, 4, 160, 0, 9, 42, 4, 27, 182, 1, 23, 21, 5, 21, 4, 162, 0, 26, 28]
abbrev dktX6_ahead_10 : List UInt8 := dkwX6_ahead_10 ++ dktX6_ahead_11
def dkwX6_ahead_9 : List UInt8 := [180, 0, 7, 27, 46, 184, 1, 16, 153, 0, 102, 167, 0, 15, 42, 180, 0, 7, 27, 46, 184, 1, 20]
abbrev dktX6_ahead_9 : List UInt8 := dkwX6_ahead_9 ++ dktX6_ahead_10
def dkwX6_ahead_8 : List UInt8 := [16, 6, 167, 0, 4, 7, 54, 4, 3, 54, 5, 27, 42, 180, 0, 17, 162, 0, 118, 28, 153, 0, 18, 42]
abbrev dktX6_ahead_8 : List UInt8 := dkwX6_ahead_8 ++ dktX6_ahead_9
def dkwX6_ahead_7 : List UInt8 := [27, 46, 181, 0, 29, 177, 42, 28, 153, 0, 7, 4, 167, 0, 4, 5, 181, 0, 20, 28, 153, 0, 8]
abbrev dktX6_ahead_7 : List UInt8 := dkwX6_ahead_7 ++ dktX6_ahead_8
def dkwX6_ahead_6 : List UInt8 := [6, 181, 0, 20, 42, 27, 4, 96, 181, 0, 26, 28, 154, 0, 18, 29, 154, 0, 14, 42, 42, 180, 0, 7]
abbrev dktX6_ahead_6 : List UInt8 := dkwX6_ahead_6 ++ dktX6_ahead_7
def dkwX6_ahead_5 : List UInt8 := [46, 184, 1, 20, 153, 0, 9, 42, 4, 27, 182, 1, 23, 42, 3, 181, 0, 29, 42, 9, 181, 0, 32, 42]
abbrev dktX6_ahead_5 : List UInt8 := dkwX6_ahead_5 ++ dktX6_ahead_6
def dkwX6_ahead_4 : List UInt8 := [158, 0, 37, 42, 180, 0, 7, 27, 4, 100, 46, 184, 1, 16, 154, 0, 17, 42, 180, 0, 7, 27, 4, 100]
abbrev dktX6_ahead_4 : List UInt8 := dkwX6_ahead_4 ++ dktX6_ahead_5
def dkwX6_ahead_3 : List UInt8 := [184, 1, 16, 61, 42, 180, 0, 7, 27, 46, 184, 1, 20, 62, 28, 154, 0, 7, 29, 153, 0, 41, 27]
abbrev dktX6_ahead_3 : List UInt8 := dkwX6_ahead_3 ++ dktX6_ahead_4
def dkwX6_ahead_2 : List UInt8 := [181, 0, 26, 42, 3, 181, 0, 20, 27, 42, 180, 0, 17, 161, 0, 4, 177, 42, 180, 0, 7, 27, 46]
abbrev dktX6_ahead_2 : List UInt8 := dkwX6_ahead_2 ++ dktX6_ahead_3
def dkwX6_ahead_1 : List UInt8 := [42, 180, 0, 7, 27, 46, 16, 10, 160, 0, 9, 132, 1, 1, 167, 255, 223, 42, 27, 181, 0, 23, 42, 27]
abbrev dktX6_ahead_1 : List UInt8 := dkwX6_ahead_1 ++ dktX6_ahead_2
def dkwX6_ahead_0 : List UInt8 := [42, 180, 0, 26, 60, 27, 42, 180, 0, 17, 162, 0, 31, 42, 180, 0, 7, 27, 46, 16, 32, 159, 0, 14]
abbrev dktX6_ahead_0 : List UInt8 := dkwX6_ahead_0 ++ dktX6_ahead_1
theorem dksX6_ahead_0 : cX6_ahead.data.toList.drop 0 = dktX6_ahead_0 := by decide +kernel
theorem dksX6_ahead_1 : cX6_ahead.data.toList.drop 24 = dktX6_ahead_1 := dk_seg dksX6_ahead_0 24 rfl rfl
theorem dksX6_ahead_2 : cX6_ahead.data.toList.drop 48 = dktX6_ahead_2 := dk_seg dksX6_ahead_1 24 rfl rfl
theorem dksX6_ahead_3 : cX6_ahead.data.toList.drop 71 = dktX6_ahead_3 := dk_seg dksX6_ahead_2 23 rfl rfl
theorem dksX6_ahead_4 : cX6_ahead.data.toList.drop 94 = dktX6_ahead_4 := dk_seg dksX6_ahead_3 23 rfl rfl
theorem dksX6_ahead_5 : cX6_ahead.data.toList.drop 118 = dktX6_ahead_5 := dk_seg dksX6_ahead_4 24 rfl rfl
theorem dksX6_ahead_6 : cX6_ahead.data.toList.drop 142 = dktX6_ahead_6 := dk_seg dksX6_ahead_5 24 rfl rfl
theorem dksX6_ahead_7 : cX6_ahead.data.toList.drop 166 = dktX6_ahead_7 := dk_seg dksX6_ahead_6 24 rfl rfl
theorem dksX6_ahead_8 : cX6_ahead.data.toList.drop 189 = dktX6_ahead_8 := dk_seg dksX6_ahead_7 23 rfl rfl
theorem dksX6_ahead_9 : cX6_ahead.data.toList.drop 213 = dktX6_ahead_9 := dk_seg dksX6_ahead_8 24 rfl rfl
theorem dksX6_ahead_10 : cX6_ahead.data.toList.drop 236 = dktX6_ahead_10 := dk_seg dksX6_ahead_9 23 rfl rfl
theorem dksX6_ahead_11 : cX6_ahead.data.toList.drop 260 = dktX6_ahead_11 := dk_seg dksX6_ahead_10 24 rfl rfl
theorem dksX6_ahead_12 : cX6_ahead.data.toList.drop 284 = dktX6_ahead_12 := dk_seg dksX6_ahead_11 24 rfl rfl
theorem dksX6_ahead_13 : cX6_ahead.data.toList.drop 308 = dktX6_ahead_13 := dk_seg dksX6_ahead_12 24 rfl rfl
theorem dX6_ahead_0 : decode cX6_ahead 0 = .ok (.aload_n 0, 1) := dk_42 (dk_at dksX6_ahead_0 0 rfl rfl)
theorem dX6_ahead_1 : decode cX6_ahead 1 = .ok (.getfield 26, 3) := dk_180 0 26 (dk_at dksX6_ahead_0 1 rfl rfl)
theorem dX6_ahead_4 : decode cX6_ahead 4 = .ok (.istore_n 1, 1) := dk_60 (dk_at dksX6_ahead_0 4 rfl rfl)
theorem dX6_ahead_5 : decode cX6_ahead 5 = .ok (.iload_n 1, 1) := dk_27 (dk_at dksX6_ahead_0 5 rfl rfl)
theorem dX6_ahead_6 : decode cX6_ahead 6 = .ok (.aload_n 0, 1) := dk_42 (dk_at dksX6_ahead_0 6 rfl rfl)
theorem dX6_ahead_7 : decode cX6_ahead 7 = .ok (.getfield 17, 3) := dk_180 0 17 (dk_at dksX6_ahead_0 7 rfl rfl)
theorem dX6_ahead_10 : decode cX6_ahead 10 = .ok (.if_icmp .ge 31, 3) := dk_162 0 31 (dk_at dksX6_ahead_0 10 rfl rfl)
theorem dX6_ahead_13 : decode cX6_ahead 13 = .ok (.aload_n 0, 1) := dk_42 (dk_at dksX6_ahead_0 13 rfl rfl)
theorem dX6_ahead_14 : decode cX6_ahead 14 = .ok (.getfield 7, 3) := dk_180 0 7 (dk_at dksX6_ahead_0 14 rfl rfl)
theorem dX6_ahead_17 : decode cX6_ahead 17 = .ok (.iload_n 1, 1) := dk_27 (dk_at dksX6_ahead_0 17 rfl rfl)
theorem dX6_ahead_18 : decode cX6_ahead 18 = .ok (.iaload, 1) := dk_46 (dk_at dksX6_ahead_0 18 rfl rfl)
theorem dX6_ahead_19 : decode cX6_ahead 19 = .ok (.bipush 32, 2) := dk_16 32 (dk_at dksX6_ahead_0 19 rfl rfl)
theorem dX6_ahead_21 : decode cX6_ahead 21 = .ok (.if_icmp .eq 14, 3) := dk_159 0 14 (dk_at dksX6_ahead_0 21 rfl rfl)
theorem dX6_ahead_24 : decode cX6_ahead 24 = .ok (.aload_n 0, 1) := dk_42 (dk_at dksX6_ahead_1 0 rfl rfl)
theorem dX6_ahead_25 : decode cX6_ahead 25 = .ok (.getfield 7, 3) := dk_180 0 7 (dk_at dksX6_ahead_1 1 rfl rfl)
theorem dX6_ahead_28 : decode cX6_ahead 28 = .ok (.iload_n 1, 1) := dk_27 (dk_at dksX6_ahead_1 4 rfl rfl)
theorem dX6_ahead_29 : decode cX6_ahead 29 = .ok (.iaload, 1) := dk_46 (dk_at dksX6_ahead_1 5 rfl rfl)
theorem dX6_ahead_30 : decode cX6_ahead 30 = .ok (.bipush 10, 2) := dk_16 10 (dk_at dksX6_ahead_1 6 rfl rfl)
theorem dX6_ahead_32 : decode cX6_ahead 32 = .ok (.if_icmp .ne 9, 3) := dk_160 0 9 (dk_at dksX6_ahead_1 8 rfl rfl)
theorem dX6_ahead_35 : decode cX6_ahead 35 = .ok (.iinc 1 1, 3) := dk_132 1 1 (dk_at dksX6_ahead_1 11 rfl rfl)
theorem dX6_ahead_38 : decode cX6_ahead 38 = .ok (.goto (-33), 3) := dk_167 255 223 (dk_at dksX6_ahead_1 14 rfl rfl)
theorem dX6_ahead_41 : decode cX6_ahead 41 = .ok (.aload_n 0, 1) := dk_42 (dk_at dksX6_ahead_1 17 rfl rfl)
theorem dX6_ahead_42 : decode cX6_ahead 42 = .ok (.iload_n 1, 1) := dk_27 (dk_at dksX6_ahead_1 18 rfl rfl)
theorem dX6_ahead_43 : decode cX6_ahead 43 = .ok (.putfield 23, 3) := dk_181 0 23 (dk_at dksX6_ahead_1 19 rfl rfl)
theorem dX6_ahead_46 : decode cX6_ahead 46 = .ok (.aload_n 0, 1) := dk_42 (dk_at dksX6_ahead_1 22 rfl rfl)
theorem dX6_ahead_47 : decode cX6_ahead 47 = .ok (.iload_n 1, 1) := dk_27 (dk_at dksX6_ahead_1 23 rfl rfl)
theorem dX6_ahead_48 : decode cX6_ahead 48 = .ok (.putfield 26, 3) := dk_181 0 26 (dk_at dksX6_ahead_2 0 rfl rfl)
theorem dX6_ahead_51 : decode cX6_ahead 51 = .ok (.aload_n 0, 1) := dk_42 (dk_at dksX6_ahead_2 3 rfl rfl)
theorem dX6_ahead_52 : decode cX6_ahead 52 = .ok (.iconst 0, 1) := dk_3 (dk_at dksX6_ahead_2 4 rfl rfl)
theorem dX6_ahead_53 : decode cX6_ahead 53 = .ok (.putfield 20, 3) := dk_181 0 20 (dk_at dksX6_ahead_2 5 rfl rfl)
theorem dX6_ahead_56 : decode cX6_ahead 56 = .ok (.iload_n 1, 1) := dk_27 (dk_at dksX6_ahead_2 8 rfl rfl)
theorem dX6_ahead_57 : decode cX6_ahead 57 = .ok (.aload_n 0, 1) := dk_42 (dk_at dksX6_ahead_2 9 rfl rfl)
theorem dX6_ahead_58 : decode cX6_ahead 58 = .ok (.getfield 17, 3) := dk_180 0 17 (dk_at dksX6_ahead_2 10 rfl rfl)
theorem dX6_ahead_61 : decode cX6_ahead 61 = .ok (.if_icmp .lt 4, 3) := dk_161 0 4 (dk_at dksX6_ahead_2 13 rfl rfl)
theorem dX6_ahead_64 : decode cX6_ahead 64 = .ok (.return_, 1) := dk_177 (dk_at dksX6_ahead_2 16 rfl rfl)
theorem dX6_ahead_65 : decode cX6_ahead 65 = .ok (.aload_n 0, 1) := dk_42 (dk_at dksX6_ahead_2 17 rfl rfl)
theorem dX6_ahead_66 : decode cX6_ahead 66 = .ok (.getfield 7, 3) := dk_180 0 7 (dk_at dksX6_ahead_2 18 rfl rfl)
theorem dX6_ahead_69 : decode cX6_ahead 69 = .ok (.iload_n 1, 1) := dk_27 (dk_at dksX6_ahead_2 21 rfl rfl)
theorem dX6_ahead_70 : decode cX6_ahead 70 = .ok (.iaload, 1) := dk_46 (dk_at dksX6_ahead_2 22 rfl rfl)
theorem dX6_ahead_71 : decode cX6_ahead 71 = .ok (.invokestatic 272, 3) := dk_184 1 16 (dk_at dksX6_ahead_3 0 rfl rfl)
theorem dX6_ahead_74 : decode cX6_ahead 74 = .ok (.istore_n 2, 1) := dk_61 (dk_at dksX6_ahead_3 3 rfl rfl)
theorem dX6_ahead_75 : decode cX6_ahead 75 = .ok (.aload_n 0, 1) := dk_42 (dk_at dksX6_ahead_3 4 rfl rfl)
theorem dX6_ahead_76 : decode cX6_ahead 76 = .ok (.getfield 7, 3) := dk_180 0 7 (dk_at dksX6_ahead_3 5 rfl rfl)
theorem dX6_ahead_79 : decode cX6_ahead 79 = .ok (.iload_n 1, 1) := dk_27 (dk_at dksX6_ahead_3 8 rfl rfl)
theorem dX6_ahead_80 : decode cX6_ahead 80 = .ok (.iaload, 1) := dk_46 (dk_at dksX6_ahead_3 9 rfl rfl)
theorem dX6_ahead_81 : decode cX6_ahead 81 = .ok (.invokestatic 276, 3) := dk_184 1 20 (dk_at dksX6_ahead_3 10 rfl rfl)
theorem dX6_ahead_84 : decode cX6_ahead 84 = .ok (.istore_n 3, 1) := dk_62 (dk_at dksX6_ahead_3 13 rfl rfl)
theorem dX6_ahead_85 : decode cX6_ahead 85 = .ok (.iload_n 2, 1) := dk_28 (dk_at dksX6_ahead_3 14 rfl rfl)
theorem dX6_ahead_86 : decode cX6_ahead 86 = .ok (.ifCond .ne 7, 3) := dk_154 0 7 (dk_at dksX6_ahead_3 15 rfl rfl)
theorem dX6_ahead_89 : decode cX6_ahead 89 = .ok (.iload_n 3, 1) := dk_29 (dk_at dksX6_ahead_3 18 rfl rfl)
theorem dX6_ahead_90 : decode cX6_ahead 90 = .ok (.ifCond .eq 41, 3) := dk_153 0 41 (dk_at dksX6_ahead_3 19 rfl rfl)
theorem dX6_ahead_93 : decode cX6_ahead 93 = .ok (.iload_n 1, 1) := dk_27 (dk_at dksX6_ahead_3 22 rfl rfl)
theorem dX6_ahead_94 : decode cX6_ahead 94 = .ok (.ifCond .le 37, 3) := dk_158 0 37 (dk_at dksX6_ahead_4 0 rfl rfl)
theorem dX6_ahead_97 : decode cX6_ahead 97 = .ok (.aload_n 0, 1) := dk_42 (dk_at dksX6_ahead_4 3 rfl rfl)
theorem dX6_ahead_98 : decode cX6_ahead 98 = .ok (.getfield 7, 3) := dk_180 0 7 (dk_at dksX6_ahead_4 4 rfl rfl)
theorem dX6_ahead_101 : decode cX6_ahead 101 = .ok (.iload_n 1, 1) := dk_27 (dk_at dksX6_ahead_4 7 rfl rfl)
theorem dX6_ahead_102 : decode cX6_ahead 102 = .ok (.iconst 1, 1) := dk_4 (dk_at dksX6_ahead_4 8 rfl rfl)
theorem dX6_ahead_103 : decode cX6_ahead 103 = .ok (.isub, 1) := dk_100 (dk_at dksX6_ahead_4 9 rfl rfl)
theorem dX6_ahead_104 : decode cX6_ahead 104 = .ok (.iaload, 1) := dk_46 (dk_at dksX6_ahead_4 10 rfl rfl)
theorem dX6_ahead_105 : decode cX6_ahead 105 = .ok (.invokestatic 272, 3) := dk_184 1 16 (dk_at dksX6_ahead_4 11 rfl rfl)
theorem dX6_ahead_108 : decode cX6_ahead 108 = .ok (.ifCond .ne 17, 3) := dk_154 0 17 (dk_at dksX6_ahead_4 14 rfl rfl)
theorem dX6_ahead_111 : decode cX6_ahead 111 = .ok (.aload_n 0, 1) := dk_42 (dk_at dksX6_ahead_4 17 rfl rfl)
theorem dX6_ahead_112 : decode cX6_ahead 112 = .ok (.getfield 7, 3) := dk_180 0 7 (dk_at dksX6_ahead_4 18 rfl rfl)
theorem dX6_ahead_115 : decode cX6_ahead 115 = .ok (.iload_n 1, 1) := dk_27 (dk_at dksX6_ahead_4 21 rfl rfl)
theorem dX6_ahead_116 : decode cX6_ahead 116 = .ok (.iconst 1, 1) := dk_4 (dk_at dksX6_ahead_4 22 rfl rfl)
theorem dX6_ahead_117 : decode cX6_ahead 117 = .ok (.isub, 1) := dk_100 (dk_at dksX6_ahead_4 23 rfl rfl)
theorem dX6_ahead_118 : decode cX6_ahead 118 = .ok (.iaload, 1) := dk_46 (dk_at dksX6_ahead_5 0 rfl rfl)
theorem dX6_ahead_119 : decode cX6_ahead 119 = .ok (.invokestatic 276, 3) := dk_184 1 20 (dk_at dksX6_ahead_5 1 rfl rfl)
theorem dX6_ahead_122 : decode cX6_ahead 122 = .ok (.ifCond .eq 9, 3) := dk_153 0 9 (dk_at dksX6_ahead_5 4 rfl rfl)
theorem dX6_ahead_125 : decode cX6_ahead 125 = .ok (.aload_n 0, 1) := dk_42 (dk_at dksX6_ahead_5 7 rfl rfl)
theorem dX6_ahead_126 : decode cX6_ahead 126 = .ok (.iconst 1, 1) := dk_4 (dk_at dksX6_ahead_5 8 rfl rfl)
theorem dX6_ahead_127 : decode cX6_ahead 127 = .ok (.iload_n 1, 1) := dk_27 (dk_at dksX6_ahead_5 9 rfl rfl)
theorem dX6_ahead_128 : decode cX6_ahead 128 = .ok (.invokevirtual 279, 3) := dk_182 1 23 (dk_at dksX6_ahead_5 10 rfl rfl)
theorem dX6_ahead_131 : decode cX6_ahead 131 = .ok (.aload_n 0, 1) := dk_42 (dk_at dksX6_ahead_5 13 rfl rfl)
theorem dX6_ahead_132 : decode cX6_ahead 132 = .ok (.iconst 0, 1) := dk_3 (dk_at dksX6_ahead_5 14 rfl rfl)
theorem dX6_ahead_133 : decode cX6_ahead 133 = .ok (.putfield 29, 3) := dk_181 0 29 (dk_at dksX6_ahead_5 15 rfl rfl)
theorem dX6_ahead_136 : decode cX6_ahead 136 = .ok (.aload_n 0, 1) := dk_42 (dk_at dksX6_ahead_5 18 rfl rfl)
theorem dX6_ahead_137 : decode cX6_ahead 137 = .ok (.lconst 0, 1) := dk_9 (dk_at dksX6_ahead_5 19 rfl rfl)
theorem dX6_ahead_138 : decode cX6_ahead 138 = .ok (.putfield 32, 3) := dk_181 0 32 (dk_at dksX6_ahead_5 20 rfl rfl)
theorem dX6_ahead_141 : decode cX6_ahead 141 = .ok (.aload_n 0, 1) := dk_42 (dk_at dksX6_ahead_5 23 rfl rfl)
theorem dX6_ahead_142 : decode cX6_ahead 142 = .ok (.iconst 3, 1) := dk_6 (dk_at dksX6_ahead_6 0 rfl rfl)
theorem dX6_ahead_143 : decode cX6_ahead 143 = .ok (.putfield 20, 3) := dk_181 0 20 (dk_at dksX6_ahead_6 1 rfl rfl)
theorem dX6_ahead_146 : decode cX6_ahead 146 = .ok (.aload_n 0, 1) := dk_42 (dk_at dksX6_ahead_6 4 rfl rfl)
theorem dX6_ahead_147 : decode cX6_ahead 147 = .ok (.iload_n 1, 1) := dk_27 (dk_at dksX6_ahead_6 5 rfl rfl)
theorem dX6_ahead_148 : decode cX6_ahead 148 = .ok (.iconst 1, 1) := dk_4 (dk_at dksX6_ahead_6 6 rfl rfl)
theorem dX6_ahead_149 : decode cX6_ahead 149 = .ok (.iadd, 1) := dk_96 (dk_at dksX6_ahead_6 7 rfl rfl)
theorem dX6_ahead_150 : decode cX6_ahead 150 = .ok (.putfield 26, 3) := dk_181 0 26 (dk_at dksX6_ahead_6 8 rfl rfl)
theorem dX6_ahead_153 : decode cX6_ahead 153 = .ok (.iload_n 2, 1) := dk_28 (dk_at dksX6_ahead_6 11 rfl rfl)
theorem dX6_ahead_154 : decode cX6_ahead 154 = .ok (.ifCond .ne 18, 3) := dk_154 0 18 (dk_at dksX6_ahead_6 12 rfl rfl)
theorem dX6_ahead_157 : decode cX6_ahead 157 = .ok (.iload_n 3, 1) := dk_29 (dk_at dksX6_ahead_6 15 rfl rfl)
theorem dX6_ahead_158 : decode cX6_ahead 158 = .ok (.ifCond .ne 14, 3) := dk_154 0 14 (dk_at dksX6_ahead_6 16 rfl rfl)
theorem dX6_ahead_161 : decode cX6_ahead 161 = .ok (.aload_n 0, 1) := dk_42 (dk_at dksX6_ahead_6 19 rfl rfl)
theorem dX6_ahead_162 : decode cX6_ahead 162 = .ok (.aload_n 0, 1) := dk_42 (dk_at dksX6_ahead_6 20 rfl rfl)
theorem dX6_ahead_163 : decode cX6_ahead 163 = .ok (.getfield 7, 3) := dk_180 0 7 (dk_at dksX6_ahead_6 21 rfl rfl)
theorem dX6_ahead_166 : decode cX6_ahead 166 = .ok (.iload_n 1, 1) := dk_27 (dk_at dksX6_ahead_7 0 rfl rfl)
theorem dX6_ahead_167 : decode cX6_ahead 167 = .ok (.iaload, 1) := dk_46 (dk_at dksX6_ahead_7 1 rfl rfl)
theorem dX6_ahead_168 : decode cX6_ahead 168 = .ok (.putfield 29, 3) := dk_181 0 29 (dk_at dksX6_ahead_7 2 rfl rfl)
theorem dX6_ahead_171 : decode cX6_ahead 171 = .ok (.return_, 1) := dk_177 (dk_at dksX6_ahead_7 5 rfl rfl)
theorem dX6_ahead_172 : decode cX6_ahead 172 = .ok (.aload_n 0, 1) := dk_42 (dk_at dksX6_ahead_7 6 rfl rfl)
theorem dX6_ahead_173 : decode cX6_ahead 173 = .ok (.iload_n 2, 1) := dk_28 (dk_at dksX6_ahead_7 7 rfl rfl)
theorem dX6_ahead_174 : decode cX6_ahead 174 = .ok (.ifCond .eq 7, 3) := dk_153 0 7 (dk_at dksX6_ahead_7 8 rfl rfl)
theorem dX6_ahead_177 : decode cX6_ahead 177 = .ok (.iconst 1, 1) := dk_4 (dk_at dksX6_ahead_7 11 rfl rfl)
theorem dX6_ahead_178 : decode cX6_ahead 178 = .ok (.goto 4, 3) := dk_167 0 4 (dk_at dksX6_ahead_7 12 rfl rfl)
theorem dX6_ahead_181 : decode cX6_ahead 181 = .ok (.iconst 2, 1) := dk_5 (dk_at dksX6_ahead_7 15 rfl rfl)
theorem dX6_ahead_182 : decode cX6_ahead 182 = .ok (.putfield 20, 3) := dk_181 0 20 (dk_at dksX6_ahead_7 16 rfl rfl)
theorem dX6_ahead_185 : decode cX6_ahead 185 = .ok (.iload_n 2, 1) := dk_28 (dk_at dksX6_ahead_7 19 rfl rfl)
theorem dX6_ahead_186 : decode cX6_ahead 186 = .ok (.ifCond .eq 8, 3) := dk_153 0 8 (dk_at dksX6_ahead_7 20 rfl rfl)
theorem dX6_ahead_189 : decode cX6_ahead 189 = .ok (.bipush 6, 2) := dk_16 6 (dk_at dksX6_ahead_8 0 rfl rfl)
theorem dX6_ahead_191 : decode cX6_ahead 191 = .ok (.goto 4, 3) := dk_167 0 4 (dk_at dksX6_ahead_8 2 rfl rfl)
theorem dX6_ahead_194 : decode cX6_ahead 194 = .ok (.iconst 4, 1) := dk_7 (dk_at dksX6_ahead_8 5 rfl rfl)
theorem dX6_ahead_195 : decode cX6_ahead 195 = .ok (.istore 4, 2) := dk_54 4 (dk_at dksX6_ahead_8 6 rfl rfl)
theorem dX6_ahead_197 : decode cX6_ahead 197 = .ok (.iconst 0, 1) := dk_3 (dk_at dksX6_ahead_8 8 rfl rfl)
theorem dX6_ahead_198 : decode cX6_ahead 198 = .ok (.istore 5, 2) := dk_54 5 (dk_at dksX6_ahead_8 9 rfl rfl)
theorem dX6_ahead_200 : decode cX6_ahead 200 = .ok (.iload_n 1, 1) := dk_27 (dk_at dksX6_ahead_8 11 rfl rfl)
theorem dX6_ahead_201 : decode cX6_ahead 201 = .ok (.aload_n 0, 1) := dk_42 (dk_at dksX6_ahead_8 12 rfl rfl)
theorem dX6_ahead_202 : decode cX6_ahead 202 = .ok (.getfield 17, 3) := dk_180 0 17 (dk_at dksX6_ahead_8 13 rfl rfl)
theorem dX6_ahead_205 : decode cX6_ahead 205 = .ok (.if_icmp .ge 118, 3) := dk_162 0 118 (dk_at dksX6_ahead_8 16 rfl rfl)
theorem dX6_ahead_208 : decode cX6_ahead 208 = .ok (.iload_n 2, 1) := dk_28 (dk_at dksX6_ahead_8 19 rfl rfl)
theorem dX6_ahead_209 : decode cX6_ahead 209 = .ok (.ifCond .eq 18, 3) := dk_153 0 18 (dk_at dksX6_ahead_8 20 rfl rfl)
theorem dX6_ahead_212 : decode cX6_ahead 212 = .ok (.aload_n 0, 1) := dk_42 (dk_at dksX6_ahead_8 23 rfl rfl)
theorem dX6_ahead_213 : decode cX6_ahead 213 = .ok (.getfield 7, 3) := dk_180 0 7 (dk_at dksX6_ahead_9 0 rfl rfl)
theorem dX6_ahead_216 : decode cX6_ahead 216 = .ok (.iload_n 1, 1) := dk_27 (dk_at dksX6_ahead_9 3 rfl rfl)
theorem dX6_ahead_217 : decode cX6_ahead 217 = .ok (.iaload, 1) := dk_46 (dk_at dksX6_ahead_9 4 rfl rfl)
theorem dX6_ahead_218 : decode cX6_ahead 218 = .ok (.invokestatic 272, 3) := dk_184 1 16 (dk_at dksX6_ahead_9 5 rfl rfl)
theorem dX6_ahead_221 : decode cX6_ahead 221 = .ok (.ifCond .eq 102, 3) := dk_153 0 102 (dk_at dksX6_ahead_9 8 rfl rfl)
theorem dX6_ahead_224 : decode cX6_ahead 224 = .ok (.goto 15, 3) := dk_167 0 15 (dk_at dksX6_ahead_9 11 rfl rfl)
theorem dX6_ahead_227 : decode cX6_ahead 227 = .ok (.aload_n 0, 1) := dk_42 (dk_at dksX6_ahead_9 14 rfl rfl)
theorem dX6_ahead_228 : decode cX6_ahead 228 = .ok (.getfield 7, 3) := dk_180 0 7 (dk_at dksX6_ahead_9 15 rfl rfl)
theorem dX6_ahead_231 : decode cX6_ahead 231 = .ok (.iload_n 1, 1) := dk_27 (dk_at dksX6_ahead_9 18 rfl rfl)
theorem dX6_ahead_232 : decode cX6_ahead 232 = .ok (.iaload, 1) := dk_46 (dk_at dksX6_ahead_9 19 rfl rfl)
theorem dX6_ahead_233 : decode cX6_ahead 233 = .ok (.invokestatic 276, 3) := dk_184 1 20 (dk_at dksX6_ahead_9 20 rfl rfl)
theorem dX6_ahead_236 : decode cX6_ahead 236 = .ok (.ifCond .eq 87, 3) := dk_153 0 87 (dk_at dksX6_ahead_10 0 rfl rfl)
theorem dX6_ahead_239 : decode cX6_ahead 239 = .ok (.iload 5, 2) := dk_21 5 (dk_at dksX6_ahead_10 3 rfl rfl)
theorem dX6_ahead_241 : decode cX6_ahead 241 = .ok (.iload 4, 2) := dk_21 4 (dk_at dksX6_ahead_10 5 rfl rfl)
theorem dX6_ahead_243 : decode cX6_ahead 243 = .ok (.if_icmp .ne 9, 3) := dk_160 0 9 (dk_at dksX6_ahead_10 7 rfl rfl)
theorem dX6_ahead_246 : decode cX6_ahead 246 = .ok (.aload_n 0, 1) := dk_42 (dk_at dksX6_ahead_10 10 rfl rfl)
theorem dX6_ahead_247 : decode cX6_ahead 247 = .ok (.iconst 1, 1) := dk_4 (dk_at dksX6_ahead_10 11 rfl rfl)
theorem dX6_ahead_248 : decode cX6_ahead 248 = .ok (.iload_n 1, 1) := dk_27 (dk_at dksX6_ahead_10 12 rfl rfl)
theorem dX6_ahead_249 : decode cX6_ahead 249 = .ok (.invokevirtual 279, 3) := dk_182 1 23 (dk_at dksX6_ahead_10 13 rfl rfl)
theorem dX6_ahead_252 : decode cX6_ahead 252 = .ok (.iload 5, 2) := dk_21 5 (dk_at dksX6_ahead_10 16 rfl rfl)
theorem dX6_ahead_254 : decode cX6_ahead 254 = .ok (.iload 4, 2) := dk_21 4 (dk_at dksX6_ahead_10 18 rfl rfl)
theorem dX6_ahead_256 : decode cX6_ahead 256 = .ok (.if_icmp .ge 26, 3) := dk_162 0 26 (dk_at dksX6_ahead_10 20 rfl rfl)
theorem dX6_ahead_259 : decode cX6_ahead 259 = .ok (.iload_n 2, 1) := dk_28 (dk_at dksX6_ahead_10 23 rfl rfl)
theorem dX6_ahead_260 : decode cX6_ahead 260 = .ok (.ifCond .eq 22, 3) := dk_153 0 22 (dk_at dksX6_ahead_11 0 rfl rfl)
theorem dX6_ahead_263 : decode cX6_ahead 263 = .ok (.aload_n 0, 1) := dk_42 (dk_at dksX6_ahead_11 3 rfl rfl)
theorem dX6_ahead_264 : decode cX6_ahead 264 = .ok (.aload_n 0, 1) := dk_42 (dk_at dksX6_ahead_11 4 rfl rfl)
theorem dX6_ahead_265 : decode cX6_ahead 265 = .ok (.getfield 32, 3) := dk_180 0 32 (dk_at dksX6_ahead_11 5 rfl rfl)
theorem dX6_ahead_268 : decode cX6_ahead 268 = .ok (.bipush 8, 2) := dk_16 8 (dk_at dksX6_ahead_11 8 rfl rfl)
theorem dX6_ahead_270 : decode cX6_ahead 270 = .ok (.lshl, 1) := dk_121 (dk_at dksX6_ahead_11 10 rfl rfl)
theorem dX6_ahead_271 : decode cX6_ahead 271 = .ok (.aload_n 0, 1) := dk_42 (dk_at dksX6_ahead_11 11 rfl rfl)
theorem dX6_ahead_272 : decode cX6_ahead 272 = .ok (.getfield 7, 3) := dk_180 0 7 (dk_at dksX6_ahead_11 12 rfl rfl)
theorem dX6_ahead_275 : decode cX6_ahead 275 = .ok (.iload_n 1, 1) := dk_27 (dk_at dksX6_ahead_11 15 rfl rfl)
theorem dX6_ahead_276 : decode cX6_ahead 276 = .ok (.iaload, 1) := dk_46 (dk_at dksX6_ahead_11 16 rfl rfl)
theorem dX6_ahead_277 : decode cX6_ahead 277 = .ok (.i2l, 1) := dk_133 (dk_at dksX6_ahead_11 17 rfl rfl)
theorem dX6_ahead_278 : decode cX6_ahead 278 = .ok (.lor, 1) := dk_129 (dk_at dksX6_ahead_11 18 rfl rfl)
theorem dX6_ahead_279 : decode cX6_ahead 279 = .ok (.putfield 32, 3) := dk_181 0 32 (dk_at dksX6_ahead_11 19 rfl rfl)
theorem dX6_ahead_282 : decode cX6_ahead 282 = .ok (.iload 5, 2) := dk_21 5 (dk_at dksX6_ahead_11 22 rfl rfl)
theorem dX6_ahead_284 : decode cX6_ahead 284 = .ok (.iload 4, 2) := dk_21 4 (dk_at dksX6_ahead_12 0 rfl rfl)
theorem dX6_ahead_286 : decode cX6_ahead 286 = .ok (.if_icmp .ge 28, 3) := dk_162 0 28 (dk_at dksX6_ahead_12 2 rfl rfl)
theorem dX6_ahead_289 : decode cX6_ahead 289 = .ok (.iload_n 3, 1) := dk_29 (dk_at dksX6_ahead_12 5 rfl rfl)
theorem dX6_ahead_290 : decode cX6_ahead 290 = .ok (.ifCond .eq 24, 3) := dk_153 0 24 (dk_at dksX6_ahead_12 6 rfl rfl)
theorem dX6_ahead_293 : decode cX6_ahead 293 = .ok (.aload_n 0, 1) := dk_42 (dk_at dksX6_ahead_12 9 rfl rfl)
theorem dX6_ahead_294 : decode cX6_ahead 294 = .ok (.bipush 10, 2) := dk_16 10 (dk_at dksX6_ahead_12 10 rfl rfl)
theorem dX6_ahead_296 : decode cX6_ahead 296 = .ok (.aload_n 0, 1) := dk_42 (dk_at dksX6_ahead_12 12 rfl rfl)
theorem dX6_ahead_297 : decode cX6_ahead 297 = .ok (.getfield 29, 3) := dk_180 0 29 (dk_at dksX6_ahead_12 13 rfl rfl)
theorem dX6_ahead_300 : decode cX6_ahead 300 = .ok (.imul, 1) := dk_104 (dk_at dksX6_ahead_12 16 rfl rfl)
theorem dX6_ahead_301 : decode cX6_ahead 301 = .ok (.aload_n 0, 1) := dk_42 (dk_at dksX6_ahead_12 17 rfl rfl)
theorem dX6_ahead_302 : decode cX6_ahead 302 = .ok (.getfield 7, 3) := dk_180 0 7 (dk_at dksX6_ahead_12 18 rfl rfl)
theorem dX6_ahead_305 : decode cX6_ahead 305 = .ok (.iload_n 1, 1) := dk_27 (dk_at dksX6_ahead_12 21 rfl rfl)
theorem dX6_ahead_306 : decode cX6_ahead 306 = .ok (.iaload, 1) := dk_46 (dk_at dksX6_ahead_12 22 rfl rfl)
theorem dX6_ahead_307 : decode cX6_ahead 307 = .ok (.iadd, 1) := dk_96 (dk_at dksX6_ahead_12 23 rfl rfl)
theorem dX6_ahead_308 : decode cX6_ahead 308 = .ok (.bipush 48, 2) := dk_16 48 (dk_at dksX6_ahead_13 0 rfl rfl)
theorem dX6_ahead_310 : decode cX6_ahead 310 = .ok (.isub, 1) := dk_100 (dk_at dksX6_ahead_13 2 rfl rfl)
theorem dX6_ahead_311 : decode cX6_ahead 311 = .ok (.putfield 29, 3) := dk_181 0 29 (dk_at dksX6_ahead_13 3 rfl rfl)
theorem dX6_ahead_314 : decode cX6_ahead 314 = .ok (.iinc 5 1, 3) := dk_132 5 1 (dk_at dksX6_ahead_13 6 rfl rfl)
theorem dX6_ahead_317 : decode cX6_ahead 317 = .ok (.iinc 1 1, 3) := dk_132 1 1 (dk_at dksX6_ahead_13 9 rfl rfl)
theorem dX6_ahead_320 : decode cX6_ahead 320 = .ok (.goto (-120), 3) := dk_167 255 136 (dk_at dksX6_ahead_13 12 rfl rfl)
theorem dX6_ahead_323 : decode cX6_ahead 323 = .ok (.aload_n 0, 1) := dk_42 (dk_at dksX6_ahead_13 15 rfl rfl)
theorem dX6_ahead_324 : decode cX6_ahead 324 = .ok (.iload_n 1, 1) := dk_27 (dk_at dksX6_ahead_13 16 rfl rfl)
theorem dX6_ahead_325 : decode cX6_ahead 325 = .ok (.putfield 26, 3) := dk_181 0 26 (dk_at dksX6_ahead_13 17 rfl rfl)
theorem dX6_ahead_328 : decode cX6_ahead 328 = .ok (.return_, 1) := dk_177 (dk_at dksX6_ahead_13 20 rfl rfl)
abbrev cX6_isLetter : ByteArray := prog_29_method_7_code
def yX6_isLetter : MethodName := ⟨RX6, "isLetter", "(I)Z"⟩
def dkwX6_isLetter_0 : List UInt8 := [26, 16, 97, 161, 0, 13, 26, 16, 122, 163, 0, 7, 4, 167, 0, 4, 3, 172]
abbrev dktX6_isLetter_0 : List UInt8 := dkwX6_isLetter_0 ++ []
theorem dksX6_isLetter_0 : cX6_isLetter.data.toList.drop 0 = dktX6_isLetter_0 := by decide +kernel
theorem dX6_isLetter_0 : decode cX6_isLetter 0 = .ok (.iload_n 0, 1) := dk_26 (dk_at dksX6_isLetter_0 0 rfl rfl)
theorem dX6_isLetter_1 : decode cX6_isLetter 1 = .ok (.bipush 97, 2) := dk_16 97 (dk_at dksX6_isLetter_0 1 rfl rfl)
theorem dX6_isLetter_3 : decode cX6_isLetter 3 = .ok (.if_icmp .lt 13, 3) := dk_161 0 13 (dk_at dksX6_isLetter_0 3 rfl rfl)
theorem dX6_isLetter_6 : decode cX6_isLetter 6 = .ok (.iload_n 0, 1) := dk_26 (dk_at dksX6_isLetter_0 6 rfl rfl)
theorem dX6_isLetter_7 : decode cX6_isLetter 7 = .ok (.bipush 122, 2) := dk_16 122 (dk_at dksX6_isLetter_0 7 rfl rfl)
theorem dX6_isLetter_9 : decode cX6_isLetter 9 = .ok (.if_icmp .gt 7, 3) := dk_163 0 7 (dk_at dksX6_isLetter_0 9 rfl rfl)
theorem dX6_isLetter_12 : decode cX6_isLetter 12 = .ok (.iconst 1, 1) := dk_4 (dk_at dksX6_isLetter_0 12 rfl rfl)
theorem dX6_isLetter_13 : decode cX6_isLetter 13 = .ok (.goto 4, 3) := dk_167 0 4 (dk_at dksX6_isLetter_0 13 rfl rfl)
theorem dX6_isLetter_16 : decode cX6_isLetter 16 = .ok (.iconst 0, 1) := dk_3 (dk_at dksX6_isLetter_0 16 rfl rfl)
theorem dX6_isLetter_17 : decode cX6_isLetter 17 = .ok (.ireturn, 1) := dk_172 (dk_at dksX6_isLetter_0 17 rfl rfl)
abbrev cX6_isDigit : ByteArray := prog_29_method_8_code
def yX6_isDigit : MethodName := ⟨RX6, "isDigit", "(I)Z"⟩
def dkwX6_isDigit_0 : List UInt8 := [26, 16, 48, 161, 0, 13, 26, 16, 57, 163, 0, 7, 4, 167, 0, 4, 3, 172]
abbrev dktX6_isDigit_0 : List UInt8 := dkwX6_isDigit_0 ++ []
theorem dksX6_isDigit_0 : cX6_isDigit.data.toList.drop 0 = dktX6_isDigit_0 := by decide +kernel
theorem dX6_isDigit_0 : decode cX6_isDigit 0 = .ok (.iload_n 0, 1) := dk_26 (dk_at dksX6_isDigit_0 0 rfl rfl)
theorem dX6_isDigit_1 : decode cX6_isDigit 1 = .ok (.bipush 48, 2) := dk_16 48 (dk_at dksX6_isDigit_0 1 rfl rfl)
theorem dX6_isDigit_3 : decode cX6_isDigit 3 = .ok (.if_icmp .lt 13, 3) := dk_161 0 13 (dk_at dksX6_isDigit_0 3 rfl rfl)
theorem dX6_isDigit_6 : decode cX6_isDigit 6 = .ok (.iload_n 0, 1) := dk_26 (dk_at dksX6_isDigit_0 6 rfl rfl)
theorem dX6_isDigit_7 : decode cX6_isDigit 7 = .ok (.bipush 57, 2) := dk_16 57 (dk_at dksX6_isDigit_0 7 rfl rfl)
theorem dX6_isDigit_9 : decode cX6_isDigit 9 = .ok (.if_icmp .gt 7, 3) := dk_163 0 7 (dk_at dksX6_isDigit_0 9 rfl rfl)
theorem dX6_isDigit_12 : decode cX6_isDigit 12 = .ok (.iconst 1, 1) := dk_4 (dk_at dksX6_isDigit_0 12 rfl rfl)
theorem dX6_isDigit_13 : decode cX6_isDigit 13 = .ok (.goto 4, 3) := dk_167 0 4 (dk_at dksX6_isDigit_0 13 rfl rfl)
theorem dX6_isDigit_16 : decode cX6_isDigit 16 = .ok (.iconst 0, 1) := dk_3 (dk_at dksX6_isDigit_0 16 rfl rfl)
theorem dX6_isDigit_17 : decode cX6_isDigit 17 = .ok (.ireturn, 1) := dk_172 (dk_at dksX6_isDigit_0 17 rfl rfl)
abbrev cX6_blame : ByteArray := prog_29_method_6_code
def yX6_blame : MethodName := ⟨RX6, "blame", "(II)V"⟩
def dkwX6_blame_0 : List UInt8 := [42, 180, 0, 36, 158, 0, 4, 177, 42, 27, 181, 0, 36, 42, 28, 181, 0, 39, 177]
abbrev dktX6_blame_0 : List UInt8 := dkwX6_blame_0 ++ []
theorem dksX6_blame_0 : cX6_blame.data.toList.drop 0 = dktX6_blame_0 := by decide +kernel
theorem dX6_blame_0 : decode cX6_blame 0 = .ok (.aload_n 0, 1) := dk_42 (dk_at dksX6_blame_0 0 rfl rfl)
theorem dX6_blame_1 : decode cX6_blame 1 = .ok (.getfield 36, 3) := dk_180 0 36 (dk_at dksX6_blame_0 1 rfl rfl)
theorem dX6_blame_4 : decode cX6_blame 4 = .ok (.ifCond .le 4, 3) := dk_158 0 4 (dk_at dksX6_blame_0 4 rfl rfl)
theorem dX6_blame_7 : decode cX6_blame 7 = .ok (.return_, 1) := dk_177 (dk_at dksX6_blame_0 7 rfl rfl)
theorem dX6_blame_8 : decode cX6_blame 8 = .ok (.aload_n 0, 1) := dk_42 (dk_at dksX6_blame_0 8 rfl rfl)
theorem dX6_blame_9 : decode cX6_blame 9 = .ok (.iload_n 1, 1) := dk_27 (dk_at dksX6_blame_0 9 rfl rfl)
theorem dX6_blame_10 : decode cX6_blame 10 = .ok (.putfield 36, 3) := dk_181 0 36 (dk_at dksX6_blame_0 10 rfl rfl)
theorem dX6_blame_13 : decode cX6_blame 13 = .ok (.aload_n 0, 1) := dk_42 (dk_at dksX6_blame_0 13 rfl rfl)
theorem dX6_blame_14 : decode cX6_blame 14 = .ok (.iload_n 2, 1) := dk_28 (dk_at dksX6_blame_0 14 rfl rfl)
theorem dX6_blame_15 : decode cX6_blame 15 = .ok (.putfield 39, 3) := dk_181 0 39 (dk_at dksX6_blame_0 15 rfl rfl)
theorem dX6_blame_18 : decode cX6_blame 18 = .ok (.return_, 1) := dk_177 (dk_at dksX6_blame_0 18 rfl rfl)
abbrev cX6_sizes : ByteArray := prog_29_method_32_code
def yX6_sizes : MethodName := ⟨RX6, "sizes", "()V"⟩
def dkwX6_sizes_3 : List UInt8 := [16, 59, 182, 1, 133, 177]
abbrev dktX6_sizes_3 : List UInt8 := dkwX6_sizes_3 ++ []
def dkwX6_sizes_2 : List UInt8 := [42, 180, 0, 54, 42, 180, 0, 137, 42, 5, 16, 16, 182, 1, 129, 79, 42, 180, 0, 36, 154, 0, 9, 42]
abbrev dktX6_sizes_2 : List UInt8 := dkwX6_sizes_2 ++ dktX6_sizes_3
def dkwX6_sizes_1 : List UInt8 := [158, 0, 4, 177, 42, 182, 1, 30, 42, 180, 0, 51, 42, 180, 0, 137, 42, 5, 16, 16, 182, 1, 129, 79]
abbrev dktX6_sizes_1 : List UInt8 := dkwX6_sizes_1 ++ dktX6_sizes_2
def dkwX6_sizes_0 : List UInt8 := [42, 20, 1, 33, 182, 1, 103, 154, 0, 12, 42, 4, 42, 180, 0, 23, 182, 1, 23, 42, 180, 0, 36]
abbrev dktX6_sizes_0 : List UInt8 := dkwX6_sizes_0 ++ dktX6_sizes_1
theorem dksX6_sizes_0 : cX6_sizes.data.toList.drop 0 = dktX6_sizes_0 := by decide +kernel
theorem dksX6_sizes_1 : cX6_sizes.data.toList.drop 23 = dktX6_sizes_1 := dk_seg dksX6_sizes_0 23 rfl rfl
theorem dksX6_sizes_2 : cX6_sizes.data.toList.drop 47 = dktX6_sizes_2 := dk_seg dksX6_sizes_1 24 rfl rfl
theorem dksX6_sizes_3 : cX6_sizes.data.toList.drop 71 = dktX6_sizes_3 := dk_seg dksX6_sizes_2 24 rfl rfl
theorem dX6_sizes_0 : decode cX6_sizes 0 = .ok (.aload_n 0, 1) := dk_42 (dk_at dksX6_sizes_0 0 rfl rfl)
theorem dX6_sizes_1 : decode cX6_sizes 1 = .ok (.ldc2_w 289, 3) := dk_20 1 33 (dk_at dksX6_sizes_0 1 rfl rfl)
theorem dX6_sizes_4 : decode cX6_sizes 4 = .ok (.invokevirtual 359, 3) := dk_182 1 103 (dk_at dksX6_sizes_0 4 rfl rfl)
theorem dX6_sizes_7 : decode cX6_sizes 7 = .ok (.ifCond .ne 12, 3) := dk_154 0 12 (dk_at dksX6_sizes_0 7 rfl rfl)
theorem dX6_sizes_10 : decode cX6_sizes 10 = .ok (.aload_n 0, 1) := dk_42 (dk_at dksX6_sizes_0 10 rfl rfl)
theorem dX6_sizes_11 : decode cX6_sizes 11 = .ok (.iconst 1, 1) := dk_4 (dk_at dksX6_sizes_0 11 rfl rfl)
theorem dX6_sizes_12 : decode cX6_sizes 12 = .ok (.aload_n 0, 1) := dk_42 (dk_at dksX6_sizes_0 12 rfl rfl)
theorem dX6_sizes_13 : decode cX6_sizes 13 = .ok (.getfield 23, 3) := dk_180 0 23 (dk_at dksX6_sizes_0 13 rfl rfl)
theorem dX6_sizes_16 : decode cX6_sizes 16 = .ok (.invokevirtual 279, 3) := dk_182 1 23 (dk_at dksX6_sizes_0 16 rfl rfl)
theorem dX6_sizes_19 : decode cX6_sizes 19 = .ok (.aload_n 0, 1) := dk_42 (dk_at dksX6_sizes_0 19 rfl rfl)
theorem dX6_sizes_20 : decode cX6_sizes 20 = .ok (.getfield 36, 3) := dk_180 0 36 (dk_at dksX6_sizes_0 20 rfl rfl)
theorem dX6_sizes_23 : decode cX6_sizes 23 = .ok (.ifCond .le 4, 3) := dk_158 0 4 (dk_at dksX6_sizes_1 0 rfl rfl)
theorem dX6_sizes_26 : decode cX6_sizes 26 = .ok (.return_, 1) := dk_177 (dk_at dksX6_sizes_1 3 rfl rfl)
theorem dX6_sizes_27 : decode cX6_sizes 27 = .ok (.aload_n 0, 1) := dk_42 (dk_at dksX6_sizes_1 4 rfl rfl)
theorem dX6_sizes_28 : decode cX6_sizes 28 = .ok (.invokevirtual 286, 3) := dk_182 1 30 (dk_at dksX6_sizes_1 5 rfl rfl)
theorem dX6_sizes_31 : decode cX6_sizes 31 = .ok (.aload_n 0, 1) := dk_42 (dk_at dksX6_sizes_1 8 rfl rfl)
theorem dX6_sizes_32 : decode cX6_sizes 32 = .ok (.getfield 51, 3) := dk_180 0 51 (dk_at dksX6_sizes_1 9 rfl rfl)
theorem dX6_sizes_35 : decode cX6_sizes 35 = .ok (.aload_n 0, 1) := dk_42 (dk_at dksX6_sizes_1 12 rfl rfl)
theorem dX6_sizes_36 : decode cX6_sizes 36 = .ok (.getfield 137, 3) := dk_180 0 137 (dk_at dksX6_sizes_1 13 rfl rfl)
theorem dX6_sizes_39 : decode cX6_sizes 39 = .ok (.aload_n 0, 1) := dk_42 (dk_at dksX6_sizes_1 16 rfl rfl)
theorem dX6_sizes_40 : decode cX6_sizes 40 = .ok (.iconst 2, 1) := dk_5 (dk_at dksX6_sizes_1 17 rfl rfl)
theorem dX6_sizes_41 : decode cX6_sizes 41 = .ok (.bipush 16, 2) := dk_16 16 (dk_at dksX6_sizes_1 18 rfl rfl)
theorem dX6_sizes_43 : decode cX6_sizes 43 = .ok (.invokevirtual 385, 3) := dk_182 1 129 (dk_at dksX6_sizes_1 20 rfl rfl)
theorem dX6_sizes_46 : decode cX6_sizes 46 = .ok (.iastore, 1) := dk_79 (dk_at dksX6_sizes_1 23 rfl rfl)
theorem dX6_sizes_47 : decode cX6_sizes 47 = .ok (.aload_n 0, 1) := dk_42 (dk_at dksX6_sizes_2 0 rfl rfl)
theorem dX6_sizes_48 : decode cX6_sizes 48 = .ok (.getfield 54, 3) := dk_180 0 54 (dk_at dksX6_sizes_2 1 rfl rfl)
theorem dX6_sizes_51 : decode cX6_sizes 51 = .ok (.aload_n 0, 1) := dk_42 (dk_at dksX6_sizes_2 4 rfl rfl)
theorem dX6_sizes_52 : decode cX6_sizes 52 = .ok (.getfield 137, 3) := dk_180 0 137 (dk_at dksX6_sizes_2 5 rfl rfl)
theorem dX6_sizes_55 : decode cX6_sizes 55 = .ok (.aload_n 0, 1) := dk_42 (dk_at dksX6_sizes_2 8 rfl rfl)
theorem dX6_sizes_56 : decode cX6_sizes 56 = .ok (.iconst 2, 1) := dk_5 (dk_at dksX6_sizes_2 9 rfl rfl)
theorem dX6_sizes_57 : decode cX6_sizes 57 = .ok (.bipush 16, 2) := dk_16 16 (dk_at dksX6_sizes_2 10 rfl rfl)
theorem dX6_sizes_59 : decode cX6_sizes 59 = .ok (.invokevirtual 385, 3) := dk_182 1 129 (dk_at dksX6_sizes_2 12 rfl rfl)
theorem dX6_sizes_62 : decode cX6_sizes 62 = .ok (.iastore, 1) := dk_79 (dk_at dksX6_sizes_2 15 rfl rfl)
theorem dX6_sizes_63 : decode cX6_sizes 63 = .ok (.aload_n 0, 1) := dk_42 (dk_at dksX6_sizes_2 16 rfl rfl)
theorem dX6_sizes_64 : decode cX6_sizes 64 = .ok (.getfield 36, 3) := dk_180 0 36 (dk_at dksX6_sizes_2 17 rfl rfl)
theorem dX6_sizes_67 : decode cX6_sizes 67 = .ok (.ifCond .ne 9, 3) := dk_154 0 9 (dk_at dksX6_sizes_2 20 rfl rfl)
theorem dX6_sizes_70 : decode cX6_sizes 70 = .ok (.aload_n 0, 1) := dk_42 (dk_at dksX6_sizes_2 23 rfl rfl)
theorem dX6_sizes_71 : decode cX6_sizes 71 = .ok (.bipush 59, 2) := dk_16 59 (dk_at dksX6_sizes_3 0 rfl rfl)
theorem dX6_sizes_73 : decode cX6_sizes 73 = .ok (.invokevirtual 389, 3) := dk_182 1 133 (dk_at dksX6_sizes_3 2 rfl rfl)
theorem dX6_sizes_76 : decode cX6_sizes 76 = .ok (.return_, 1) := dk_177 (dk_at dksX6_sizes_3 5 rfl rfl)
abbrev cX6_isWord : ByteArray := prog_29_method_11_code
def yX6_isWord : MethodName := ⟨RX6, "isWord", "(J)Z"⟩
def dkwX6_isWord_0 : List UInt8 := [42, 180, 0, 20, 4, 160, 0, 16, 42, 180, 0, 32, 31, 148, 154, 0, 7, 4, 167, 0, 4, 3, 172]
abbrev dktX6_isWord_0 : List UInt8 := dkwX6_isWord_0 ++ []
theorem dksX6_isWord_0 : cX6_isWord.data.toList.drop 0 = dktX6_isWord_0 := by decide +kernel
theorem dX6_isWord_0 : decode cX6_isWord 0 = .ok (.aload_n 0, 1) := dk_42 (dk_at dksX6_isWord_0 0 rfl rfl)
theorem dX6_isWord_1 : decode cX6_isWord 1 = .ok (.getfield 20, 3) := dk_180 0 20 (dk_at dksX6_isWord_0 1 rfl rfl)
theorem dX6_isWord_4 : decode cX6_isWord 4 = .ok (.iconst 1, 1) := dk_4 (dk_at dksX6_isWord_0 4 rfl rfl)
theorem dX6_isWord_5 : decode cX6_isWord 5 = .ok (.if_icmp .ne 16, 3) := dk_160 0 16 (dk_at dksX6_isWord_0 5 rfl rfl)
theorem dX6_isWord_8 : decode cX6_isWord 8 = .ok (.aload_n 0, 1) := dk_42 (dk_at dksX6_isWord_0 8 rfl rfl)
theorem dX6_isWord_9 : decode cX6_isWord 9 = .ok (.getfield 32, 3) := dk_180 0 32 (dk_at dksX6_isWord_0 9 rfl rfl)
theorem dX6_isWord_12 : decode cX6_isWord 12 = .ok (.lload_n 1, 1) := dk_31 (dk_at dksX6_isWord_0 12 rfl rfl)
theorem dX6_isWord_13 : decode cX6_isWord 13 = .ok (.lcmp, 1) := dk_148 (dk_at dksX6_isWord_0 13 rfl rfl)
theorem dX6_isWord_14 : decode cX6_isWord 14 = .ok (.ifCond .ne 7, 3) := dk_154 0 7 (dk_at dksX6_isWord_0 14 rfl rfl)
theorem dX6_isWord_17 : decode cX6_isWord 17 = .ok (.iconst 1, 1) := dk_4 (dk_at dksX6_isWord_0 17 rfl rfl)
theorem dX6_isWord_18 : decode cX6_isWord 18 = .ok (.goto 4, 3) := dk_167 0 4 (dk_at dksX6_isWord_0 18 rfl rfl)
theorem dX6_isWord_21 : decode cX6_isWord 21 = .ok (.iconst 0, 1) := dk_3 (dk_at dksX6_isWord_0 21 rfl rfl)
theorem dX6_isWord_22 : decode cX6_isWord 22 = .ok (.ireturn, 1) := dk_172 (dk_at dksX6_isWord_0 22 rfl rfl)
abbrev cX6_number : ByteArray := prog_29_method_17_code
def yX6_number : MethodName := ⟨RX6, "number", "(II)I"⟩
def dkwX6_number_3 : List UInt8 := [172]
abbrev dktX6_number_3 : List UInt8 := dkwX6_number_3 ++ []
def dkwX6_number_2 : List UInt8 := [42, 180, 0, 23, 182, 1, 23, 42, 180, 0, 29, 62, 42, 180, 0, 36, 154, 0, 7, 42, 182, 1, 30, 29]
abbrev dktX6_number_2 : List UInt8 := dkwX6_number_2 ++ dktX6_number_3
def dkwX6_number_1 : List UInt8 := [182, 1, 23, 42, 180, 0, 36, 154, 0, 24, 42, 180, 0, 29, 27, 28, 184, 1, 87, 154, 0, 12, 42, 7]
abbrev dktX6_number_1 : List UInt8 := dkwX6_number_1 ++ dktX6_number_2
def dkwX6_number_0 : List UInt8 := [42, 180, 0, 36, 158, 0, 5, 3, 172, 42, 180, 0, 20, 5, 159, 0, 12, 42, 4, 42, 180, 0, 23]
abbrev dktX6_number_0 : List UInt8 := dkwX6_number_0 ++ dktX6_number_1
theorem dksX6_number_0 : cX6_number.data.toList.drop 0 = dktX6_number_0 := by decide +kernel
theorem dksX6_number_1 : cX6_number.data.toList.drop 23 = dktX6_number_1 := dk_seg dksX6_number_0 23 rfl rfl
theorem dksX6_number_2 : cX6_number.data.toList.drop 47 = dktX6_number_2 := dk_seg dksX6_number_1 24 rfl rfl
theorem dksX6_number_3 : cX6_number.data.toList.drop 71 = dktX6_number_3 := dk_seg dksX6_number_2 24 rfl rfl
theorem dX6_number_0 : decode cX6_number 0 = .ok (.aload_n 0, 1) := dk_42 (dk_at dksX6_number_0 0 rfl rfl)
theorem dX6_number_1 : decode cX6_number 1 = .ok (.getfield 36, 3) := dk_180 0 36 (dk_at dksX6_number_0 1 rfl rfl)
theorem dX6_number_4 : decode cX6_number 4 = .ok (.ifCond .le 5, 3) := dk_158 0 5 (dk_at dksX6_number_0 4 rfl rfl)
theorem dX6_number_7 : decode cX6_number 7 = .ok (.iconst 0, 1) := dk_3 (dk_at dksX6_number_0 7 rfl rfl)
theorem dX6_number_8 : decode cX6_number 8 = .ok (.ireturn, 1) := dk_172 (dk_at dksX6_number_0 8 rfl rfl)
theorem dX6_number_9 : decode cX6_number 9 = .ok (.aload_n 0, 1) := dk_42 (dk_at dksX6_number_0 9 rfl rfl)
theorem dX6_number_10 : decode cX6_number 10 = .ok (.getfield 20, 3) := dk_180 0 20 (dk_at dksX6_number_0 10 rfl rfl)
theorem dX6_number_13 : decode cX6_number 13 = .ok (.iconst 2, 1) := dk_5 (dk_at dksX6_number_0 13 rfl rfl)
theorem dX6_number_14 : decode cX6_number 14 = .ok (.if_icmp .eq 12, 3) := dk_159 0 12 (dk_at dksX6_number_0 14 rfl rfl)
theorem dX6_number_17 : decode cX6_number 17 = .ok (.aload_n 0, 1) := dk_42 (dk_at dksX6_number_0 17 rfl rfl)
theorem dX6_number_18 : decode cX6_number 18 = .ok (.iconst 1, 1) := dk_4 (dk_at dksX6_number_0 18 rfl rfl)
theorem dX6_number_19 : decode cX6_number 19 = .ok (.aload_n 0, 1) := dk_42 (dk_at dksX6_number_0 19 rfl rfl)
theorem dX6_number_20 : decode cX6_number 20 = .ok (.getfield 23, 3) := dk_180 0 23 (dk_at dksX6_number_0 20 rfl rfl)
theorem dX6_number_23 : decode cX6_number 23 = .ok (.invokevirtual 279, 3) := dk_182 1 23 (dk_at dksX6_number_1 0 rfl rfl)
theorem dX6_number_26 : decode cX6_number 26 = .ok (.aload_n 0, 1) := dk_42 (dk_at dksX6_number_1 3 rfl rfl)
theorem dX6_number_27 : decode cX6_number 27 = .ok (.getfield 36, 3) := dk_180 0 36 (dk_at dksX6_number_1 4 rfl rfl)
theorem dX6_number_30 : decode cX6_number 30 = .ok (.ifCond .ne 24, 3) := dk_154 0 24 (dk_at dksX6_number_1 7 rfl rfl)
theorem dX6_number_33 : decode cX6_number 33 = .ok (.aload_n 0, 1) := dk_42 (dk_at dksX6_number_1 10 rfl rfl)
theorem dX6_number_34 : decode cX6_number 34 = .ok (.getfield 29, 3) := dk_180 0 29 (dk_at dksX6_number_1 11 rfl rfl)
theorem dX6_number_37 : decode cX6_number 37 = .ok (.iload_n 1, 1) := dk_27 (dk_at dksX6_number_1 14 rfl rfl)
theorem dX6_number_38 : decode cX6_number 38 = .ok (.iload_n 2, 1) := dk_28 (dk_at dksX6_number_1 15 rfl rfl)
theorem dX6_number_39 : decode cX6_number 39 = .ok (.invokestatic 343, 3) := dk_184 1 87 (dk_at dksX6_number_1 16 rfl rfl)
theorem dX6_number_42 : decode cX6_number 42 = .ok (.ifCond .ne 12, 3) := dk_154 0 12 (dk_at dksX6_number_1 19 rfl rfl)
theorem dX6_number_45 : decode cX6_number 45 = .ok (.aload_n 0, 1) := dk_42 (dk_at dksX6_number_1 22 rfl rfl)
theorem dX6_number_46 : decode cX6_number 46 = .ok (.iconst 4, 1) := dk_7 (dk_at dksX6_number_1 23 rfl rfl)
theorem dX6_number_47 : decode cX6_number 47 = .ok (.aload_n 0, 1) := dk_42 (dk_at dksX6_number_2 0 rfl rfl)
theorem dX6_number_48 : decode cX6_number 48 = .ok (.getfield 23, 3) := dk_180 0 23 (dk_at dksX6_number_2 1 rfl rfl)
theorem dX6_number_51 : decode cX6_number 51 = .ok (.invokevirtual 279, 3) := dk_182 1 23 (dk_at dksX6_number_2 4 rfl rfl)
theorem dX6_number_54 : decode cX6_number 54 = .ok (.aload_n 0, 1) := dk_42 (dk_at dksX6_number_2 7 rfl rfl)
theorem dX6_number_55 : decode cX6_number 55 = .ok (.getfield 29, 3) := dk_180 0 29 (dk_at dksX6_number_2 8 rfl rfl)
theorem dX6_number_58 : decode cX6_number 58 = .ok (.istore_n 3, 1) := dk_62 (dk_at dksX6_number_2 11 rfl rfl)
theorem dX6_number_59 : decode cX6_number 59 = .ok (.aload_n 0, 1) := dk_42 (dk_at dksX6_number_2 12 rfl rfl)
theorem dX6_number_60 : decode cX6_number 60 = .ok (.getfield 36, 3) := dk_180 0 36 (dk_at dksX6_number_2 13 rfl rfl)
theorem dX6_number_63 : decode cX6_number 63 = .ok (.ifCond .ne 7, 3) := dk_154 0 7 (dk_at dksX6_number_2 16 rfl rfl)
theorem dX6_number_66 : decode cX6_number 66 = .ok (.aload_n 0, 1) := dk_42 (dk_at dksX6_number_2 19 rfl rfl)
theorem dX6_number_67 : decode cX6_number 67 = .ok (.invokevirtual 286, 3) := dk_182 1 30 (dk_at dksX6_number_2 20 rfl rfl)
theorem dX6_number_70 : decode cX6_number 70 = .ok (.iload_n 3, 1) := dk_29 (dk_at dksX6_number_2 23 rfl rfl)
theorem dX6_number_71 : decode cX6_number 71 = .ok (.ireturn, 1) := dk_172 (dk_at dksX6_number_3 0 rfl rfl)
abbrev cX6_is : ByteArray := prog_29_method_2_code
def yX6_is : MethodName := ⟨RX6, "is", "(III)Z"⟩
def dkwX6_is_0 : List UInt8 := [26, 27, 161, 0, 12, 26, 28, 163, 0, 7, 4, 167, 0, 4, 3, 172]
abbrev dktX6_is_0 : List UInt8 := dkwX6_is_0 ++ []
theorem dksX6_is_0 : cX6_is.data.toList.drop 0 = dktX6_is_0 := by decide +kernel
theorem dX6_is_0 : decode cX6_is 0 = .ok (.iload_n 0, 1) := dk_26 (dk_at dksX6_is_0 0 rfl rfl)
theorem dX6_is_1 : decode cX6_is 1 = .ok (.iload_n 1, 1) := dk_27 (dk_at dksX6_is_0 1 rfl rfl)
theorem dX6_is_2 : decode cX6_is 2 = .ok (.if_icmp .lt 12, 3) := dk_161 0 12 (dk_at dksX6_is_0 2 rfl rfl)
theorem dX6_is_5 : decode cX6_is 5 = .ok (.iload_n 0, 1) := dk_26 (dk_at dksX6_is_0 5 rfl rfl)
theorem dX6_is_6 : decode cX6_is 6 = .ok (.iload_n 2, 1) := dk_28 (dk_at dksX6_is_0 6 rfl rfl)
theorem dX6_is_7 : decode cX6_is 7 = .ok (.if_icmp .gt 7, 3) := dk_163 0 7 (dk_at dksX6_is_0 7 rfl rfl)
theorem dX6_is_10 : decode cX6_is 10 = .ok (.iconst 1, 1) := dk_4 (dk_at dksX6_is_0 10 rfl rfl)
theorem dX6_is_11 : decode cX6_is 11 = .ok (.goto 4, 3) := dk_167 0 4 (dk_at dksX6_is_0 11 rfl rfl)
theorem dX6_is_14 : decode cX6_is 14 = .ok (.iconst 0, 1) := dk_3 (dk_at dksX6_is_0 14 rfl rfl)
theorem dX6_is_15 : decode cX6_is 15 = .ok (.ireturn, 1) := dk_172 (dk_at dksX6_is_0 15 rfl rfl)
abbrev cX6_must : ByteArray := prog_29_method_12_code
def yX6_must : MethodName := ⟨RX6, "must", "(I)V"⟩
def dkwX6_must_1 : List UInt8 := [42, 182, 1, 30, 177]
abbrev dktX6_must_1 : List UInt8 := dkwX6_must_1 ++ []
def dkwX6_must_0 : List UInt8 := [42, 27, 182, 1, 27, 154, 0, 12, 42, 4, 42, 180, 0, 23, 182, 1, 23, 42, 180, 0, 36, 154, 0, 7]
abbrev dktX6_must_0 : List UInt8 := dkwX6_must_0 ++ dktX6_must_1
theorem dksX6_must_0 : cX6_must.data.toList.drop 0 = dktX6_must_0 := by decide +kernel
theorem dksX6_must_1 : cX6_must.data.toList.drop 24 = dktX6_must_1 := dk_seg dksX6_must_0 24 rfl rfl
theorem dX6_must_0 : decode cX6_must 0 = .ok (.aload_n 0, 1) := dk_42 (dk_at dksX6_must_0 0 rfl rfl)
theorem dX6_must_1 : decode cX6_must 1 = .ok (.iload_n 1, 1) := dk_27 (dk_at dksX6_must_0 1 rfl rfl)
theorem dX6_must_2 : decode cX6_must 2 = .ok (.invokevirtual 283, 3) := dk_182 1 27 (dk_at dksX6_must_0 2 rfl rfl)
theorem dX6_must_5 : decode cX6_must 5 = .ok (.ifCond .ne 12, 3) := dk_154 0 12 (dk_at dksX6_must_0 5 rfl rfl)
theorem dX6_must_8 : decode cX6_must 8 = .ok (.aload_n 0, 1) := dk_42 (dk_at dksX6_must_0 8 rfl rfl)
theorem dX6_must_9 : decode cX6_must 9 = .ok (.iconst 1, 1) := dk_4 (dk_at dksX6_must_0 9 rfl rfl)
theorem dX6_must_10 : decode cX6_must 10 = .ok (.aload_n 0, 1) := dk_42 (dk_at dksX6_must_0 10 rfl rfl)
theorem dX6_must_11 : decode cX6_must 11 = .ok (.getfield 23, 3) := dk_180 0 23 (dk_at dksX6_must_0 11 rfl rfl)
theorem dX6_must_14 : decode cX6_must 14 = .ok (.invokevirtual 279, 3) := dk_182 1 23 (dk_at dksX6_must_0 14 rfl rfl)
theorem dX6_must_17 : decode cX6_must 17 = .ok (.aload_n 0, 1) := dk_42 (dk_at dksX6_must_0 17 rfl rfl)
theorem dX6_must_18 : decode cX6_must 18 = .ok (.getfield 36, 3) := dk_180 0 36 (dk_at dksX6_must_0 18 rfl rfl)
theorem dX6_must_21 : decode cX6_must 21 = .ok (.ifCond .ne 7, 3) := dk_154 0 7 (dk_at dksX6_must_0 21 rfl rfl)
theorem dX6_must_24 : decode cX6_must 24 = .ok (.aload_n 0, 1) := dk_42 (dk_at dksX6_must_1 0 rfl rfl)
theorem dX6_must_25 : decode cX6_must 25 = .ok (.invokevirtual 286, 3) := dk_182 1 30 (dk_at dksX6_must_1 1 rfl rfl)
theorem dX6_must_28 : decode cX6_must 28 = .ok (.return_, 1) := dk_177 (dk_at dksX6_must_1 4 rfl rfl)
abbrev cX6_isSign : ByteArray := prog_29_method_10_code
def yX6_isSign : MethodName := ⟨RX6, "isSign", "(I)Z"⟩
def dkwX6_isSign_0 : List UInt8 := [42, 180, 0, 20, 6, 160, 0, 15, 42, 180, 0, 29, 27, 160, 0, 7, 4, 167, 0, 4, 3, 172]
abbrev dktX6_isSign_0 : List UInt8 := dkwX6_isSign_0 ++ []
theorem dksX6_isSign_0 : cX6_isSign.data.toList.drop 0 = dktX6_isSign_0 := by decide +kernel
theorem dX6_isSign_0 : decode cX6_isSign 0 = .ok (.aload_n 0, 1) := dk_42 (dk_at dksX6_isSign_0 0 rfl rfl)
theorem dX6_isSign_1 : decode cX6_isSign 1 = .ok (.getfield 20, 3) := dk_180 0 20 (dk_at dksX6_isSign_0 1 rfl rfl)
theorem dX6_isSign_4 : decode cX6_isSign 4 = .ok (.iconst 3, 1) := dk_6 (dk_at dksX6_isSign_0 4 rfl rfl)
theorem dX6_isSign_5 : decode cX6_isSign 5 = .ok (.if_icmp .ne 15, 3) := dk_160 0 15 (dk_at dksX6_isSign_0 5 rfl rfl)
theorem dX6_isSign_8 : decode cX6_isSign 8 = .ok (.aload_n 0, 1) := dk_42 (dk_at dksX6_isSign_0 8 rfl rfl)
theorem dX6_isSign_9 : decode cX6_isSign 9 = .ok (.getfield 29, 3) := dk_180 0 29 (dk_at dksX6_isSign_0 9 rfl rfl)
theorem dX6_isSign_12 : decode cX6_isSign 12 = .ok (.iload_n 1, 1) := dk_27 (dk_at dksX6_isSign_0 12 rfl rfl)
theorem dX6_isSign_13 : decode cX6_isSign 13 = .ok (.if_icmp .ne 7, 3) := dk_160 0 7 (dk_at dksX6_isSign_0 13 rfl rfl)
theorem dX6_isSign_16 : decode cX6_isSign 16 = .ok (.iconst 1, 1) := dk_4 (dk_at dksX6_isSign_0 16 rfl rfl)
theorem dX6_isSign_17 : decode cX6_isSign 17 = .ok (.goto 4, 3) := dk_167 0 4 (dk_at dksX6_isSign_0 17 rfl rfl)
theorem dX6_isSign_20 : decode cX6_isSign 20 = .ok (.iconst 0, 1) := dk_3 (dk_at dksX6_isSign_0 20 rfl rfl)
theorem dX6_isSign_21 : decode cX6_isSign 21 = .ok (.ireturn, 1) := dk_172 (dk_at dksX6_isSign_0 21 rfl rfl)
abbrev cX6_statement : ByteArray := prog_29_method_40_code
def yX6_statement : MethodName := ⟨RX6, "statement", "()V"⟩
def dkwX6_statement_6 : List UInt8 := [4, 42, 180, 0, 23, 182, 1, 23, 42, 180, 0, 36, 154, 0, 9, 42, 16, 59, 182, 1, 133, 177]
abbrev dktX6_statement_6 : List UInt8 := dkwX6_statement_6 ++ []
def dkwX6_statement_5 : List UInt8 := [182, 1, 176, 167, 0, 29, 42, 20, 1, 67, 182, 1, 103, 153, 0, 10, 42, 182, 1, 179, 167, 0, 12, 42]
abbrev dktX6_statement_5 : List UInt8 := dkwX6_statement_5 ++ dktX6_statement_6
def dkwX6_statement_4 : List UInt8 := [182, 1, 103, 153, 0, 10, 42, 182, 1, 173, 167, 0, 46, 42, 20, 1, 63, 182, 1, 103, 153, 0, 10, 42]
abbrev dktX6_statement_4 : List UInt8 := dkwX6_statement_4 ++ dktX6_statement_5
def dkwX6_statement_3 : List UInt8 := [167, 0, 80, 42, 20, 1, 51, 182, 1, 103, 153, 0, 10, 42, 182, 1, 170, 167, 0, 63, 42, 20, 1, 57]
abbrev dktX6_statement_3 : List UInt8 := dkwX6_statement_3 ++ dktX6_statement_4
def dkwX6_statement_2 : List UInt8 := [42, 5, 182, 1, 164, 167, 0, 97, 42, 20, 1, 41, 182, 1, 103, 153, 0, 10, 42, 182, 1, 167]
abbrev dktX6_statement_2 : List UInt8 := dkwX6_statement_2 ++ dktX6_statement_3
def dkwX6_statement_1 : List UInt8 := [182, 1, 103, 153, 0, 11, 42, 4, 182, 1, 164, 167, 0, 115, 42, 20, 1, 39, 182, 1, 103, 153, 0, 11]
abbrev dktX6_statement_1 : List UInt8 := dkwX6_statement_1 ++ dktX6_statement_2
def dkwX6_statement_0 : List UInt8 := [42, 20, 1, 35, 182, 1, 103, 153, 0, 11, 42, 3, 182, 1, 164, 167, 0, 133, 42, 20, 1, 37]
abbrev dktX6_statement_0 : List UInt8 := dkwX6_statement_0 ++ dktX6_statement_1
theorem dksX6_statement_0 : cX6_statement.data.toList.drop 0 = dktX6_statement_0 := by decide +kernel
theorem dksX6_statement_1 : cX6_statement.data.toList.drop 22 = dktX6_statement_1 := dk_seg dksX6_statement_0 22 rfl rfl
theorem dksX6_statement_2 : cX6_statement.data.toList.drop 46 = dktX6_statement_2 := dk_seg dksX6_statement_1 24 rfl rfl
theorem dksX6_statement_3 : cX6_statement.data.toList.drop 68 = dktX6_statement_3 := dk_seg dksX6_statement_2 22 rfl rfl
theorem dksX6_statement_4 : cX6_statement.data.toList.drop 92 = dktX6_statement_4 := dk_seg dksX6_statement_3 24 rfl rfl
theorem dksX6_statement_5 : cX6_statement.data.toList.drop 116 = dktX6_statement_5 := dk_seg dksX6_statement_4 24 rfl rfl
theorem dksX6_statement_6 : cX6_statement.data.toList.drop 140 = dktX6_statement_6 := dk_seg dksX6_statement_5 24 rfl rfl
theorem dX6_statement_0 : decode cX6_statement 0 = .ok (.aload_n 0, 1) := dk_42 (dk_at dksX6_statement_0 0 rfl rfl)
theorem dX6_statement_1 : decode cX6_statement 1 = .ok (.ldc2_w 291, 3) := dk_20 1 35 (dk_at dksX6_statement_0 1 rfl rfl)
theorem dX6_statement_4 : decode cX6_statement 4 = .ok (.invokevirtual 359, 3) := dk_182 1 103 (dk_at dksX6_statement_0 4 rfl rfl)
theorem dX6_statement_7 : decode cX6_statement 7 = .ok (.ifCond .eq 11, 3) := dk_153 0 11 (dk_at dksX6_statement_0 7 rfl rfl)
theorem dX6_statement_10 : decode cX6_statement 10 = .ok (.aload_n 0, 1) := dk_42 (dk_at dksX6_statement_0 10 rfl rfl)
theorem dX6_statement_11 : decode cX6_statement 11 = .ok (.iconst 0, 1) := dk_3 (dk_at dksX6_statement_0 11 rfl rfl)
theorem dX6_statement_12 : decode cX6_statement 12 = .ok (.invokevirtual 420, 3) := dk_182 1 164 (dk_at dksX6_statement_0 12 rfl rfl)
theorem dX6_statement_15 : decode cX6_statement 15 = .ok (.goto 133, 3) := dk_167 0 133 (dk_at dksX6_statement_0 15 rfl rfl)
theorem dX6_statement_18 : decode cX6_statement 18 = .ok (.aload_n 0, 1) := dk_42 (dk_at dksX6_statement_0 18 rfl rfl)
theorem dX6_statement_19 : decode cX6_statement 19 = .ok (.ldc2_w 293, 3) := dk_20 1 37 (dk_at dksX6_statement_0 19 rfl rfl)
theorem dX6_statement_22 : decode cX6_statement 22 = .ok (.invokevirtual 359, 3) := dk_182 1 103 (dk_at dksX6_statement_1 0 rfl rfl)
theorem dX6_statement_25 : decode cX6_statement 25 = .ok (.ifCond .eq 11, 3) := dk_153 0 11 (dk_at dksX6_statement_1 3 rfl rfl)
theorem dX6_statement_28 : decode cX6_statement 28 = .ok (.aload_n 0, 1) := dk_42 (dk_at dksX6_statement_1 6 rfl rfl)
theorem dX6_statement_29 : decode cX6_statement 29 = .ok (.iconst 1, 1) := dk_4 (dk_at dksX6_statement_1 7 rfl rfl)
theorem dX6_statement_30 : decode cX6_statement 30 = .ok (.invokevirtual 420, 3) := dk_182 1 164 (dk_at dksX6_statement_1 8 rfl rfl)
theorem dX6_statement_33 : decode cX6_statement 33 = .ok (.goto 115, 3) := dk_167 0 115 (dk_at dksX6_statement_1 11 rfl rfl)
theorem dX6_statement_36 : decode cX6_statement 36 = .ok (.aload_n 0, 1) := dk_42 (dk_at dksX6_statement_1 14 rfl rfl)
theorem dX6_statement_37 : decode cX6_statement 37 = .ok (.ldc2_w 295, 3) := dk_20 1 39 (dk_at dksX6_statement_1 15 rfl rfl)
theorem dX6_statement_40 : decode cX6_statement 40 = .ok (.invokevirtual 359, 3) := dk_182 1 103 (dk_at dksX6_statement_1 18 rfl rfl)
theorem dX6_statement_43 : decode cX6_statement 43 = .ok (.ifCond .eq 11, 3) := dk_153 0 11 (dk_at dksX6_statement_1 21 rfl rfl)
theorem dX6_statement_46 : decode cX6_statement 46 = .ok (.aload_n 0, 1) := dk_42 (dk_at dksX6_statement_2 0 rfl rfl)
theorem dX6_statement_47 : decode cX6_statement 47 = .ok (.iconst 2, 1) := dk_5 (dk_at dksX6_statement_2 1 rfl rfl)
theorem dX6_statement_48 : decode cX6_statement 48 = .ok (.invokevirtual 420, 3) := dk_182 1 164 (dk_at dksX6_statement_2 2 rfl rfl)
theorem dX6_statement_51 : decode cX6_statement 51 = .ok (.goto 97, 3) := dk_167 0 97 (dk_at dksX6_statement_2 5 rfl rfl)
theorem dX6_statement_54 : decode cX6_statement 54 = .ok (.aload_n 0, 1) := dk_42 (dk_at dksX6_statement_2 8 rfl rfl)
theorem dX6_statement_55 : decode cX6_statement 55 = .ok (.ldc2_w 297, 3) := dk_20 1 41 (dk_at dksX6_statement_2 9 rfl rfl)
theorem dX6_statement_58 : decode cX6_statement 58 = .ok (.invokevirtual 359, 3) := dk_182 1 103 (dk_at dksX6_statement_2 12 rfl rfl)
theorem dX6_statement_61 : decode cX6_statement 61 = .ok (.ifCond .eq 10, 3) := dk_153 0 10 (dk_at dksX6_statement_2 15 rfl rfl)
theorem dX6_statement_64 : decode cX6_statement 64 = .ok (.aload_n 0, 1) := dk_42 (dk_at dksX6_statement_2 18 rfl rfl)
theorem dX6_statement_65 : decode cX6_statement 65 = .ok (.invokevirtual 423, 3) := dk_182 1 167 (dk_at dksX6_statement_2 19 rfl rfl)
theorem dX6_statement_68 : decode cX6_statement 68 = .ok (.goto 80, 3) := dk_167 0 80 (dk_at dksX6_statement_3 0 rfl rfl)
theorem dX6_statement_71 : decode cX6_statement 71 = .ok (.aload_n 0, 1) := dk_42 (dk_at dksX6_statement_3 3 rfl rfl)
theorem dX6_statement_72 : decode cX6_statement 72 = .ok (.ldc2_w 307, 3) := dk_20 1 51 (dk_at dksX6_statement_3 4 rfl rfl)
theorem dX6_statement_75 : decode cX6_statement 75 = .ok (.invokevirtual 359, 3) := dk_182 1 103 (dk_at dksX6_statement_3 7 rfl rfl)
theorem dX6_statement_78 : decode cX6_statement 78 = .ok (.ifCond .eq 10, 3) := dk_153 0 10 (dk_at dksX6_statement_3 10 rfl rfl)
theorem dX6_statement_81 : decode cX6_statement 81 = .ok (.aload_n 0, 1) := dk_42 (dk_at dksX6_statement_3 13 rfl rfl)
theorem dX6_statement_82 : decode cX6_statement 82 = .ok (.invokevirtual 426, 3) := dk_182 1 170 (dk_at dksX6_statement_3 14 rfl rfl)
theorem dX6_statement_85 : decode cX6_statement 85 = .ok (.goto 63, 3) := dk_167 0 63 (dk_at dksX6_statement_3 17 rfl rfl)
theorem dX6_statement_88 : decode cX6_statement 88 = .ok (.aload_n 0, 1) := dk_42 (dk_at dksX6_statement_3 20 rfl rfl)
theorem dX6_statement_89 : decode cX6_statement 89 = .ok (.ldc2_w 313, 3) := dk_20 1 57 (dk_at dksX6_statement_3 21 rfl rfl)
theorem dX6_statement_92 : decode cX6_statement 92 = .ok (.invokevirtual 359, 3) := dk_182 1 103 (dk_at dksX6_statement_4 0 rfl rfl)
theorem dX6_statement_95 : decode cX6_statement 95 = .ok (.ifCond .eq 10, 3) := dk_153 0 10 (dk_at dksX6_statement_4 3 rfl rfl)
theorem dX6_statement_98 : decode cX6_statement 98 = .ok (.aload_n 0, 1) := dk_42 (dk_at dksX6_statement_4 6 rfl rfl)
theorem dX6_statement_99 : decode cX6_statement 99 = .ok (.invokevirtual 429, 3) := dk_182 1 173 (dk_at dksX6_statement_4 7 rfl rfl)
theorem dX6_statement_102 : decode cX6_statement 102 = .ok (.goto 46, 3) := dk_167 0 46 (dk_at dksX6_statement_4 10 rfl rfl)
theorem dX6_statement_105 : decode cX6_statement 105 = .ok (.aload_n 0, 1) := dk_42 (dk_at dksX6_statement_4 13 rfl rfl)
theorem dX6_statement_106 : decode cX6_statement 106 = .ok (.ldc2_w 319, 3) := dk_20 1 63 (dk_at dksX6_statement_4 14 rfl rfl)
theorem dX6_statement_109 : decode cX6_statement 109 = .ok (.invokevirtual 359, 3) := dk_182 1 103 (dk_at dksX6_statement_4 17 rfl rfl)
theorem dX6_statement_112 : decode cX6_statement 112 = .ok (.ifCond .eq 10, 3) := dk_153 0 10 (dk_at dksX6_statement_4 20 rfl rfl)
theorem dX6_statement_115 : decode cX6_statement 115 = .ok (.aload_n 0, 1) := dk_42 (dk_at dksX6_statement_4 23 rfl rfl)
theorem dX6_statement_116 : decode cX6_statement 116 = .ok (.invokevirtual 432, 3) := dk_182 1 176 (dk_at dksX6_statement_5 0 rfl rfl)
theorem dX6_statement_119 : decode cX6_statement 119 = .ok (.goto 29, 3) := dk_167 0 29 (dk_at dksX6_statement_5 3 rfl rfl)
theorem dX6_statement_122 : decode cX6_statement 122 = .ok (.aload_n 0, 1) := dk_42 (dk_at dksX6_statement_5 6 rfl rfl)
theorem dX6_statement_123 : decode cX6_statement 123 = .ok (.ldc2_w 323, 3) := dk_20 1 67 (dk_at dksX6_statement_5 7 rfl rfl)
theorem dX6_statement_126 : decode cX6_statement 126 = .ok (.invokevirtual 359, 3) := dk_182 1 103 (dk_at dksX6_statement_5 10 rfl rfl)
theorem dX6_statement_129 : decode cX6_statement 129 = .ok (.ifCond .eq 10, 3) := dk_153 0 10 (dk_at dksX6_statement_5 13 rfl rfl)
theorem dX6_statement_132 : decode cX6_statement 132 = .ok (.aload_n 0, 1) := dk_42 (dk_at dksX6_statement_5 16 rfl rfl)
theorem dX6_statement_133 : decode cX6_statement 133 = .ok (.invokevirtual 435, 3) := dk_182 1 179 (dk_at dksX6_statement_5 17 rfl rfl)
theorem dX6_statement_136 : decode cX6_statement 136 = .ok (.goto 12, 3) := dk_167 0 12 (dk_at dksX6_statement_5 20 rfl rfl)
theorem dX6_statement_139 : decode cX6_statement 139 = .ok (.aload_n 0, 1) := dk_42 (dk_at dksX6_statement_5 23 rfl rfl)
theorem dX6_statement_140 : decode cX6_statement 140 = .ok (.iconst 1, 1) := dk_4 (dk_at dksX6_statement_6 0 rfl rfl)
theorem dX6_statement_141 : decode cX6_statement 141 = .ok (.aload_n 0, 1) := dk_42 (dk_at dksX6_statement_6 1 rfl rfl)
theorem dX6_statement_142 : decode cX6_statement 142 = .ok (.getfield 23, 3) := dk_180 0 23 (dk_at dksX6_statement_6 2 rfl rfl)
theorem dX6_statement_145 : decode cX6_statement 145 = .ok (.invokevirtual 279, 3) := dk_182 1 23 (dk_at dksX6_statement_6 5 rfl rfl)
theorem dX6_statement_148 : decode cX6_statement 148 = .ok (.aload_n 0, 1) := dk_42 (dk_at dksX6_statement_6 8 rfl rfl)
theorem dX6_statement_149 : decode cX6_statement 149 = .ok (.getfield 36, 3) := dk_180 0 36 (dk_at dksX6_statement_6 9 rfl rfl)
theorem dX6_statement_152 : decode cX6_statement 152 = .ok (.ifCond .ne 9, 3) := dk_154 0 9 (dk_at dksX6_statement_6 12 rfl rfl)
theorem dX6_statement_155 : decode cX6_statement 155 = .ok (.aload_n 0, 1) := dk_42 (dk_at dksX6_statement_6 15 rfl rfl)
theorem dX6_statement_156 : decode cX6_statement 156 = .ok (.bipush 59, 2) := dk_16 59 (dk_at dksX6_statement_6 16 rfl rfl)
theorem dX6_statement_158 : decode cX6_statement 158 = .ok (.invokevirtual 389, 3) := dk_182 1 133 (dk_at dksX6_statement_6 18 rfl rfl)
theorem dX6_statement_161 : decode cX6_statement 161 = .ok (.return_, 1) := dk_177 (dk_at dksX6_statement_6 21 rfl rfl)
abbrev cX6_rule : ByteArray := prog_29_method_33_code
def yX6_rule : MethodName := ⟨RX6, "rule", "(I)V"⟩
def dkwX6_rule_6 : List UInt8 := [46, 4, 96, 79, 177]
abbrev dktX6_rule_6 : List UInt8 := dkwX6_rule_6 ++ []
def dkwX6_rule_5 : List UInt8 := [180, 0, 134, 79, 42, 180, 0, 36, 154, 0, 20, 42, 180, 0, 57, 6, 42, 180, 0, 137, 104, 27, 96, 92]
abbrev dktX6_rule_5 : List UInt8 := dkwX6_rule_5 ++ dktX6_rule_6
def dkwX6_rule_4 : List UInt8 := [180, 0, 134, 79, 42, 180, 0, 36, 154, 0, 8, 42, 4, 182, 1, 146, 42, 180, 0, 66, 28, 42]
abbrev dktX6_rule_4 : List UInt8 := dkwX6_rule_4 ++ dktX6_rule_5
def dkwX6_rule_3 : List UInt8 := [27, 5, 159, 0, 8, 42, 3, 182, 1, 146, 42, 20, 1, 69, 182, 1, 150, 42, 180, 0, 63, 28, 42]
abbrev dktX6_rule_3 : List UInt8 := dkwX6_rule_3 ++ dktX6_rule_4
def dkwX6_rule_2 : List UInt8 := [180, 0, 57, 6, 42, 180, 0, 137, 104, 27, 96, 46, 96, 61, 42, 180, 0, 60, 28, 42, 180, 0, 134, 79]
abbrev dktX6_rule_2 : List UInt8 := dkwX6_rule_2 ++ dktX6_rule_3
def dkwX6_rule_1 : List UInt8 := [167, 0, 4, 3, 182, 1, 139, 154, 0, 4, 177, 16, 30, 42, 180, 0, 137, 104, 27, 184, 1, 143, 96, 42]
abbrev dktX6_rule_1 : List UInt8 := dkwX6_rule_1 ++ dktX6_rule_2
def dkwX6_rule_0 : List UInt8 := [42, 42, 180, 0, 57, 6, 42, 180, 0, 137, 104, 27, 96, 46, 27, 184, 1, 136, 160, 0, 7, 4]
abbrev dktX6_rule_0 : List UInt8 := dkwX6_rule_0 ++ dktX6_rule_1
theorem dksX6_rule_0 : cX6_rule.data.toList.drop 0 = dktX6_rule_0 := by decide +kernel
theorem dksX6_rule_1 : cX6_rule.data.toList.drop 22 = dktX6_rule_1 := dk_seg dksX6_rule_0 22 rfl rfl
theorem dksX6_rule_2 : cX6_rule.data.toList.drop 46 = dktX6_rule_2 := dk_seg dksX6_rule_1 24 rfl rfl
theorem dksX6_rule_3 : cX6_rule.data.toList.drop 70 = dktX6_rule_3 := dk_seg dksX6_rule_2 24 rfl rfl
theorem dksX6_rule_4 : cX6_rule.data.toList.drop 93 = dktX6_rule_4 := dk_seg dksX6_rule_3 23 rfl rfl
theorem dksX6_rule_5 : cX6_rule.data.toList.drop 115 = dktX6_rule_5 := dk_seg dksX6_rule_4 22 rfl rfl
theorem dksX6_rule_6 : cX6_rule.data.toList.drop 139 = dktX6_rule_6 := dk_seg dksX6_rule_5 24 rfl rfl
theorem dX6_rule_0 : decode cX6_rule 0 = .ok (.aload_n 0, 1) := dk_42 (dk_at dksX6_rule_0 0 rfl rfl)
theorem dX6_rule_1 : decode cX6_rule 1 = .ok (.aload_n 0, 1) := dk_42 (dk_at dksX6_rule_0 1 rfl rfl)
theorem dX6_rule_2 : decode cX6_rule 2 = .ok (.getfield 57, 3) := dk_180 0 57 (dk_at dksX6_rule_0 2 rfl rfl)
theorem dX6_rule_5 : decode cX6_rule 5 = .ok (.iconst 3, 1) := dk_6 (dk_at dksX6_rule_0 5 rfl rfl)
theorem dX6_rule_6 : decode cX6_rule 6 = .ok (.aload_n 0, 1) := dk_42 (dk_at dksX6_rule_0 6 rfl rfl)
theorem dX6_rule_7 : decode cX6_rule 7 = .ok (.getfield 137, 3) := dk_180 0 137 (dk_at dksX6_rule_0 7 rfl rfl)
theorem dX6_rule_10 : decode cX6_rule 10 = .ok (.imul, 1) := dk_104 (dk_at dksX6_rule_0 10 rfl rfl)
theorem dX6_rule_11 : decode cX6_rule 11 = .ok (.iload_n 1, 1) := dk_27 (dk_at dksX6_rule_0 11 rfl rfl)
theorem dX6_rule_12 : decode cX6_rule 12 = .ok (.iadd, 1) := dk_96 (dk_at dksX6_rule_0 12 rfl rfl)
theorem dX6_rule_13 : decode cX6_rule 13 = .ok (.iaload, 1) := dk_46 (dk_at dksX6_rule_0 13 rfl rfl)
theorem dX6_rule_14 : decode cX6_rule 14 = .ok (.iload_n 1, 1) := dk_27 (dk_at dksX6_rule_0 14 rfl rfl)
theorem dX6_rule_15 : decode cX6_rule 15 = .ok (.invokestatic 392, 3) := dk_184 1 136 (dk_at dksX6_rule_0 15 rfl rfl)
theorem dX6_rule_18 : decode cX6_rule 18 = .ok (.if_icmp .ne 7, 3) := dk_160 0 7 (dk_at dksX6_rule_0 18 rfl rfl)
theorem dX6_rule_21 : decode cX6_rule 21 = .ok (.iconst 1, 1) := dk_4 (dk_at dksX6_rule_0 21 rfl rfl)
theorem dX6_rule_22 : decode cX6_rule 22 = .ok (.goto 4, 3) := dk_167 0 4 (dk_at dksX6_rule_1 0 rfl rfl)
theorem dX6_rule_25 : decode cX6_rule 25 = .ok (.iconst 0, 1) := dk_3 (dk_at dksX6_rule_1 3 rfl rfl)
theorem dX6_rule_26 : decode cX6_rule 26 = .ok (.invokevirtual 395, 3) := dk_182 1 139 (dk_at dksX6_rule_1 4 rfl rfl)
theorem dX6_rule_29 : decode cX6_rule 29 = .ok (.ifCond .ne 4, 3) := dk_154 0 4 (dk_at dksX6_rule_1 7 rfl rfl)
theorem dX6_rule_32 : decode cX6_rule 32 = .ok (.return_, 1) := dk_177 (dk_at dksX6_rule_1 10 rfl rfl)
theorem dX6_rule_33 : decode cX6_rule 33 = .ok (.bipush 30, 2) := dk_16 30 (dk_at dksX6_rule_1 11 rfl rfl)
theorem dX6_rule_35 : decode cX6_rule 35 = .ok (.aload_n 0, 1) := dk_42 (dk_at dksX6_rule_1 13 rfl rfl)
theorem dX6_rule_36 : decode cX6_rule 36 = .ok (.getfield 137, 3) := dk_180 0 137 (dk_at dksX6_rule_1 14 rfl rfl)
theorem dX6_rule_39 : decode cX6_rule 39 = .ok (.imul, 1) := dk_104 (dk_at dksX6_rule_1 17 rfl rfl)
theorem dX6_rule_40 : decode cX6_rule 40 = .ok (.iload_n 1, 1) := dk_27 (dk_at dksX6_rule_1 18 rfl rfl)
theorem dX6_rule_41 : decode cX6_rule 41 = .ok (.invokestatic 399, 3) := dk_184 1 143 (dk_at dksX6_rule_1 19 rfl rfl)
theorem dX6_rule_44 : decode cX6_rule 44 = .ok (.iadd, 1) := dk_96 (dk_at dksX6_rule_1 22 rfl rfl)
theorem dX6_rule_45 : decode cX6_rule 45 = .ok (.aload_n 0, 1) := dk_42 (dk_at dksX6_rule_1 23 rfl rfl)
theorem dX6_rule_46 : decode cX6_rule 46 = .ok (.getfield 57, 3) := dk_180 0 57 (dk_at dksX6_rule_2 0 rfl rfl)
theorem dX6_rule_49 : decode cX6_rule 49 = .ok (.iconst 3, 1) := dk_6 (dk_at dksX6_rule_2 3 rfl rfl)
theorem dX6_rule_50 : decode cX6_rule 50 = .ok (.aload_n 0, 1) := dk_42 (dk_at dksX6_rule_2 4 rfl rfl)
theorem dX6_rule_51 : decode cX6_rule 51 = .ok (.getfield 137, 3) := dk_180 0 137 (dk_at dksX6_rule_2 5 rfl rfl)
theorem dX6_rule_54 : decode cX6_rule 54 = .ok (.imul, 1) := dk_104 (dk_at dksX6_rule_2 8 rfl rfl)
theorem dX6_rule_55 : decode cX6_rule 55 = .ok (.iload_n 1, 1) := dk_27 (dk_at dksX6_rule_2 9 rfl rfl)
theorem dX6_rule_56 : decode cX6_rule 56 = .ok (.iadd, 1) := dk_96 (dk_at dksX6_rule_2 10 rfl rfl)
theorem dX6_rule_57 : decode cX6_rule 57 = .ok (.iaload, 1) := dk_46 (dk_at dksX6_rule_2 11 rfl rfl)
theorem dX6_rule_58 : decode cX6_rule 58 = .ok (.iadd, 1) := dk_96 (dk_at dksX6_rule_2 12 rfl rfl)
theorem dX6_rule_59 : decode cX6_rule 59 = .ok (.istore_n 2, 1) := dk_61 (dk_at dksX6_rule_2 13 rfl rfl)
theorem dX6_rule_60 : decode cX6_rule 60 = .ok (.aload_n 0, 1) := dk_42 (dk_at dksX6_rule_2 14 rfl rfl)
theorem dX6_rule_61 : decode cX6_rule 61 = .ok (.getfield 60, 3) := dk_180 0 60 (dk_at dksX6_rule_2 15 rfl rfl)
theorem dX6_rule_64 : decode cX6_rule 64 = .ok (.iload_n 2, 1) := dk_28 (dk_at dksX6_rule_2 18 rfl rfl)
theorem dX6_rule_65 : decode cX6_rule 65 = .ok (.aload_n 0, 1) := dk_42 (dk_at dksX6_rule_2 19 rfl rfl)
theorem dX6_rule_66 : decode cX6_rule 66 = .ok (.getfield 134, 3) := dk_180 0 134 (dk_at dksX6_rule_2 20 rfl rfl)
theorem dX6_rule_69 : decode cX6_rule 69 = .ok (.iastore, 1) := dk_79 (dk_at dksX6_rule_2 23 rfl rfl)
theorem dX6_rule_70 : decode cX6_rule 70 = .ok (.iload_n 1, 1) := dk_27 (dk_at dksX6_rule_3 0 rfl rfl)
theorem dX6_rule_71 : decode cX6_rule 71 = .ok (.iconst 2, 1) := dk_5 (dk_at dksX6_rule_3 1 rfl rfl)
theorem dX6_rule_72 : decode cX6_rule 72 = .ok (.if_icmp .eq 8, 3) := dk_159 0 8 (dk_at dksX6_rule_3 2 rfl rfl)
theorem dX6_rule_75 : decode cX6_rule 75 = .ok (.aload_n 0, 1) := dk_42 (dk_at dksX6_rule_3 5 rfl rfl)
theorem dX6_rule_76 : decode cX6_rule 76 = .ok (.iconst 0, 1) := dk_3 (dk_at dksX6_rule_3 6 rfl rfl)
theorem dX6_rule_77 : decode cX6_rule 77 = .ok (.invokevirtual 402, 3) := dk_182 1 146 (dk_at dksX6_rule_3 7 rfl rfl)
theorem dX6_rule_80 : decode cX6_rule 80 = .ok (.aload_n 0, 1) := dk_42 (dk_at dksX6_rule_3 10 rfl rfl)
theorem dX6_rule_81 : decode cX6_rule 81 = .ok (.ldc2_w 325, 3) := dk_20 1 69 (dk_at dksX6_rule_3 11 rfl rfl)
theorem dX6_rule_84 : decode cX6_rule 84 = .ok (.invokevirtual 406, 3) := dk_182 1 150 (dk_at dksX6_rule_3 14 rfl rfl)
theorem dX6_rule_87 : decode cX6_rule 87 = .ok (.aload_n 0, 1) := dk_42 (dk_at dksX6_rule_3 17 rfl rfl)
theorem dX6_rule_88 : decode cX6_rule 88 = .ok (.getfield 63, 3) := dk_180 0 63 (dk_at dksX6_rule_3 18 rfl rfl)
theorem dX6_rule_91 : decode cX6_rule 91 = .ok (.iload_n 2, 1) := dk_28 (dk_at dksX6_rule_3 21 rfl rfl)
theorem dX6_rule_92 : decode cX6_rule 92 = .ok (.aload_n 0, 1) := dk_42 (dk_at dksX6_rule_3 22 rfl rfl)
theorem dX6_rule_93 : decode cX6_rule 93 = .ok (.getfield 134, 3) := dk_180 0 134 (dk_at dksX6_rule_4 0 rfl rfl)
theorem dX6_rule_96 : decode cX6_rule 96 = .ok (.iastore, 1) := dk_79 (dk_at dksX6_rule_4 3 rfl rfl)
theorem dX6_rule_97 : decode cX6_rule 97 = .ok (.aload_n 0, 1) := dk_42 (dk_at dksX6_rule_4 4 rfl rfl)
theorem dX6_rule_98 : decode cX6_rule 98 = .ok (.getfield 36, 3) := dk_180 0 36 (dk_at dksX6_rule_4 5 rfl rfl)
theorem dX6_rule_101 : decode cX6_rule 101 = .ok (.ifCond .ne 8, 3) := dk_154 0 8 (dk_at dksX6_rule_4 8 rfl rfl)
theorem dX6_rule_104 : decode cX6_rule 104 = .ok (.aload_n 0, 1) := dk_42 (dk_at dksX6_rule_4 11 rfl rfl)
theorem dX6_rule_105 : decode cX6_rule 105 = .ok (.iconst 1, 1) := dk_4 (dk_at dksX6_rule_4 12 rfl rfl)
theorem dX6_rule_106 : decode cX6_rule 106 = .ok (.invokevirtual 402, 3) := dk_182 1 146 (dk_at dksX6_rule_4 13 rfl rfl)
theorem dX6_rule_109 : decode cX6_rule 109 = .ok (.aload_n 0, 1) := dk_42 (dk_at dksX6_rule_4 16 rfl rfl)
theorem dX6_rule_110 : decode cX6_rule 110 = .ok (.getfield 66, 3) := dk_180 0 66 (dk_at dksX6_rule_4 17 rfl rfl)
theorem dX6_rule_113 : decode cX6_rule 113 = .ok (.iload_n 2, 1) := dk_28 (dk_at dksX6_rule_4 20 rfl rfl)
theorem dX6_rule_114 : decode cX6_rule 114 = .ok (.aload_n 0, 1) := dk_42 (dk_at dksX6_rule_4 21 rfl rfl)
theorem dX6_rule_115 : decode cX6_rule 115 = .ok (.getfield 134, 3) := dk_180 0 134 (dk_at dksX6_rule_5 0 rfl rfl)
theorem dX6_rule_118 : decode cX6_rule 118 = .ok (.iastore, 1) := dk_79 (dk_at dksX6_rule_5 3 rfl rfl)
theorem dX6_rule_119 : decode cX6_rule 119 = .ok (.aload_n 0, 1) := dk_42 (dk_at dksX6_rule_5 4 rfl rfl)
theorem dX6_rule_120 : decode cX6_rule 120 = .ok (.getfield 36, 3) := dk_180 0 36 (dk_at dksX6_rule_5 5 rfl rfl)
theorem dX6_rule_123 : decode cX6_rule 123 = .ok (.ifCond .ne 20, 3) := dk_154 0 20 (dk_at dksX6_rule_5 8 rfl rfl)
theorem dX6_rule_126 : decode cX6_rule 126 = .ok (.aload_n 0, 1) := dk_42 (dk_at dksX6_rule_5 11 rfl rfl)
theorem dX6_rule_127 : decode cX6_rule 127 = .ok (.getfield 57, 3) := dk_180 0 57 (dk_at dksX6_rule_5 12 rfl rfl)
theorem dX6_rule_130 : decode cX6_rule 130 = .ok (.iconst 3, 1) := dk_6 (dk_at dksX6_rule_5 15 rfl rfl)
theorem dX6_rule_131 : decode cX6_rule 131 = .ok (.aload_n 0, 1) := dk_42 (dk_at dksX6_rule_5 16 rfl rfl)
theorem dX6_rule_132 : decode cX6_rule 132 = .ok (.getfield 137, 3) := dk_180 0 137 (dk_at dksX6_rule_5 17 rfl rfl)
theorem dX6_rule_135 : decode cX6_rule 135 = .ok (.imul, 1) := dk_104 (dk_at dksX6_rule_5 20 rfl rfl)
theorem dX6_rule_136 : decode cX6_rule 136 = .ok (.iload_n 1, 1) := dk_27 (dk_at dksX6_rule_5 21 rfl rfl)
theorem dX6_rule_137 : decode cX6_rule 137 = .ok (.iadd, 1) := dk_96 (dk_at dksX6_rule_5 22 rfl rfl)
theorem dX6_rule_138 : decode cX6_rule 138 = .ok (.dup2, 1) := dk_92 (dk_at dksX6_rule_5 23 rfl rfl)
theorem dX6_rule_139 : decode cX6_rule 139 = .ok (.iaload, 1) := dk_46 (dk_at dksX6_rule_6 0 rfl rfl)
theorem dX6_rule_140 : decode cX6_rule 140 = .ok (.iconst 1, 1) := dk_4 (dk_at dksX6_rule_6 1 rfl rfl)
theorem dX6_rule_141 : decode cX6_rule 141 = .ok (.iadd, 1) := dk_96 (dk_at dksX6_rule_6 2 rfl rfl)
theorem dX6_rule_142 : decode cX6_rule 142 = .ok (.iastore, 1) := dk_79 (dk_at dksX6_rule_6 3 rfl rfl)
theorem dX6_rule_143 : decode cX6_rule 143 = .ok (.return_, 1) := dk_177 (dk_at dksX6_rule_6 4 rfl rfl)
abbrev cX6_mostRules : ByteArray := prog_29_method_15_code
def yX6_mostRules : MethodName := ⟨RX6, "mostRules", "(I)I"⟩
def dkwX6_mostRules_0 : List UInt8 := [26, 5, 160, 0, 8, 16, 6, 167, 0, 5, 16, 12, 172]
abbrev dktX6_mostRules_0 : List UInt8 := dkwX6_mostRules_0 ++ []
theorem dksX6_mostRules_0 : cX6_mostRules.data.toList.drop 0 = dktX6_mostRules_0 := by decide +kernel
theorem dX6_mostRules_0 : decode cX6_mostRules 0 = .ok (.iload_n 0, 1) := dk_26 (dk_at dksX6_mostRules_0 0 rfl rfl)
theorem dX6_mostRules_1 : decode cX6_mostRules 1 = .ok (.iconst 2, 1) := dk_5 (dk_at dksX6_mostRules_0 1 rfl rfl)
theorem dX6_mostRules_2 : decode cX6_mostRules 2 = .ok (.if_icmp .ne 8, 3) := dk_160 0 8 (dk_at dksX6_mostRules_0 2 rfl rfl)
theorem dX6_mostRules_5 : decode cX6_mostRules 5 = .ok (.bipush 6, 2) := dk_16 6 (dk_at dksX6_mostRules_0 5 rfl rfl)
theorem dX6_mostRules_7 : decode cX6_mostRules 7 = .ok (.goto 5, 3) := dk_167 0 5 (dk_at dksX6_mostRules_0 7 rfl rfl)
theorem dX6_mostRules_10 : decode cX6_mostRules 10 = .ok (.bipush 12, 2) := dk_16 12 (dk_at dksX6_mostRules_0 10 rfl rfl)
theorem dX6_mostRules_12 : decode cX6_mostRules 12 = .ok (.ireturn, 1) := dk_172 (dk_at dksX6_mostRules_0 12 rfl rfl)
abbrev cX6_counts : ByteArray := prog_29_method_28_code
def yX6_counts : MethodName := ⟨RX6, "counts", "(Z)Z"⟩
def dkwX6_counts_1 : List UInt8 := [154, 0, 7, 42, 182, 1, 30, 42, 180, 0, 36, 154, 0, 7, 4, 167, 0, 4, 3, 172]
abbrev dktX6_counts_1 : List UInt8 := dkwX6_counts_1 ++ []
def dkwX6_counts_0 : List UInt8 := [42, 180, 0, 36, 154, 0, 16, 27, 153, 0, 12, 42, 8, 42, 180, 0, 23, 182, 1, 23, 42, 180, 0, 36]
abbrev dktX6_counts_0 : List UInt8 := dkwX6_counts_0 ++ dktX6_counts_1
theorem dksX6_counts_0 : cX6_counts.data.toList.drop 0 = dktX6_counts_0 := by decide +kernel
theorem dksX6_counts_1 : cX6_counts.data.toList.drop 24 = dktX6_counts_1 := dk_seg dksX6_counts_0 24 rfl rfl
theorem dX6_counts_0 : decode cX6_counts 0 = .ok (.aload_n 0, 1) := dk_42 (dk_at dksX6_counts_0 0 rfl rfl)
theorem dX6_counts_1 : decode cX6_counts 1 = .ok (.getfield 36, 3) := dk_180 0 36 (dk_at dksX6_counts_0 1 rfl rfl)
theorem dX6_counts_4 : decode cX6_counts 4 = .ok (.ifCond .ne 16, 3) := dk_154 0 16 (dk_at dksX6_counts_0 4 rfl rfl)
theorem dX6_counts_7 : decode cX6_counts 7 = .ok (.iload_n 1, 1) := dk_27 (dk_at dksX6_counts_0 7 rfl rfl)
theorem dX6_counts_8 : decode cX6_counts 8 = .ok (.ifCond .eq 12, 3) := dk_153 0 12 (dk_at dksX6_counts_0 8 rfl rfl)
theorem dX6_counts_11 : decode cX6_counts 11 = .ok (.aload_n 0, 1) := dk_42 (dk_at dksX6_counts_0 11 rfl rfl)
theorem dX6_counts_12 : decode cX6_counts 12 = .ok (.iconst 5, 1) := dk_8 (dk_at dksX6_counts_0 12 rfl rfl)
theorem dX6_counts_13 : decode cX6_counts 13 = .ok (.aload_n 0, 1) := dk_42 (dk_at dksX6_counts_0 13 rfl rfl)
theorem dX6_counts_14 : decode cX6_counts 14 = .ok (.getfield 23, 3) := dk_180 0 23 (dk_at dksX6_counts_0 14 rfl rfl)
theorem dX6_counts_17 : decode cX6_counts 17 = .ok (.invokevirtual 279, 3) := dk_182 1 23 (dk_at dksX6_counts_0 17 rfl rfl)
theorem dX6_counts_20 : decode cX6_counts 20 = .ok (.aload_n 0, 1) := dk_42 (dk_at dksX6_counts_0 20 rfl rfl)
theorem dX6_counts_21 : decode cX6_counts 21 = .ok (.getfield 36, 3) := dk_180 0 36 (dk_at dksX6_counts_0 21 rfl rfl)
theorem dX6_counts_24 : decode cX6_counts 24 = .ok (.ifCond .ne 7, 3) := dk_154 0 7 (dk_at dksX6_counts_1 0 rfl rfl)
theorem dX6_counts_27 : decode cX6_counts 27 = .ok (.aload_n 0, 1) := dk_42 (dk_at dksX6_counts_1 3 rfl rfl)
theorem dX6_counts_28 : decode cX6_counts 28 = .ok (.invokevirtual 286, 3) := dk_182 1 30 (dk_at dksX6_counts_1 4 rfl rfl)
theorem dX6_counts_31 : decode cX6_counts 31 = .ok (.aload_n 0, 1) := dk_42 (dk_at dksX6_counts_1 7 rfl rfl)
theorem dX6_counts_32 : decode cX6_counts 32 = .ok (.getfield 36, 3) := dk_180 0 36 (dk_at dksX6_counts_1 8 rfl rfl)
theorem dX6_counts_35 : decode cX6_counts 35 = .ok (.ifCond .ne 7, 3) := dk_154 0 7 (dk_at dksX6_counts_1 11 rfl rfl)
theorem dX6_counts_38 : decode cX6_counts 38 = .ok (.iconst 1, 1) := dk_4 (dk_at dksX6_counts_1 14 rfl rfl)
theorem dX6_counts_39 : decode cX6_counts 39 = .ok (.goto 4, 3) := dk_167 0 4 (dk_at dksX6_counts_1 15 rfl rfl)
theorem dX6_counts_42 : decode cX6_counts 42 = .ok (.iconst 0, 1) := dk_3 (dk_at dksX6_counts_1 18 rfl rfl)
theorem dX6_counts_43 : decode cX6_counts 43 = .ok (.ireturn, 1) := dk_172 (dk_at dksX6_counts_1 19 rfl rfl)
abbrev cX6_firstRule : ByteArray := prog_29_method_14_code
def yX6_firstRule : MethodName := ⟨RX6, "firstRule", "(I)I"⟩
def dkwX6_firstRule_0 : List UInt8 := [16, 12, 26, 104, 172]
abbrev dktX6_firstRule_0 : List UInt8 := dkwX6_firstRule_0 ++ []
theorem dksX6_firstRule_0 : cX6_firstRule.data.toList.drop 0 = dktX6_firstRule_0 := by decide +kernel
theorem dX6_firstRule_0 : decode cX6_firstRule 0 = .ok (.bipush 12, 2) := dk_16 12 (dk_at dksX6_firstRule_0 0 rfl rfl)
theorem dX6_firstRule_2 : decode cX6_firstRule 2 = .ok (.iload_n 0, 1) := dk_26 (dk_at dksX6_firstRule_0 2 rfl rfl)
theorem dX6_firstRule_3 : decode cX6_firstRule 3 = .ok (.imul, 1) := dk_104 (dk_at dksX6_firstRule_0 3 rfl rfl)
theorem dX6_firstRule_4 : decode cX6_firstRule 4 = .ok (.ireturn, 1) := dk_172 (dk_at dksX6_firstRule_0 4 rfl rfl)
abbrev cX6_reads : ByteArray := prog_29_method_27_code
def yX6_reads : MethodName := ⟨RX6, "reads", "(Z)V"⟩
def dkwX6_reads_3 : List UInt8 := [153, 0, 14, 42, 180, 0, 36, 154, 0, 7, 4, 167, 0, 4, 3, 61, 167, 255, 212, 177]
abbrev dktX6_reads_3 : List UInt8 := dkwX6_reads_3 ++ []
def dkwX6_reads_2 : List UInt8 := [180, 0, 167, 154, 0, 14, 42, 42, 182, 1, 116, 181, 0, 167, 167, 0, 8, 42, 182, 1, 119, 61, 28]
abbrev dktX6_reads_2 : List UInt8 := dkwX6_reads_2 ++ dktX6_reads_3
def dkwX6_reads_1 : List UInt8 := [3, 181, 0, 167, 42, 27, 153, 0, 7, 4, 167, 0, 4, 3, 182, 1, 97, 4, 61, 28, 153, 0, 46, 42]
abbrev dktX6_reads_1 : List UInt8 := dkwX6_reads_1 ++ dktX6_reads_2
def dkwX6_reads_0 : List UInt8 := [42, 180, 0, 36, 158, 0, 4, 177, 42, 3, 181, 0, 155, 42, 3, 181, 0, 158, 42, 3, 181, 0, 164, 42]
abbrev dktX6_reads_0 : List UInt8 := dkwX6_reads_0 ++ dktX6_reads_1
theorem dksX6_reads_0 : cX6_reads.data.toList.drop 0 = dktX6_reads_0 := by decide +kernel
theorem dksX6_reads_1 : cX6_reads.data.toList.drop 24 = dktX6_reads_1 := dk_seg dksX6_reads_0 24 rfl rfl
theorem dksX6_reads_2 : cX6_reads.data.toList.drop 48 = dktX6_reads_2 := dk_seg dksX6_reads_1 24 rfl rfl
theorem dksX6_reads_3 : cX6_reads.data.toList.drop 71 = dktX6_reads_3 := dk_seg dksX6_reads_2 23 rfl rfl
theorem dX6_reads_0 : decode cX6_reads 0 = .ok (.aload_n 0, 1) := dk_42 (dk_at dksX6_reads_0 0 rfl rfl)
theorem dX6_reads_1 : decode cX6_reads 1 = .ok (.getfield 36, 3) := dk_180 0 36 (dk_at dksX6_reads_0 1 rfl rfl)
theorem dX6_reads_4 : decode cX6_reads 4 = .ok (.ifCond .le 4, 3) := dk_158 0 4 (dk_at dksX6_reads_0 4 rfl rfl)
theorem dX6_reads_7 : decode cX6_reads 7 = .ok (.return_, 1) := dk_177 (dk_at dksX6_reads_0 7 rfl rfl)
theorem dX6_reads_8 : decode cX6_reads 8 = .ok (.aload_n 0, 1) := dk_42 (dk_at dksX6_reads_0 8 rfl rfl)
theorem dX6_reads_9 : decode cX6_reads 9 = .ok (.iconst 0, 1) := dk_3 (dk_at dksX6_reads_0 9 rfl rfl)
theorem dX6_reads_10 : decode cX6_reads 10 = .ok (.putfield 155, 3) := dk_181 0 155 (dk_at dksX6_reads_0 10 rfl rfl)
theorem dX6_reads_13 : decode cX6_reads 13 = .ok (.aload_n 0, 1) := dk_42 (dk_at dksX6_reads_0 13 rfl rfl)
theorem dX6_reads_14 : decode cX6_reads 14 = .ok (.iconst 0, 1) := dk_3 (dk_at dksX6_reads_0 14 rfl rfl)
theorem dX6_reads_15 : decode cX6_reads 15 = .ok (.putfield 158, 3) := dk_181 0 158 (dk_at dksX6_reads_0 15 rfl rfl)
theorem dX6_reads_18 : decode cX6_reads 18 = .ok (.aload_n 0, 1) := dk_42 (dk_at dksX6_reads_0 18 rfl rfl)
theorem dX6_reads_19 : decode cX6_reads 19 = .ok (.iconst 0, 1) := dk_3 (dk_at dksX6_reads_0 19 rfl rfl)
theorem dX6_reads_20 : decode cX6_reads 20 = .ok (.putfield 164, 3) := dk_181 0 164 (dk_at dksX6_reads_0 20 rfl rfl)
theorem dX6_reads_23 : decode cX6_reads 23 = .ok (.aload_n 0, 1) := dk_42 (dk_at dksX6_reads_0 23 rfl rfl)
theorem dX6_reads_24 : decode cX6_reads 24 = .ok (.iconst 0, 1) := dk_3 (dk_at dksX6_reads_1 0 rfl rfl)
theorem dX6_reads_25 : decode cX6_reads 25 = .ok (.putfield 167, 3) := dk_181 0 167 (dk_at dksX6_reads_1 1 rfl rfl)
theorem dX6_reads_28 : decode cX6_reads 28 = .ok (.aload_n 0, 1) := dk_42 (dk_at dksX6_reads_1 4 rfl rfl)
theorem dX6_reads_29 : decode cX6_reads 29 = .ok (.iload_n 1, 1) := dk_27 (dk_at dksX6_reads_1 5 rfl rfl)
theorem dX6_reads_30 : decode cX6_reads 30 = .ok (.ifCond .eq 7, 3) := dk_153 0 7 (dk_at dksX6_reads_1 6 rfl rfl)
theorem dX6_reads_33 : decode cX6_reads 33 = .ok (.iconst 1, 1) := dk_4 (dk_at dksX6_reads_1 9 rfl rfl)
theorem dX6_reads_34 : decode cX6_reads 34 = .ok (.goto 4, 3) := dk_167 0 4 (dk_at dksX6_reads_1 10 rfl rfl)
theorem dX6_reads_37 : decode cX6_reads 37 = .ok (.iconst 0, 1) := dk_3 (dk_at dksX6_reads_1 13 rfl rfl)
theorem dX6_reads_38 : decode cX6_reads 38 = .ok (.invokevirtual 353, 3) := dk_182 1 97 (dk_at dksX6_reads_1 14 rfl rfl)
theorem dX6_reads_41 : decode cX6_reads 41 = .ok (.iconst 1, 1) := dk_4 (dk_at dksX6_reads_1 17 rfl rfl)
theorem dX6_reads_42 : decode cX6_reads 42 = .ok (.istore_n 2, 1) := dk_61 (dk_at dksX6_reads_1 18 rfl rfl)
theorem dX6_reads_43 : decode cX6_reads 43 = .ok (.iload_n 2, 1) := dk_28 (dk_at dksX6_reads_1 19 rfl rfl)
theorem dX6_reads_44 : decode cX6_reads 44 = .ok (.ifCond .eq 46, 3) := dk_153 0 46 (dk_at dksX6_reads_1 20 rfl rfl)
theorem dX6_reads_47 : decode cX6_reads 47 = .ok (.aload_n 0, 1) := dk_42 (dk_at dksX6_reads_1 23 rfl rfl)
theorem dX6_reads_48 : decode cX6_reads 48 = .ok (.getfield 167, 3) := dk_180 0 167 (dk_at dksX6_reads_2 0 rfl rfl)
theorem dX6_reads_51 : decode cX6_reads 51 = .ok (.ifCond .ne 14, 3) := dk_154 0 14 (dk_at dksX6_reads_2 3 rfl rfl)
theorem dX6_reads_54 : decode cX6_reads 54 = .ok (.aload_n 0, 1) := dk_42 (dk_at dksX6_reads_2 6 rfl rfl)
theorem dX6_reads_55 : decode cX6_reads 55 = .ok (.aload_n 0, 1) := dk_42 (dk_at dksX6_reads_2 7 rfl rfl)
theorem dX6_reads_56 : decode cX6_reads 56 = .ok (.invokevirtual 372, 3) := dk_182 1 116 (dk_at dksX6_reads_2 8 rfl rfl)
theorem dX6_reads_59 : decode cX6_reads 59 = .ok (.putfield 167, 3) := dk_181 0 167 (dk_at dksX6_reads_2 11 rfl rfl)
theorem dX6_reads_62 : decode cX6_reads 62 = .ok (.goto 8, 3) := dk_167 0 8 (dk_at dksX6_reads_2 14 rfl rfl)
theorem dX6_reads_65 : decode cX6_reads 65 = .ok (.aload_n 0, 1) := dk_42 (dk_at dksX6_reads_2 17 rfl rfl)
theorem dX6_reads_66 : decode cX6_reads 66 = .ok (.invokevirtual 375, 3) := dk_182 1 119 (dk_at dksX6_reads_2 18 rfl rfl)
theorem dX6_reads_69 : decode cX6_reads 69 = .ok (.istore_n 2, 1) := dk_61 (dk_at dksX6_reads_2 21 rfl rfl)
theorem dX6_reads_70 : decode cX6_reads 70 = .ok (.iload_n 2, 1) := dk_28 (dk_at dksX6_reads_2 22 rfl rfl)
theorem dX6_reads_71 : decode cX6_reads 71 = .ok (.ifCond .eq 14, 3) := dk_153 0 14 (dk_at dksX6_reads_3 0 rfl rfl)
theorem dX6_reads_74 : decode cX6_reads 74 = .ok (.aload_n 0, 1) := dk_42 (dk_at dksX6_reads_3 3 rfl rfl)
theorem dX6_reads_75 : decode cX6_reads 75 = .ok (.getfield 36, 3) := dk_180 0 36 (dk_at dksX6_reads_3 4 rfl rfl)
theorem dX6_reads_78 : decode cX6_reads 78 = .ok (.ifCond .ne 7, 3) := dk_154 0 7 (dk_at dksX6_reads_3 7 rfl rfl)
theorem dX6_reads_81 : decode cX6_reads 81 = .ok (.iconst 1, 1) := dk_4 (dk_at dksX6_reads_3 10 rfl rfl)
theorem dX6_reads_82 : decode cX6_reads 82 = .ok (.goto 4, 3) := dk_167 0 4 (dk_at dksX6_reads_3 11 rfl rfl)
theorem dX6_reads_85 : decode cX6_reads 85 = .ok (.iconst 0, 1) := dk_3 (dk_at dksX6_reads_3 14 rfl rfl)
theorem dX6_reads_86 : decode cX6_reads 86 = .ok (.istore_n 2, 1) := dk_61 (dk_at dksX6_reads_3 15 rfl rfl)
theorem dX6_reads_87 : decode cX6_reads 87 = .ok (.goto (-44), 3) := dk_167 255 212 (dk_at dksX6_reads_3 16 rfl rfl)
theorem dX6_reads_90 : decode cX6_reads 90 = .ok (.return_, 1) := dk_177 (dk_at dksX6_reads_3 19 rfl rfl)
abbrev cX6_pushes : ByteArray := prog_29_method_22_code
def yX6_pushes : MethodName := ⟨RX6, "pushes", "(I)V"⟩
def dkwX6_pushes_2 : List UInt8 := [4, 96, 181, 0, 155, 177]
abbrev dktX6_pushes_2 : List UInt8 := dkwX6_pushes_2 ++ []
def dkwX6_pushes_1 : List UInt8 := [42, 180, 0, 155, 4, 84, 42, 180, 0, 152, 42, 180, 0, 155, 42, 180, 0, 164, 79, 42, 89, 180, 0, 155]
abbrev dktX6_pushes_1 : List UInt8 := dkwX6_pushes_1 ++ dktX6_pushes_2
def dkwX6_pushes_0 : List UInt8 := [42, 180, 0, 140, 42, 180, 0, 155, 27, 79, 42, 180, 0, 143, 42, 180, 0, 155, 3, 79, 42, 180, 0, 146]
abbrev dktX6_pushes_0 : List UInt8 := dkwX6_pushes_0 ++ dktX6_pushes_1
theorem dksX6_pushes_0 : cX6_pushes.data.toList.drop 0 = dktX6_pushes_0 := by decide +kernel
theorem dksX6_pushes_1 : cX6_pushes.data.toList.drop 24 = dktX6_pushes_1 := dk_seg dksX6_pushes_0 24 rfl rfl
theorem dksX6_pushes_2 : cX6_pushes.data.toList.drop 48 = dktX6_pushes_2 := dk_seg dksX6_pushes_1 24 rfl rfl
theorem dX6_pushes_0 : decode cX6_pushes 0 = .ok (.aload_n 0, 1) := dk_42 (dk_at dksX6_pushes_0 0 rfl rfl)
theorem dX6_pushes_1 : decode cX6_pushes 1 = .ok (.getfield 140, 3) := dk_180 0 140 (dk_at dksX6_pushes_0 1 rfl rfl)
theorem dX6_pushes_4 : decode cX6_pushes 4 = .ok (.aload_n 0, 1) := dk_42 (dk_at dksX6_pushes_0 4 rfl rfl)
theorem dX6_pushes_5 : decode cX6_pushes 5 = .ok (.getfield 155, 3) := dk_180 0 155 (dk_at dksX6_pushes_0 5 rfl rfl)
theorem dX6_pushes_8 : decode cX6_pushes 8 = .ok (.iload_n 1, 1) := dk_27 (dk_at dksX6_pushes_0 8 rfl rfl)
theorem dX6_pushes_9 : decode cX6_pushes 9 = .ok (.iastore, 1) := dk_79 (dk_at dksX6_pushes_0 9 rfl rfl)
theorem dX6_pushes_10 : decode cX6_pushes 10 = .ok (.aload_n 0, 1) := dk_42 (dk_at dksX6_pushes_0 10 rfl rfl)
theorem dX6_pushes_11 : decode cX6_pushes 11 = .ok (.getfield 143, 3) := dk_180 0 143 (dk_at dksX6_pushes_0 11 rfl rfl)
theorem dX6_pushes_14 : decode cX6_pushes 14 = .ok (.aload_n 0, 1) := dk_42 (dk_at dksX6_pushes_0 14 rfl rfl)
theorem dX6_pushes_15 : decode cX6_pushes 15 = .ok (.getfield 155, 3) := dk_180 0 155 (dk_at dksX6_pushes_0 15 rfl rfl)
theorem dX6_pushes_18 : decode cX6_pushes 18 = .ok (.iconst 0, 1) := dk_3 (dk_at dksX6_pushes_0 18 rfl rfl)
theorem dX6_pushes_19 : decode cX6_pushes 19 = .ok (.iastore, 1) := dk_79 (dk_at dksX6_pushes_0 19 rfl rfl)
theorem dX6_pushes_20 : decode cX6_pushes 20 = .ok (.aload_n 0, 1) := dk_42 (dk_at dksX6_pushes_0 20 rfl rfl)
theorem dX6_pushes_21 : decode cX6_pushes 21 = .ok (.getfield 146, 3) := dk_180 0 146 (dk_at dksX6_pushes_0 21 rfl rfl)
theorem dX6_pushes_24 : decode cX6_pushes 24 = .ok (.aload_n 0, 1) := dk_42 (dk_at dksX6_pushes_1 0 rfl rfl)
theorem dX6_pushes_25 : decode cX6_pushes 25 = .ok (.getfield 155, 3) := dk_180 0 155 (dk_at dksX6_pushes_1 1 rfl rfl)
theorem dX6_pushes_28 : decode cX6_pushes 28 = .ok (.iconst 1, 1) := dk_4 (dk_at dksX6_pushes_1 4 rfl rfl)
theorem dX6_pushes_29 : decode cX6_pushes 29 = .ok (.bastore, 1) := dk_84 (dk_at dksX6_pushes_1 5 rfl rfl)
theorem dX6_pushes_30 : decode cX6_pushes 30 = .ok (.aload_n 0, 1) := dk_42 (dk_at dksX6_pushes_1 6 rfl rfl)
theorem dX6_pushes_31 : decode cX6_pushes 31 = .ok (.getfield 152, 3) := dk_180 0 152 (dk_at dksX6_pushes_1 7 rfl rfl)
theorem dX6_pushes_34 : decode cX6_pushes 34 = .ok (.aload_n 0, 1) := dk_42 (dk_at dksX6_pushes_1 10 rfl rfl)
theorem dX6_pushes_35 : decode cX6_pushes 35 = .ok (.getfield 155, 3) := dk_180 0 155 (dk_at dksX6_pushes_1 11 rfl rfl)
theorem dX6_pushes_38 : decode cX6_pushes 38 = .ok (.aload_n 0, 1) := dk_42 (dk_at dksX6_pushes_1 14 rfl rfl)
theorem dX6_pushes_39 : decode cX6_pushes 39 = .ok (.getfield 164, 3) := dk_180 0 164 (dk_at dksX6_pushes_1 15 rfl rfl)
theorem dX6_pushes_42 : decode cX6_pushes 42 = .ok (.iastore, 1) := dk_79 (dk_at dksX6_pushes_1 18 rfl rfl)
theorem dX6_pushes_43 : decode cX6_pushes 43 = .ok (.aload_n 0, 1) := dk_42 (dk_at dksX6_pushes_1 19 rfl rfl)
theorem dX6_pushes_44 : decode cX6_pushes 44 = .ok (.dup, 1) := dk_89 (dk_at dksX6_pushes_1 20 rfl rfl)
theorem dX6_pushes_45 : decode cX6_pushes 45 = .ok (.getfield 155, 3) := dk_180 0 155 (dk_at dksX6_pushes_1 21 rfl rfl)
theorem dX6_pushes_48 : decode cX6_pushes 48 = .ok (.iconst 1, 1) := dk_4 (dk_at dksX6_pushes_2 0 rfl rfl)
theorem dX6_pushes_49 : decode cX6_pushes 49 = .ok (.iadd, 1) := dk_96 (dk_at dksX6_pushes_2 1 rfl rfl)
theorem dX6_pushes_50 : decode cX6_pushes 50 = .ok (.putfield 155, 3) := dk_181 0 155 (dk_at dksX6_pushes_2 2 rfl rfl)
theorem dX6_pushes_53 : decode cX6_pushes 53 = .ok (.return_, 1) := dk_177 (dk_at dksX6_pushes_2 5 rfl rfl)
abbrev cX6_operand : ByteArray := prog_29_method_25_code
def yX6_operand : MethodName := ⟨RX6, "operand", "()Z"⟩
def dkwX6_operand_14 : List UInt8 := [42, 182, 1, 30, 4, 172]
abbrev dktX6_operand_14 : List UInt8 := dkwX6_operand_14 ++ []
def dkwX6_operand_13 : List UInt8 := [180, 0, 23, 182, 1, 23, 42, 180, 0, 36, 158, 0, 5, 4, 172, 42, 29, 42, 180, 0, 29, 182, 1, 94]
abbrev dktX6_operand_13 : List UInt8 := dkwX6_operand_13 ++ dktX6_operand_14
def dkwX6_operand_12 : List UInt8 := [20, 1, 35, 182, 1, 103, 153, 0, 7, 7, 167, 0, 4, 2, 62, 29, 2, 160, 0, 12, 42, 4, 42]
abbrev dktX6_operand_12 : List UInt8 := dkwX6_operand_12 ++ dktX6_operand_13
def dkwX6_operand_11 : List UInt8 := [153, 0, 7, 5, 167, 0, 32, 42, 20, 1, 65, 182, 1, 103, 153, 0, 7, 6, 167, 0, 18, 42]
abbrev dktX6_operand_11 : List UInt8 := dkwX6_operand_11 ++ dktX6_operand_12
def dkwX6_operand_10 : List UInt8 := [167, 0, 60, 42, 20, 1, 79, 182, 1, 103, 153, 0, 7, 4, 167, 0, 46, 42, 20, 1, 81, 182, 1, 103]
abbrev dktX6_operand_10 : List UInt8 := dkwX6_operand_10 ++ dktX6_operand_11
def dkwX6_operand_9 : List UInt8 := [180, 0, 149, 42, 180, 0, 155, 4, 100, 29, 79, 3, 172, 42, 180, 0, 20, 5, 160, 0, 7, 3]
abbrev dktX6_operand_9 : List UInt8 := dkwX6_operand_9 ++ dktX6_operand_10
def dkwX6_operand_8 : List UInt8 := [42, 4, 42, 180, 0, 23, 182, 1, 23, 42, 6, 182, 1, 110, 42, 180, 0, 36, 154, 0, 15, 42]
abbrev dktX6_operand_8 : List UInt8 := dkwX6_operand_8 ++ dktX6_operand_9
def dkwX6_operand_7 : List UInt8 := [153, 0, 8, 16, 15, 167, 0, 5, 16, 16, 62, 42, 182, 1, 30, 42, 16, 40, 182, 1, 27, 154, 0, 12]
abbrev dktX6_operand_7 : List UInt8 := dkwX6_operand_7 ++ dktX6_operand_8
def dkwX6_operand_6 : List UInt8 := [182, 1, 103, 154, 0, 13, 42, 20, 1, 85, 182, 1, 103, 153, 0, 69, 42, 20, 1, 83, 182, 1, 103]
abbrev dktX6_operand_6 : List UInt8 := dkwX6_operand_6 ++ dktX6_operand_7
def dkwX6_operand_5 : List UInt8 := [4, 172, 42, 16, 40, 182, 1, 27, 153, 0, 10, 42, 5, 182, 1, 110, 3, 172, 42, 20, 1, 83]
abbrev dktX6_operand_5 : List UInt8 := dkwX6_operand_5 ++ dktX6_operand_6
def dkwX6_operand_4 : List UInt8 := [182, 1, 103, 153, 0, 23, 42, 16, 9, 3, 182, 1, 94, 42, 180, 0, 143, 27, 5, 79, 42, 182, 1, 30]
abbrev dktX6_operand_4 : List UInt8 := dkwX6_operand_4 ++ dktX6_operand_5
def dkwX6_operand_3 : List UInt8 := [16, 91, 182, 1, 27, 153, 0, 10, 42, 8, 182, 1, 110, 3, 172, 28, 153, 0, 33, 42, 20, 1, 77]
abbrev dktX6_operand_3 : List UInt8 := dkwX6_operand_3 ++ dktX6_operand_4
def dkwX6_operand_2 : List UInt8 := [42, 16, 22, 182, 1, 107, 42, 182, 1, 30, 3, 172, 42, 180, 0, 146, 27, 3, 84, 28, 153, 0, 19, 42]
abbrev dktX6_operand_2 : List UInt8 := dkwX6_operand_2 ++ dktX6_operand_3
def dkwX6_operand_1 : List UInt8 := [51, 153, 0, 7, 4, 167, 0, 4, 3, 61, 28, 153, 0, 25, 42, 20, 1, 75, 182, 1, 103, 153, 0, 15]
abbrev dktX6_operand_1 : List UInt8 := dkwX6_operand_1 ++ dktX6_operand_2
def dkwX6_operand_0 : List UInt8 := [42, 180, 0, 155, 4, 100, 60, 42, 180, 0, 140, 27, 46, 184, 1, 100, 153, 0, 16, 42, 180, 0, 146, 27]
abbrev dktX6_operand_0 : List UInt8 := dkwX6_operand_0 ++ dktX6_operand_1
theorem dksX6_operand_0 : cX6_operand.data.toList.drop 0 = dktX6_operand_0 := by decide +kernel
theorem dksX6_operand_1 : cX6_operand.data.toList.drop 24 = dktX6_operand_1 := dk_seg dksX6_operand_0 24 rfl rfl
theorem dksX6_operand_2 : cX6_operand.data.toList.drop 48 = dktX6_operand_2 := dk_seg dksX6_operand_1 24 rfl rfl
theorem dksX6_operand_3 : cX6_operand.data.toList.drop 72 = dktX6_operand_3 := dk_seg dksX6_operand_2 24 rfl rfl
theorem dksX6_operand_4 : cX6_operand.data.toList.drop 95 = dktX6_operand_4 := dk_seg dksX6_operand_3 23 rfl rfl
theorem dksX6_operand_5 : cX6_operand.data.toList.drop 119 = dktX6_operand_5 := dk_seg dksX6_operand_4 24 rfl rfl
theorem dksX6_operand_6 : cX6_operand.data.toList.drop 141 = dktX6_operand_6 := dk_seg dksX6_operand_5 22 rfl rfl
theorem dksX6_operand_7 : cX6_operand.data.toList.drop 164 = dktX6_operand_7 := dk_seg dksX6_operand_6 23 rfl rfl
theorem dksX6_operand_8 : cX6_operand.data.toList.drop 188 = dktX6_operand_8 := dk_seg dksX6_operand_7 24 rfl rfl
theorem dksX6_operand_9 : cX6_operand.data.toList.drop 210 = dktX6_operand_9 := dk_seg dksX6_operand_8 22 rfl rfl
theorem dksX6_operand_10 : cX6_operand.data.toList.drop 232 = dktX6_operand_10 := dk_seg dksX6_operand_9 22 rfl rfl
theorem dksX6_operand_11 : cX6_operand.data.toList.drop 256 = dktX6_operand_11 := dk_seg dksX6_operand_10 24 rfl rfl
theorem dksX6_operand_12 : cX6_operand.data.toList.drop 278 = dktX6_operand_12 := dk_seg dksX6_operand_11 22 rfl rfl
theorem dksX6_operand_13 : cX6_operand.data.toList.drop 301 = dktX6_operand_13 := dk_seg dksX6_operand_12 23 rfl rfl
theorem dksX6_operand_14 : cX6_operand.data.toList.drop 325 = dktX6_operand_14 := dk_seg dksX6_operand_13 24 rfl rfl
theorem dX6_operand_0 : decode cX6_operand 0 = .ok (.aload_n 0, 1) := dk_42 (dk_at dksX6_operand_0 0 rfl rfl)
theorem dX6_operand_1 : decode cX6_operand 1 = .ok (.getfield 155, 3) := dk_180 0 155 (dk_at dksX6_operand_0 1 rfl rfl)
theorem dX6_operand_4 : decode cX6_operand 4 = .ok (.iconst 1, 1) := dk_4 (dk_at dksX6_operand_0 4 rfl rfl)
theorem dX6_operand_5 : decode cX6_operand 5 = .ok (.isub, 1) := dk_100 (dk_at dksX6_operand_0 5 rfl rfl)
theorem dX6_operand_6 : decode cX6_operand 6 = .ok (.istore_n 1, 1) := dk_60 (dk_at dksX6_operand_0 6 rfl rfl)
theorem dX6_operand_7 : decode cX6_operand 7 = .ok (.aload_n 0, 1) := dk_42 (dk_at dksX6_operand_0 7 rfl rfl)
theorem dX6_operand_8 : decode cX6_operand 8 = .ok (.getfield 140, 3) := dk_180 0 140 (dk_at dksX6_operand_0 8 rfl rfl)
theorem dX6_operand_11 : decode cX6_operand 11 = .ok (.iload_n 1, 1) := dk_27 (dk_at dksX6_operand_0 11 rfl rfl)
theorem dX6_operand_12 : decode cX6_operand 12 = .ok (.iaload, 1) := dk_46 (dk_at dksX6_operand_0 12 rfl rfl)
theorem dX6_operand_13 : decode cX6_operand 13 = .ok (.invokestatic 356, 3) := dk_184 1 100 (dk_at dksX6_operand_0 13 rfl rfl)
theorem dX6_operand_16 : decode cX6_operand 16 = .ok (.ifCond .eq 16, 3) := dk_153 0 16 (dk_at dksX6_operand_0 16 rfl rfl)
theorem dX6_operand_19 : decode cX6_operand 19 = .ok (.aload_n 0, 1) := dk_42 (dk_at dksX6_operand_0 19 rfl rfl)
theorem dX6_operand_20 : decode cX6_operand 20 = .ok (.getfield 146, 3) := dk_180 0 146 (dk_at dksX6_operand_0 20 rfl rfl)
theorem dX6_operand_23 : decode cX6_operand 23 = .ok (.iload_n 1, 1) := dk_27 (dk_at dksX6_operand_0 23 rfl rfl)
theorem dX6_operand_24 : decode cX6_operand 24 = .ok (.baload, 1) := dk_51 (dk_at dksX6_operand_1 0 rfl rfl)
theorem dX6_operand_25 : decode cX6_operand 25 = .ok (.ifCond .eq 7, 3) := dk_153 0 7 (dk_at dksX6_operand_1 1 rfl rfl)
theorem dX6_operand_28 : decode cX6_operand 28 = .ok (.iconst 1, 1) := dk_4 (dk_at dksX6_operand_1 4 rfl rfl)
theorem dX6_operand_29 : decode cX6_operand 29 = .ok (.goto 4, 3) := dk_167 0 4 (dk_at dksX6_operand_1 5 rfl rfl)
theorem dX6_operand_32 : decode cX6_operand 32 = .ok (.iconst 0, 1) := dk_3 (dk_at dksX6_operand_1 8 rfl rfl)
theorem dX6_operand_33 : decode cX6_operand 33 = .ok (.istore_n 2, 1) := dk_61 (dk_at dksX6_operand_1 9 rfl rfl)
theorem dX6_operand_34 : decode cX6_operand 34 = .ok (.iload_n 2, 1) := dk_28 (dk_at dksX6_operand_1 10 rfl rfl)
theorem dX6_operand_35 : decode cX6_operand 35 = .ok (.ifCond .eq 25, 3) := dk_153 0 25 (dk_at dksX6_operand_1 11 rfl rfl)
theorem dX6_operand_38 : decode cX6_operand 38 = .ok (.aload_n 0, 1) := dk_42 (dk_at dksX6_operand_1 14 rfl rfl)
theorem dX6_operand_39 : decode cX6_operand 39 = .ok (.ldc2_w 331, 3) := dk_20 1 75 (dk_at dksX6_operand_1 15 rfl rfl)
theorem dX6_operand_42 : decode cX6_operand 42 = .ok (.invokevirtual 359, 3) := dk_182 1 103 (dk_at dksX6_operand_1 18 rfl rfl)
theorem dX6_operand_45 : decode cX6_operand 45 = .ok (.ifCond .eq 15, 3) := dk_153 0 15 (dk_at dksX6_operand_1 21 rfl rfl)
theorem dX6_operand_48 : decode cX6_operand 48 = .ok (.aload_n 0, 1) := dk_42 (dk_at dksX6_operand_2 0 rfl rfl)
theorem dX6_operand_49 : decode cX6_operand 49 = .ok (.bipush 22, 2) := dk_16 22 (dk_at dksX6_operand_2 1 rfl rfl)
theorem dX6_operand_51 : decode cX6_operand 51 = .ok (.invokevirtual 363, 3) := dk_182 1 107 (dk_at dksX6_operand_2 3 rfl rfl)
theorem dX6_operand_54 : decode cX6_operand 54 = .ok (.aload_n 0, 1) := dk_42 (dk_at dksX6_operand_2 6 rfl rfl)
theorem dX6_operand_55 : decode cX6_operand 55 = .ok (.invokevirtual 286, 3) := dk_182 1 30 (dk_at dksX6_operand_2 7 rfl rfl)
theorem dX6_operand_58 : decode cX6_operand 58 = .ok (.iconst 0, 1) := dk_3 (dk_at dksX6_operand_2 10 rfl rfl)
theorem dX6_operand_59 : decode cX6_operand 59 = .ok (.ireturn, 1) := dk_172 (dk_at dksX6_operand_2 11 rfl rfl)
theorem dX6_operand_60 : decode cX6_operand 60 = .ok (.aload_n 0, 1) := dk_42 (dk_at dksX6_operand_2 12 rfl rfl)
theorem dX6_operand_61 : decode cX6_operand 61 = .ok (.getfield 146, 3) := dk_180 0 146 (dk_at dksX6_operand_2 13 rfl rfl)
theorem dX6_operand_64 : decode cX6_operand 64 = .ok (.iload_n 1, 1) := dk_27 (dk_at dksX6_operand_2 16 rfl rfl)
theorem dX6_operand_65 : decode cX6_operand 65 = .ok (.iconst 0, 1) := dk_3 (dk_at dksX6_operand_2 17 rfl rfl)
theorem dX6_operand_66 : decode cX6_operand 66 = .ok (.bastore, 1) := dk_84 (dk_at dksX6_operand_2 18 rfl rfl)
theorem dX6_operand_67 : decode cX6_operand 67 = .ok (.iload_n 2, 1) := dk_28 (dk_at dksX6_operand_2 19 rfl rfl)
theorem dX6_operand_68 : decode cX6_operand 68 = .ok (.ifCond .eq 19, 3) := dk_153 0 19 (dk_at dksX6_operand_2 20 rfl rfl)
theorem dX6_operand_71 : decode cX6_operand 71 = .ok (.aload_n 0, 1) := dk_42 (dk_at dksX6_operand_2 23 rfl rfl)
theorem dX6_operand_72 : decode cX6_operand 72 = .ok (.bipush 91, 2) := dk_16 91 (dk_at dksX6_operand_3 0 rfl rfl)
theorem dX6_operand_74 : decode cX6_operand 74 = .ok (.invokevirtual 283, 3) := dk_182 1 27 (dk_at dksX6_operand_3 2 rfl rfl)
theorem dX6_operand_77 : decode cX6_operand 77 = .ok (.ifCond .eq 10, 3) := dk_153 0 10 (dk_at dksX6_operand_3 5 rfl rfl)
theorem dX6_operand_80 : decode cX6_operand 80 = .ok (.aload_n 0, 1) := dk_42 (dk_at dksX6_operand_3 8 rfl rfl)
theorem dX6_operand_81 : decode cX6_operand 81 = .ok (.iconst 5, 1) := dk_8 (dk_at dksX6_operand_3 9 rfl rfl)
theorem dX6_operand_82 : decode cX6_operand 82 = .ok (.invokevirtual 366, 3) := dk_182 1 110 (dk_at dksX6_operand_3 10 rfl rfl)
theorem dX6_operand_85 : decode cX6_operand 85 = .ok (.iconst 0, 1) := dk_3 (dk_at dksX6_operand_3 13 rfl rfl)
theorem dX6_operand_86 : decode cX6_operand 86 = .ok (.ireturn, 1) := dk_172 (dk_at dksX6_operand_3 14 rfl rfl)
theorem dX6_operand_87 : decode cX6_operand 87 = .ok (.iload_n 2, 1) := dk_28 (dk_at dksX6_operand_3 15 rfl rfl)
theorem dX6_operand_88 : decode cX6_operand 88 = .ok (.ifCond .eq 33, 3) := dk_153 0 33 (dk_at dksX6_operand_3 16 rfl rfl)
theorem dX6_operand_91 : decode cX6_operand 91 = .ok (.aload_n 0, 1) := dk_42 (dk_at dksX6_operand_3 19 rfl rfl)
theorem dX6_operand_92 : decode cX6_operand 92 = .ok (.ldc2_w 333, 3) := dk_20 1 77 (dk_at dksX6_operand_3 20 rfl rfl)
theorem dX6_operand_95 : decode cX6_operand 95 = .ok (.invokevirtual 359, 3) := dk_182 1 103 (dk_at dksX6_operand_4 0 rfl rfl)
theorem dX6_operand_98 : decode cX6_operand 98 = .ok (.ifCond .eq 23, 3) := dk_153 0 23 (dk_at dksX6_operand_4 3 rfl rfl)
theorem dX6_operand_101 : decode cX6_operand 101 = .ok (.aload_n 0, 1) := dk_42 (dk_at dksX6_operand_4 6 rfl rfl)
theorem dX6_operand_102 : decode cX6_operand 102 = .ok (.bipush 9, 2) := dk_16 9 (dk_at dksX6_operand_4 7 rfl rfl)
theorem dX6_operand_104 : decode cX6_operand 104 = .ok (.iconst 0, 1) := dk_3 (dk_at dksX6_operand_4 9 rfl rfl)
theorem dX6_operand_105 : decode cX6_operand 105 = .ok (.invokevirtual 350, 3) := dk_182 1 94 (dk_at dksX6_operand_4 10 rfl rfl)
theorem dX6_operand_108 : decode cX6_operand 108 = .ok (.aload_n 0, 1) := dk_42 (dk_at dksX6_operand_4 13 rfl rfl)
theorem dX6_operand_109 : decode cX6_operand 109 = .ok (.getfield 143, 3) := dk_180 0 143 (dk_at dksX6_operand_4 14 rfl rfl)
theorem dX6_operand_112 : decode cX6_operand 112 = .ok (.iload_n 1, 1) := dk_27 (dk_at dksX6_operand_4 17 rfl rfl)
theorem dX6_operand_113 : decode cX6_operand 113 = .ok (.iconst 2, 1) := dk_5 (dk_at dksX6_operand_4 18 rfl rfl)
theorem dX6_operand_114 : decode cX6_operand 114 = .ok (.iastore, 1) := dk_79 (dk_at dksX6_operand_4 19 rfl rfl)
theorem dX6_operand_115 : decode cX6_operand 115 = .ok (.aload_n 0, 1) := dk_42 (dk_at dksX6_operand_4 20 rfl rfl)
theorem dX6_operand_116 : decode cX6_operand 116 = .ok (.invokevirtual 286, 3) := dk_182 1 30 (dk_at dksX6_operand_4 21 rfl rfl)
theorem dX6_operand_119 : decode cX6_operand 119 = .ok (.iconst 1, 1) := dk_4 (dk_at dksX6_operand_5 0 rfl rfl)
theorem dX6_operand_120 : decode cX6_operand 120 = .ok (.ireturn, 1) := dk_172 (dk_at dksX6_operand_5 1 rfl rfl)
theorem dX6_operand_121 : decode cX6_operand 121 = .ok (.aload_n 0, 1) := dk_42 (dk_at dksX6_operand_5 2 rfl rfl)
theorem dX6_operand_122 : decode cX6_operand 122 = .ok (.bipush 40, 2) := dk_16 40 (dk_at dksX6_operand_5 3 rfl rfl)
theorem dX6_operand_124 : decode cX6_operand 124 = .ok (.invokevirtual 283, 3) := dk_182 1 27 (dk_at dksX6_operand_5 5 rfl rfl)
theorem dX6_operand_127 : decode cX6_operand 127 = .ok (.ifCond .eq 10, 3) := dk_153 0 10 (dk_at dksX6_operand_5 8 rfl rfl)
theorem dX6_operand_130 : decode cX6_operand 130 = .ok (.aload_n 0, 1) := dk_42 (dk_at dksX6_operand_5 11 rfl rfl)
theorem dX6_operand_131 : decode cX6_operand 131 = .ok (.iconst 2, 1) := dk_5 (dk_at dksX6_operand_5 12 rfl rfl)
theorem dX6_operand_132 : decode cX6_operand 132 = .ok (.invokevirtual 366, 3) := dk_182 1 110 (dk_at dksX6_operand_5 13 rfl rfl)
theorem dX6_operand_135 : decode cX6_operand 135 = .ok (.iconst 0, 1) := dk_3 (dk_at dksX6_operand_5 16 rfl rfl)
theorem dX6_operand_136 : decode cX6_operand 136 = .ok (.ireturn, 1) := dk_172 (dk_at dksX6_operand_5 17 rfl rfl)
theorem dX6_operand_137 : decode cX6_operand 137 = .ok (.aload_n 0, 1) := dk_42 (dk_at dksX6_operand_5 18 rfl rfl)
theorem dX6_operand_138 : decode cX6_operand 138 = .ok (.ldc2_w 339, 3) := dk_20 1 83 (dk_at dksX6_operand_5 19 rfl rfl)
theorem dX6_operand_141 : decode cX6_operand 141 = .ok (.invokevirtual 359, 3) := dk_182 1 103 (dk_at dksX6_operand_6 0 rfl rfl)
theorem dX6_operand_144 : decode cX6_operand 144 = .ok (.ifCond .ne 13, 3) := dk_154 0 13 (dk_at dksX6_operand_6 3 rfl rfl)
theorem dX6_operand_147 : decode cX6_operand 147 = .ok (.aload_n 0, 1) := dk_42 (dk_at dksX6_operand_6 6 rfl rfl)
theorem dX6_operand_148 : decode cX6_operand 148 = .ok (.ldc2_w 341, 3) := dk_20 1 85 (dk_at dksX6_operand_6 7 rfl rfl)
theorem dX6_operand_151 : decode cX6_operand 151 = .ok (.invokevirtual 359, 3) := dk_182 1 103 (dk_at dksX6_operand_6 10 rfl rfl)
theorem dX6_operand_154 : decode cX6_operand 154 = .ok (.ifCond .eq 69, 3) := dk_153 0 69 (dk_at dksX6_operand_6 13 rfl rfl)
theorem dX6_operand_157 : decode cX6_operand 157 = .ok (.aload_n 0, 1) := dk_42 (dk_at dksX6_operand_6 16 rfl rfl)
theorem dX6_operand_158 : decode cX6_operand 158 = .ok (.ldc2_w 339, 3) := dk_20 1 83 (dk_at dksX6_operand_6 17 rfl rfl)
theorem dX6_operand_161 : decode cX6_operand 161 = .ok (.invokevirtual 359, 3) := dk_182 1 103 (dk_at dksX6_operand_6 20 rfl rfl)
theorem dX6_operand_164 : decode cX6_operand 164 = .ok (.ifCond .eq 8, 3) := dk_153 0 8 (dk_at dksX6_operand_7 0 rfl rfl)
theorem dX6_operand_167 : decode cX6_operand 167 = .ok (.bipush 15, 2) := dk_16 15 (dk_at dksX6_operand_7 3 rfl rfl)
theorem dX6_operand_169 : decode cX6_operand 169 = .ok (.goto 5, 3) := dk_167 0 5 (dk_at dksX6_operand_7 5 rfl rfl)
theorem dX6_operand_172 : decode cX6_operand 172 = .ok (.bipush 16, 2) := dk_16 16 (dk_at dksX6_operand_7 8 rfl rfl)
theorem dX6_operand_174 : decode cX6_operand 174 = .ok (.istore_n 3, 1) := dk_62 (dk_at dksX6_operand_7 10 rfl rfl)
theorem dX6_operand_175 : decode cX6_operand 175 = .ok (.aload_n 0, 1) := dk_42 (dk_at dksX6_operand_7 11 rfl rfl)
theorem dX6_operand_176 : decode cX6_operand 176 = .ok (.invokevirtual 286, 3) := dk_182 1 30 (dk_at dksX6_operand_7 12 rfl rfl)
theorem dX6_operand_179 : decode cX6_operand 179 = .ok (.aload_n 0, 1) := dk_42 (dk_at dksX6_operand_7 15 rfl rfl)
theorem dX6_operand_180 : decode cX6_operand 180 = .ok (.bipush 40, 2) := dk_16 40 (dk_at dksX6_operand_7 16 rfl rfl)
theorem dX6_operand_182 : decode cX6_operand 182 = .ok (.invokevirtual 283, 3) := dk_182 1 27 (dk_at dksX6_operand_7 18 rfl rfl)
theorem dX6_operand_185 : decode cX6_operand 185 = .ok (.ifCond .ne 12, 3) := dk_154 0 12 (dk_at dksX6_operand_7 21 rfl rfl)
theorem dX6_operand_188 : decode cX6_operand 188 = .ok (.aload_n 0, 1) := dk_42 (dk_at dksX6_operand_8 0 rfl rfl)
theorem dX6_operand_189 : decode cX6_operand 189 = .ok (.iconst 1, 1) := dk_4 (dk_at dksX6_operand_8 1 rfl rfl)
theorem dX6_operand_190 : decode cX6_operand 190 = .ok (.aload_n 0, 1) := dk_42 (dk_at dksX6_operand_8 2 rfl rfl)
theorem dX6_operand_191 : decode cX6_operand 191 = .ok (.getfield 23, 3) := dk_180 0 23 (dk_at dksX6_operand_8 3 rfl rfl)
theorem dX6_operand_194 : decode cX6_operand 194 = .ok (.invokevirtual 279, 3) := dk_182 1 23 (dk_at dksX6_operand_8 6 rfl rfl)
theorem dX6_operand_197 : decode cX6_operand 197 = .ok (.aload_n 0, 1) := dk_42 (dk_at dksX6_operand_8 9 rfl rfl)
theorem dX6_operand_198 : decode cX6_operand 198 = .ok (.iconst 3, 1) := dk_6 (dk_at dksX6_operand_8 10 rfl rfl)
theorem dX6_operand_199 : decode cX6_operand 199 = .ok (.invokevirtual 366, 3) := dk_182 1 110 (dk_at dksX6_operand_8 11 rfl rfl)
theorem dX6_operand_202 : decode cX6_operand 202 = .ok (.aload_n 0, 1) := dk_42 (dk_at dksX6_operand_8 14 rfl rfl)
theorem dX6_operand_203 : decode cX6_operand 203 = .ok (.getfield 36, 3) := dk_180 0 36 (dk_at dksX6_operand_8 15 rfl rfl)
theorem dX6_operand_206 : decode cX6_operand 206 = .ok (.ifCond .ne 15, 3) := dk_154 0 15 (dk_at dksX6_operand_8 18 rfl rfl)
theorem dX6_operand_209 : decode cX6_operand 209 = .ok (.aload_n 0, 1) := dk_42 (dk_at dksX6_operand_8 21 rfl rfl)
theorem dX6_operand_210 : decode cX6_operand 210 = .ok (.getfield 149, 3) := dk_180 0 149 (dk_at dksX6_operand_9 0 rfl rfl)
theorem dX6_operand_213 : decode cX6_operand 213 = .ok (.aload_n 0, 1) := dk_42 (dk_at dksX6_operand_9 3 rfl rfl)
theorem dX6_operand_214 : decode cX6_operand 214 = .ok (.getfield 155, 3) := dk_180 0 155 (dk_at dksX6_operand_9 4 rfl rfl)
theorem dX6_operand_217 : decode cX6_operand 217 = .ok (.iconst 1, 1) := dk_4 (dk_at dksX6_operand_9 7 rfl rfl)
theorem dX6_operand_218 : decode cX6_operand 218 = .ok (.isub, 1) := dk_100 (dk_at dksX6_operand_9 8 rfl rfl)
theorem dX6_operand_219 : decode cX6_operand 219 = .ok (.iload_n 3, 1) := dk_29 (dk_at dksX6_operand_9 9 rfl rfl)
theorem dX6_operand_220 : decode cX6_operand 220 = .ok (.iastore, 1) := dk_79 (dk_at dksX6_operand_9 10 rfl rfl)
theorem dX6_operand_221 : decode cX6_operand 221 = .ok (.iconst 0, 1) := dk_3 (dk_at dksX6_operand_9 11 rfl rfl)
theorem dX6_operand_222 : decode cX6_operand 222 = .ok (.ireturn, 1) := dk_172 (dk_at dksX6_operand_9 12 rfl rfl)
theorem dX6_operand_223 : decode cX6_operand 223 = .ok (.aload_n 0, 1) := dk_42 (dk_at dksX6_operand_9 13 rfl rfl)
theorem dX6_operand_224 : decode cX6_operand 224 = .ok (.getfield 20, 3) := dk_180 0 20 (dk_at dksX6_operand_9 14 rfl rfl)
theorem dX6_operand_227 : decode cX6_operand 227 = .ok (.iconst 2, 1) := dk_5 (dk_at dksX6_operand_9 17 rfl rfl)
theorem dX6_operand_228 : decode cX6_operand 228 = .ok (.if_icmp .ne 7, 3) := dk_160 0 7 (dk_at dksX6_operand_9 18 rfl rfl)
theorem dX6_operand_231 : decode cX6_operand 231 = .ok (.iconst 0, 1) := dk_3 (dk_at dksX6_operand_9 21 rfl rfl)
theorem dX6_operand_232 : decode cX6_operand 232 = .ok (.goto 60, 3) := dk_167 0 60 (dk_at dksX6_operand_10 0 rfl rfl)
theorem dX6_operand_235 : decode cX6_operand 235 = .ok (.aload_n 0, 1) := dk_42 (dk_at dksX6_operand_10 3 rfl rfl)
theorem dX6_operand_236 : decode cX6_operand 236 = .ok (.ldc2_w 335, 3) := dk_20 1 79 (dk_at dksX6_operand_10 4 rfl rfl)
theorem dX6_operand_239 : decode cX6_operand 239 = .ok (.invokevirtual 359, 3) := dk_182 1 103 (dk_at dksX6_operand_10 7 rfl rfl)
theorem dX6_operand_242 : decode cX6_operand 242 = .ok (.ifCond .eq 7, 3) := dk_153 0 7 (dk_at dksX6_operand_10 10 rfl rfl)
theorem dX6_operand_245 : decode cX6_operand 245 = .ok (.iconst 1, 1) := dk_4 (dk_at dksX6_operand_10 13 rfl rfl)
theorem dX6_operand_246 : decode cX6_operand 246 = .ok (.goto 46, 3) := dk_167 0 46 (dk_at dksX6_operand_10 14 rfl rfl)
theorem dX6_operand_249 : decode cX6_operand 249 = .ok (.aload_n 0, 1) := dk_42 (dk_at dksX6_operand_10 17 rfl rfl)
theorem dX6_operand_250 : decode cX6_operand 250 = .ok (.ldc2_w 337, 3) := dk_20 1 81 (dk_at dksX6_operand_10 18 rfl rfl)
theorem dX6_operand_253 : decode cX6_operand 253 = .ok (.invokevirtual 359, 3) := dk_182 1 103 (dk_at dksX6_operand_10 21 rfl rfl)
theorem dX6_operand_256 : decode cX6_operand 256 = .ok (.ifCond .eq 7, 3) := dk_153 0 7 (dk_at dksX6_operand_11 0 rfl rfl)
theorem dX6_operand_259 : decode cX6_operand 259 = .ok (.iconst 2, 1) := dk_5 (dk_at dksX6_operand_11 3 rfl rfl)
theorem dX6_operand_260 : decode cX6_operand 260 = .ok (.goto 32, 3) := dk_167 0 32 (dk_at dksX6_operand_11 4 rfl rfl)
theorem dX6_operand_263 : decode cX6_operand 263 = .ok (.aload_n 0, 1) := dk_42 (dk_at dksX6_operand_11 7 rfl rfl)
theorem dX6_operand_264 : decode cX6_operand 264 = .ok (.ldc2_w 321, 3) := dk_20 1 65 (dk_at dksX6_operand_11 8 rfl rfl)
theorem dX6_operand_267 : decode cX6_operand 267 = .ok (.invokevirtual 359, 3) := dk_182 1 103 (dk_at dksX6_operand_11 11 rfl rfl)
theorem dX6_operand_270 : decode cX6_operand 270 = .ok (.ifCond .eq 7, 3) := dk_153 0 7 (dk_at dksX6_operand_11 14 rfl rfl)
theorem dX6_operand_273 : decode cX6_operand 273 = .ok (.iconst 3, 1) := dk_6 (dk_at dksX6_operand_11 17 rfl rfl)
theorem dX6_operand_274 : decode cX6_operand 274 = .ok (.goto 18, 3) := dk_167 0 18 (dk_at dksX6_operand_11 18 rfl rfl)
theorem dX6_operand_277 : decode cX6_operand 277 = .ok (.aload_n 0, 1) := dk_42 (dk_at dksX6_operand_11 21 rfl rfl)
theorem dX6_operand_278 : decode cX6_operand 278 = .ok (.ldc2_w 291, 3) := dk_20 1 35 (dk_at dksX6_operand_12 0 rfl rfl)
theorem dX6_operand_281 : decode cX6_operand 281 = .ok (.invokevirtual 359, 3) := dk_182 1 103 (dk_at dksX6_operand_12 3 rfl rfl)
theorem dX6_operand_284 : decode cX6_operand 284 = .ok (.ifCond .eq 7, 3) := dk_153 0 7 (dk_at dksX6_operand_12 6 rfl rfl)
theorem dX6_operand_287 : decode cX6_operand 287 = .ok (.iconst 4, 1) := dk_7 (dk_at dksX6_operand_12 9 rfl rfl)
theorem dX6_operand_288 : decode cX6_operand 288 = .ok (.goto 4, 3) := dk_167 0 4 (dk_at dksX6_operand_12 10 rfl rfl)
theorem dX6_operand_291 : decode cX6_operand 291 = .ok (.iconst (-1), 1) := dk_2 (dk_at dksX6_operand_12 13 rfl rfl)
theorem dX6_operand_292 : decode cX6_operand 292 = .ok (.istore_n 3, 1) := dk_62 (dk_at dksX6_operand_12 14 rfl rfl)
theorem dX6_operand_293 : decode cX6_operand 293 = .ok (.iload_n 3, 1) := dk_29 (dk_at dksX6_operand_12 15 rfl rfl)
theorem dX6_operand_294 : decode cX6_operand 294 = .ok (.iconst (-1), 1) := dk_2 (dk_at dksX6_operand_12 16 rfl rfl)
theorem dX6_operand_295 : decode cX6_operand 295 = .ok (.if_icmp .ne 12, 3) := dk_160 0 12 (dk_at dksX6_operand_12 17 rfl rfl)
theorem dX6_operand_298 : decode cX6_operand 298 = .ok (.aload_n 0, 1) := dk_42 (dk_at dksX6_operand_12 20 rfl rfl)
theorem dX6_operand_299 : decode cX6_operand 299 = .ok (.iconst 1, 1) := dk_4 (dk_at dksX6_operand_12 21 rfl rfl)
theorem dX6_operand_300 : decode cX6_operand 300 = .ok (.aload_n 0, 1) := dk_42 (dk_at dksX6_operand_12 22 rfl rfl)
theorem dX6_operand_301 : decode cX6_operand 301 = .ok (.getfield 23, 3) := dk_180 0 23 (dk_at dksX6_operand_13 0 rfl rfl)
theorem dX6_operand_304 : decode cX6_operand 304 = .ok (.invokevirtual 279, 3) := dk_182 1 23 (dk_at dksX6_operand_13 3 rfl rfl)
theorem dX6_operand_307 : decode cX6_operand 307 = .ok (.aload_n 0, 1) := dk_42 (dk_at dksX6_operand_13 6 rfl rfl)
theorem dX6_operand_308 : decode cX6_operand 308 = .ok (.getfield 36, 3) := dk_180 0 36 (dk_at dksX6_operand_13 7 rfl rfl)
theorem dX6_operand_311 : decode cX6_operand 311 = .ok (.ifCond .le 5, 3) := dk_158 0 5 (dk_at dksX6_operand_13 10 rfl rfl)
theorem dX6_operand_314 : decode cX6_operand 314 = .ok (.iconst 1, 1) := dk_4 (dk_at dksX6_operand_13 13 rfl rfl)
theorem dX6_operand_315 : decode cX6_operand 315 = .ok (.ireturn, 1) := dk_172 (dk_at dksX6_operand_13 14 rfl rfl)
theorem dX6_operand_316 : decode cX6_operand 316 = .ok (.aload_n 0, 1) := dk_42 (dk_at dksX6_operand_13 15 rfl rfl)
theorem dX6_operand_317 : decode cX6_operand 317 = .ok (.iload_n 3, 1) := dk_29 (dk_at dksX6_operand_13 16 rfl rfl)
theorem dX6_operand_318 : decode cX6_operand 318 = .ok (.aload_n 0, 1) := dk_42 (dk_at dksX6_operand_13 17 rfl rfl)
theorem dX6_operand_319 : decode cX6_operand 319 = .ok (.getfield 29, 3) := dk_180 0 29 (dk_at dksX6_operand_13 18 rfl rfl)
theorem dX6_operand_322 : decode cX6_operand 322 = .ok (.invokevirtual 350, 3) := dk_182 1 94 (dk_at dksX6_operand_13 21 rfl rfl)
theorem dX6_operand_325 : decode cX6_operand 325 = .ok (.aload_n 0, 1) := dk_42 (dk_at dksX6_operand_14 0 rfl rfl)
theorem dX6_operand_326 : decode cX6_operand 326 = .ok (.invokevirtual 286, 3) := dk_182 1 30 (dk_at dksX6_operand_14 1 rfl rfl)
theorem dX6_operand_329 : decode cX6_operand 329 = .ok (.iconst 1, 1) := dk_4 (dk_at dksX6_operand_14 4 rfl rfl)
theorem dX6_operand_330 : decode cX6_operand 330 = .ok (.ireturn, 1) := dk_172 (dk_at dksX6_operand_14 5 rfl rfl)
abbrev cX6_isTest : ByteArray := prog_29_method_24_code
def yX6_isTest : MethodName := ⟨RX6, "isTest", "(I)Z"⟩
def dkwX6_isTest_0 : List UInt8 := [26, 4, 159, 0, 8, 26, 8, 160, 0, 7, 4, 167, 0, 4, 3, 172]
abbrev dktX6_isTest_0 : List UInt8 := dkwX6_isTest_0 ++ []
theorem dksX6_isTest_0 : cX6_isTest.data.toList.drop 0 = dktX6_isTest_0 := by decide +kernel
theorem dX6_isTest_0 : decode cX6_isTest 0 = .ok (.iload_n 0, 1) := dk_26 (dk_at dksX6_isTest_0 0 rfl rfl)
theorem dX6_isTest_1 : decode cX6_isTest 1 = .ok (.iconst 1, 1) := dk_4 (dk_at dksX6_isTest_0 1 rfl rfl)
theorem dX6_isTest_2 : decode cX6_isTest 2 = .ok (.if_icmp .eq 8, 3) := dk_159 0 8 (dk_at dksX6_isTest_0 2 rfl rfl)
theorem dX6_isTest_5 : decode cX6_isTest 5 = .ok (.iload_n 0, 1) := dk_26 (dk_at dksX6_isTest_0 5 rfl rfl)
theorem dX6_isTest_6 : decode cX6_isTest 6 = .ok (.iconst 5, 1) := dk_8 (dk_at dksX6_isTest_0 6 rfl rfl)
theorem dX6_isTest_7 : decode cX6_isTest 7 = .ok (.if_icmp .ne 7, 3) := dk_160 0 7 (dk_at dksX6_isTest_0 7 rfl rfl)
theorem dX6_isTest_10 : decode cX6_isTest 10 = .ok (.iconst 1, 1) := dk_4 (dk_at dksX6_isTest_0 10 rfl rfl)
theorem dX6_isTest_11 : decode cX6_isTest 11 = .ok (.goto 4, 3) := dk_167 0 4 (dk_at dksX6_isTest_0 11 rfl rfl)
theorem dX6_isTest_14 : decode cX6_isTest 14 = .ok (.iconst 0, 1) := dk_3 (dk_at dksX6_isTest_0 14 rfl rfl)
theorem dX6_isTest_15 : decode cX6_isTest 15 = .ok (.ireturn, 1) := dk_172 (dk_at dksX6_isTest_0 15 rfl rfl)
abbrev cX6_holdsBack : ByteArray := prog_29_method_21_code
def yX6_holdsBack : MethodName := ⟨RX6, "holdsBack", "(I)V"⟩
def dkwX6_holdsBack_0 : List UInt8 := [42, 180, 0, 161, 42, 180, 0, 164, 27, 79, 42, 89, 180, 0, 164, 4, 96, 181, 0, 164, 177]
abbrev dktX6_holdsBack_0 : List UInt8 := dkwX6_holdsBack_0 ++ []
theorem dksX6_holdsBack_0 : cX6_holdsBack.data.toList.drop 0 = dktX6_holdsBack_0 := by decide +kernel
theorem dX6_holdsBack_0 : decode cX6_holdsBack 0 = .ok (.aload_n 0, 1) := dk_42 (dk_at dksX6_holdsBack_0 0 rfl rfl)
theorem dX6_holdsBack_1 : decode cX6_holdsBack 1 = .ok (.getfield 161, 3) := dk_180 0 161 (dk_at dksX6_holdsBack_0 1 rfl rfl)
theorem dX6_holdsBack_4 : decode cX6_holdsBack 4 = .ok (.aload_n 0, 1) := dk_42 (dk_at dksX6_holdsBack_0 4 rfl rfl)
theorem dX6_holdsBack_5 : decode cX6_holdsBack 5 = .ok (.getfield 164, 3) := dk_180 0 164 (dk_at dksX6_holdsBack_0 5 rfl rfl)
theorem dX6_holdsBack_8 : decode cX6_holdsBack 8 = .ok (.iload_n 1, 1) := dk_27 (dk_at dksX6_holdsBack_0 8 rfl rfl)
theorem dX6_holdsBack_9 : decode cX6_holdsBack 9 = .ok (.iastore, 1) := dk_79 (dk_at dksX6_holdsBack_0 9 rfl rfl)
theorem dX6_holdsBack_10 : decode cX6_holdsBack 10 = .ok (.aload_n 0, 1) := dk_42 (dk_at dksX6_holdsBack_0 10 rfl rfl)
theorem dX6_holdsBack_11 : decode cX6_holdsBack 11 = .ok (.dup, 1) := dk_89 (dk_at dksX6_holdsBack_0 11 rfl rfl)
theorem dX6_holdsBack_12 : decode cX6_holdsBack 12 = .ok (.getfield 164, 3) := dk_180 0 164 (dk_at dksX6_holdsBack_0 12 rfl rfl)
theorem dX6_holdsBack_15 : decode cX6_holdsBack 15 = .ok (.iconst 1, 1) := dk_4 (dk_at dksX6_holdsBack_0 15 rfl rfl)
theorem dX6_holdsBack_16 : decode cX6_holdsBack 16 = .ok (.iadd, 1) := dk_96 (dk_at dksX6_holdsBack_0 16 rfl rfl)
theorem dX6_holdsBack_17 : decode cX6_holdsBack 17 = .ok (.putfield 164, 3) := dk_181 0 164 (dk_at dksX6_holdsBack_0 17 rfl rfl)
theorem dX6_holdsBack_20 : decode cX6_holdsBack 20 = .ok (.return_, 1) := dk_177 (dk_at dksX6_holdsBack_0 20 rfl rfl)
abbrev cX6_opens : ByteArray := prog_29_method_23_code
def yX6_opens : MethodName := ⟨RX6, "opens", "(I)V"⟩
def dkwX6_opens_1 : List UInt8 := [158, 0, 4, 177, 42, 89, 180, 0, 158, 4, 96, 181, 0, 158, 42, 182, 1, 30, 42, 27, 182, 1, 97, 177]
abbrev dktX6_opens_1 : List UInt8 := dkwX6_opens_1 ++ []
def dkwX6_opens_0 : List UInt8 := [42, 180, 0, 158, 16, 8, 160, 0, 12, 42, 8, 42, 180, 0, 23, 182, 1, 23, 42, 180, 0, 36]
abbrev dktX6_opens_0 : List UInt8 := dkwX6_opens_0 ++ dktX6_opens_1
theorem dksX6_opens_0 : cX6_opens.data.toList.drop 0 = dktX6_opens_0 := by decide +kernel
theorem dksX6_opens_1 : cX6_opens.data.toList.drop 22 = dktX6_opens_1 := dk_seg dksX6_opens_0 22 rfl rfl
theorem dX6_opens_0 : decode cX6_opens 0 = .ok (.aload_n 0, 1) := dk_42 (dk_at dksX6_opens_0 0 rfl rfl)
theorem dX6_opens_1 : decode cX6_opens 1 = .ok (.getfield 158, 3) := dk_180 0 158 (dk_at dksX6_opens_0 1 rfl rfl)
theorem dX6_opens_4 : decode cX6_opens 4 = .ok (.bipush 8, 2) := dk_16 8 (dk_at dksX6_opens_0 4 rfl rfl)
theorem dX6_opens_6 : decode cX6_opens 6 = .ok (.if_icmp .ne 12, 3) := dk_160 0 12 (dk_at dksX6_opens_0 6 rfl rfl)
theorem dX6_opens_9 : decode cX6_opens 9 = .ok (.aload_n 0, 1) := dk_42 (dk_at dksX6_opens_0 9 rfl rfl)
theorem dX6_opens_10 : decode cX6_opens 10 = .ok (.iconst 5, 1) := dk_8 (dk_at dksX6_opens_0 10 rfl rfl)
theorem dX6_opens_11 : decode cX6_opens 11 = .ok (.aload_n 0, 1) := dk_42 (dk_at dksX6_opens_0 11 rfl rfl)
theorem dX6_opens_12 : decode cX6_opens 12 = .ok (.getfield 23, 3) := dk_180 0 23 (dk_at dksX6_opens_0 12 rfl rfl)
theorem dX6_opens_15 : decode cX6_opens 15 = .ok (.invokevirtual 279, 3) := dk_182 1 23 (dk_at dksX6_opens_0 15 rfl rfl)
theorem dX6_opens_18 : decode cX6_opens 18 = .ok (.aload_n 0, 1) := dk_42 (dk_at dksX6_opens_0 18 rfl rfl)
theorem dX6_opens_19 : decode cX6_opens 19 = .ok (.getfield 36, 3) := dk_180 0 36 (dk_at dksX6_opens_0 19 rfl rfl)
theorem dX6_opens_22 : decode cX6_opens 22 = .ok (.ifCond .le 4, 3) := dk_158 0 4 (dk_at dksX6_opens_1 0 rfl rfl)
theorem dX6_opens_25 : decode cX6_opens 25 = .ok (.return_, 1) := dk_177 (dk_at dksX6_opens_1 3 rfl rfl)
theorem dX6_opens_26 : decode cX6_opens 26 = .ok (.aload_n 0, 1) := dk_42 (dk_at dksX6_opens_1 4 rfl rfl)
theorem dX6_opens_27 : decode cX6_opens 27 = .ok (.dup, 1) := dk_89 (dk_at dksX6_opens_1 5 rfl rfl)
theorem dX6_opens_28 : decode cX6_opens 28 = .ok (.getfield 158, 3) := dk_180 0 158 (dk_at dksX6_opens_1 6 rfl rfl)
theorem dX6_opens_31 : decode cX6_opens 31 = .ok (.iconst 1, 1) := dk_4 (dk_at dksX6_opens_1 9 rfl rfl)
theorem dX6_opens_32 : decode cX6_opens 32 = .ok (.iadd, 1) := dk_96 (dk_at dksX6_opens_1 10 rfl rfl)
theorem dX6_opens_33 : decode cX6_opens 33 = .ok (.putfield 158, 3) := dk_181 0 158 (dk_at dksX6_opens_1 11 rfl rfl)
theorem dX6_opens_36 : decode cX6_opens 36 = .ok (.aload_n 0, 1) := dk_42 (dk_at dksX6_opens_1 14 rfl rfl)
theorem dX6_opens_37 : decode cX6_opens 37 = .ok (.invokevirtual 286, 3) := dk_182 1 30 (dk_at dksX6_opens_1 15 rfl rfl)
theorem dX6_opens_40 : decode cX6_opens 40 = .ok (.aload_n 0, 1) := dk_42 (dk_at dksX6_opens_1 18 rfl rfl)
theorem dX6_opens_41 : decode cX6_opens 41 = .ok (.iload_n 1, 1) := dk_27 (dk_at dksX6_opens_1 19 rfl rfl)
theorem dX6_opens_42 : decode cX6_opens 42 = .ok (.invokevirtual 353, 3) := dk_182 1 97 (dk_at dksX6_opens_1 20 rfl rfl)
theorem dX6_opens_45 : decode cX6_opens 45 = .ok (.return_, 1) := dk_177 (dk_at dksX6_opens_1 23 rfl rfl)
abbrev cX6_add : ByteArray := prog_29_method_18_code
def yX6_add : MethodName := ⟨RX6, "add", "(II)V"⟩
def dkwX6_add_2 : List UInt8 := [181, 0, 134, 177]
abbrev dktX6_add_2 : List UInt8 := dkwX6_add_2 ++ []
def dkwX6_add_1 : List UInt8 := [17, 7, 8, 42, 180, 0, 137, 104, 42, 180, 0, 134, 96, 28, 79, 42, 89, 180, 0, 134, 4, 96]
abbrev dktX6_add_1 : List UInt8 := dkwX6_add_1 ++ dktX6_add_2
def dkwX6_add_0 : List UInt8 := [42, 180, 0, 128, 17, 7, 8, 42, 180, 0, 137, 104, 42, 180, 0, 134, 96, 27, 79, 42, 180, 0, 131]
abbrev dktX6_add_0 : List UInt8 := dkwX6_add_0 ++ dktX6_add_1
theorem dksX6_add_0 : cX6_add.data.toList.drop 0 = dktX6_add_0 := by decide +kernel
theorem dksX6_add_1 : cX6_add.data.toList.drop 23 = dktX6_add_1 := dk_seg dksX6_add_0 23 rfl rfl
theorem dksX6_add_2 : cX6_add.data.toList.drop 45 = dktX6_add_2 := dk_seg dksX6_add_1 22 rfl rfl
theorem dX6_add_0 : decode cX6_add 0 = .ok (.aload_n 0, 1) := dk_42 (dk_at dksX6_add_0 0 rfl rfl)
theorem dX6_add_1 : decode cX6_add 1 = .ok (.getfield 128, 3) := dk_180 0 128 (dk_at dksX6_add_0 1 rfl rfl)
theorem dX6_add_4 : decode cX6_add 4 = .ok (.sipush 1800, 3) := dk_17 7 8 (dk_at dksX6_add_0 4 rfl rfl)
theorem dX6_add_7 : decode cX6_add 7 = .ok (.aload_n 0, 1) := dk_42 (dk_at dksX6_add_0 7 rfl rfl)
theorem dX6_add_8 : decode cX6_add 8 = .ok (.getfield 137, 3) := dk_180 0 137 (dk_at dksX6_add_0 8 rfl rfl)
theorem dX6_add_11 : decode cX6_add 11 = .ok (.imul, 1) := dk_104 (dk_at dksX6_add_0 11 rfl rfl)
theorem dX6_add_12 : decode cX6_add 12 = .ok (.aload_n 0, 1) := dk_42 (dk_at dksX6_add_0 12 rfl rfl)
theorem dX6_add_13 : decode cX6_add 13 = .ok (.getfield 134, 3) := dk_180 0 134 (dk_at dksX6_add_0 13 rfl rfl)
theorem dX6_add_16 : decode cX6_add 16 = .ok (.iadd, 1) := dk_96 (dk_at dksX6_add_0 16 rfl rfl)
theorem dX6_add_17 : decode cX6_add 17 = .ok (.iload_n 1, 1) := dk_27 (dk_at dksX6_add_0 17 rfl rfl)
theorem dX6_add_18 : decode cX6_add 18 = .ok (.iastore, 1) := dk_79 (dk_at dksX6_add_0 18 rfl rfl)
theorem dX6_add_19 : decode cX6_add 19 = .ok (.aload_n 0, 1) := dk_42 (dk_at dksX6_add_0 19 rfl rfl)
theorem dX6_add_20 : decode cX6_add 20 = .ok (.getfield 131, 3) := dk_180 0 131 (dk_at dksX6_add_0 20 rfl rfl)
theorem dX6_add_23 : decode cX6_add 23 = .ok (.sipush 1800, 3) := dk_17 7 8 (dk_at dksX6_add_1 0 rfl rfl)
theorem dX6_add_26 : decode cX6_add 26 = .ok (.aload_n 0, 1) := dk_42 (dk_at dksX6_add_1 3 rfl rfl)
theorem dX6_add_27 : decode cX6_add 27 = .ok (.getfield 137, 3) := dk_180 0 137 (dk_at dksX6_add_1 4 rfl rfl)
theorem dX6_add_30 : decode cX6_add 30 = .ok (.imul, 1) := dk_104 (dk_at dksX6_add_1 7 rfl rfl)
theorem dX6_add_31 : decode cX6_add 31 = .ok (.aload_n 0, 1) := dk_42 (dk_at dksX6_add_1 8 rfl rfl)
theorem dX6_add_32 : decode cX6_add 32 = .ok (.getfield 134, 3) := dk_180 0 134 (dk_at dksX6_add_1 9 rfl rfl)
theorem dX6_add_35 : decode cX6_add 35 = .ok (.iadd, 1) := dk_96 (dk_at dksX6_add_1 12 rfl rfl)
theorem dX6_add_36 : decode cX6_add 36 = .ok (.iload_n 2, 1) := dk_28 (dk_at dksX6_add_1 13 rfl rfl)
theorem dX6_add_37 : decode cX6_add 37 = .ok (.iastore, 1) := dk_79 (dk_at dksX6_add_1 14 rfl rfl)
theorem dX6_add_38 : decode cX6_add 38 = .ok (.aload_n 0, 1) := dk_42 (dk_at dksX6_add_1 15 rfl rfl)
theorem dX6_add_39 : decode cX6_add 39 = .ok (.dup, 1) := dk_89 (dk_at dksX6_add_1 16 rfl rfl)
theorem dX6_add_40 : decode cX6_add 40 = .ok (.getfield 134, 3) := dk_180 0 134 (dk_at dksX6_add_1 17 rfl rfl)
theorem dX6_add_43 : decode cX6_add 43 = .ok (.iconst 1, 1) := dk_4 (dk_at dksX6_add_1 20 rfl rfl)
theorem dX6_add_44 : decode cX6_add 44 = .ok (.iadd, 1) := dk_96 (dk_at dksX6_add_1 21 rfl rfl)
theorem dX6_add_45 : decode cX6_add 45 = .ok (.putfield 134, 3) := dk_181 0 134 (dk_at dksX6_add_2 0 rfl rfl)
theorem dX6_add_48 : decode cX6_add 48 = .ok (.return_, 1) := dk_177 (dk_at dksX6_add_2 3 rfl rfl)
abbrev cX6_goesOn : ByteArray := prog_29_method_26_code
def yX6_goesOn : MethodName := ⟨RX6, "goesOn", "()Z"⟩
def dkwX6_goesOn_24 : List UInt8 := [28, 8, 160, 0, 15, 42, 180, 0, 143, 42, 180, 0, 155, 4, 100, 5, 79, 42, 182, 1, 30, 4, 172]
abbrev dktX6_goesOn_24 : List UInt8 := dkwX6_goesOn_24 ++ []
def dkwX6_goesOn_23 : List UInt8 := [180, 0, 158, 4, 100, 181, 0, 158, 28, 7, 160, 0, 14, 42, 42, 180, 0, 149, 27, 46, 3, 182, 1, 94]
abbrev dktX6_goesOn_23 : List UInt8 := dkwX6_goesOn_23 ++ dktX6_goesOn_24
def dkwX6_goesOn_22 : List UInt8 := [158, 0, 5, 3, 172, 42, 4, 182, 1, 113, 42, 89, 180, 0, 155, 4, 100, 181, 0, 155, 42, 89]
abbrev dktX6_goesOn_22 : List UInt8 := dkwX6_goesOn_22 ++ dktX6_goesOn_23
def dkwX6_goesOn_21 : List UInt8 := [167, 0, 5, 16, 41, 182, 1, 27, 154, 0, 12, 42, 4, 42, 180, 0, 23, 182, 1, 23, 42, 180, 0, 36]
abbrev dktX6_goesOn_21 : List UInt8 := dkwX6_goesOn_21 ++ dktX6_goesOn_22
def dkwX6_goesOn_20 : List UInt8 := [27, 7, 79, 42, 182, 1, 30, 42, 3, 181, 0, 167, 4, 172, 42, 28, 8, 160, 0, 8, 16, 93]
abbrev dktX6_goesOn_20 : List UInt8 := dkwX6_goesOn_20 ++ dktX6_goesOn_21
def dkwX6_goesOn_19 : List UInt8 := [180, 0, 23, 182, 1, 23, 42, 180, 0, 36, 158, 0, 5, 3, 172, 42, 4, 182, 1, 113, 42, 180, 0, 140]
abbrev dktX6_goesOn_19 : List UInt8 := dkwX6_goesOn_19 ++ dktX6_goesOn_20
def dkwX6_goesOn_18 : List UInt8 := [182, 1, 113, 3, 172, 28, 6, 160, 0, 53, 42, 16, 44, 182, 1, 27, 154, 0, 12, 42, 4, 42]
abbrev dktX6_goesOn_18 : List UInt8 := dkwX6_goesOn_18 ++ dktX6_goesOn_19
def dkwX6_goesOn_17 : List UInt8 := [4, 42, 180, 0, 23, 182, 1, 23, 28, 5, 162, 0, 17, 42, 180, 0, 36, 154, 0, 8, 42, 4]
abbrev dktX6_goesOn_17 : List UInt8 := dkwX6_goesOn_17 ++ dktX6_goesOn_18
def dkwX6_goesOn_16 : List UInt8 := [182, 1, 30, 42, 3, 181, 0, 167, 4, 172, 29, 153, 0, 21, 42, 180, 0, 143, 27, 46, 154, 0, 12, 42]
abbrev dktX6_goesOn_16 : List UInt8 := dkwX6_goesOn_16 ++ dktX6_goesOn_17
def dkwX6_goesOn_15 : List UInt8 := [167, 0, 5, 16, 21, 182, 1, 107, 42, 180, 0, 143, 27, 3, 79, 42, 180, 0, 146, 27, 4, 84, 42]
abbrev dktX6_goesOn_15 : List UInt8 := dkwX6_goesOn_15 ++ dktX6_goesOn_16
def dkwX6_goesOn_14 : List UInt8 := [54, 4, 42, 21, 4, 153, 0, 7, 5, 167, 0, 4, 4, 182, 1, 113, 42, 21, 4, 153, 0, 8, 16, 20]
abbrev dktX6_goesOn_14 : List UInt8 := dkwX6_goesOn_14 ++ dktX6_goesOn_15
def dkwX6_goesOn_13 : List UInt8 := [42, 180, 0, 23, 182, 1, 23, 42, 180, 0, 36, 158, 0, 5, 3, 172, 42, 20, 1, 73, 182, 1, 103]
abbrev dktX6_goesOn_13 : List UInt8 := dkwX6_goesOn_13 ++ dktX6_goesOn_14
def dkwX6_goesOn_12 : List UInt8 := [154, 0, 13, 42, 20, 1, 71, 182, 1, 103, 153, 0, 94, 42, 180, 0, 143, 27, 46, 154, 0, 12, 42, 4]
abbrev dktX6_goesOn_12 : List UInt8 := dkwX6_goesOn_12 ++ dktX6_goesOn_13
def dkwX6_goesOn_11 : List UInt8 := [79, 42, 182, 1, 30, 42, 3, 181, 0, 167, 4, 172, 29, 153, 0, 114, 42, 20, 1, 73, 182, 1, 103]
abbrev dktX6_goesOn_11 : List UInt8 := dkwX6_goesOn_11 ++ dktX6_goesOn_12
def dkwX6_goesOn_10 : List UInt8 := [16, 62, 182, 1, 27, 153, 0, 8, 16, 18, 167, 0, 5, 16, 19, 182, 1, 107, 42, 180, 0, 143, 27, 4]
abbrev dktX6_goesOn_10 : List UInt8 := dkwX6_goesOn_10 ++ dktX6_goesOn_11
def dkwX6_goesOn_9 : List UInt8 := [153, 0, 60, 42, 8, 182, 1, 113, 42, 42, 16, 60, 182, 1, 27, 153, 0, 8, 16, 17, 167, 0, 19, 42]
abbrev dktX6_goesOn_9 : List UInt8 := dkwX6_goesOn_9 ++ dktX6_goesOn_10
def dkwX6_goesOn_8 : List UInt8 := [16, 60, 182, 1, 27, 154, 0, 21, 42, 16, 62, 182, 1, 27, 154, 0, 12, 42, 16, 61, 182, 1, 27]
abbrev dktX6_goesOn_8 : List UInt8 := dkwX6_goesOn_8 ++ dktX6_goesOn_9
def dkwX6_goesOn_7 : List UInt8 := [182, 1, 30, 42, 3, 181, 0, 167, 4, 172, 29, 153, 0, 96, 42, 180, 0, 143, 27, 46, 154, 0, 87, 42]
abbrev dktX6_goesOn_7 : List UInt8 := dkwX6_goesOn_7 ++ dktX6_goesOn_8
def dkwX6_goesOn_6 : List UInt8 := [167, 0, 19, 42, 16, 47, 182, 1, 27, 153, 0, 8, 16, 13, 167, 0, 5, 16, 14, 182, 1, 107, 42]
abbrev dktX6_goesOn_6 : List UInt8 := dkwX6_goesOn_6 ++ dktX6_goesOn_7
def dkwX6_goesOn_5 : List UInt8 := [16, 45, 182, 1, 27, 153, 0, 8, 16, 11, 167, 0, 33, 42, 16, 42, 182, 1, 27, 153, 0, 8, 16, 12]
abbrev dktX6_goesOn_5 : List UInt8 := dkwX6_goesOn_5 ++ dktX6_goesOn_6
def dkwX6_goesOn_4 : List UInt8 := [167, 0, 5, 16, 6, 182, 1, 113, 42, 42, 16, 43, 182, 1, 27, 153, 0, 8, 16, 10, 167, 0, 47, 42]
abbrev dktX6_goesOn_4 : List UInt8 := dkwX6_goesOn_4 ++ dktX6_goesOn_5
def dkwX6_goesOn_3 : List UInt8 := [153, 0, 104, 42, 42, 16, 43, 182, 1, 27, 154, 0, 12, 42, 16, 45, 182, 1, 27, 153, 0, 7, 8]
abbrev dktX6_goesOn_3 : List UInt8 := dkwX6_goesOn_3 ++ dktX6_goesOn_4
def dkwX6_goesOn_2 : List UInt8 := [16, 42, 182, 1, 27, 154, 0, 21, 42, 16, 47, 182, 1, 27, 154, 0, 12, 42, 16, 37, 182, 1, 27]
abbrev dktX6_goesOn_2 : List UInt8 := dkwX6_goesOn_2 ++ dktX6_goesOn_3
def dkwX6_goesOn_1 : List UInt8 := [46, 5, 162, 0, 149, 42, 16, 43, 182, 1, 27, 154, 0, 39, 42, 16, 45, 182, 1, 27, 154, 0, 30, 42]
abbrev dktX6_goesOn_1 : List UInt8 := dkwX6_goesOn_1 ++ dktX6_goesOn_2
def dkwX6_goesOn_0 : List UInt8 := [42, 180, 0, 155, 4, 100, 60, 42, 180, 0, 140, 27, 46, 61, 28, 184, 1, 100, 62, 42, 180, 0, 143, 27]
abbrev dktX6_goesOn_0 : List UInt8 := dkwX6_goesOn_0 ++ dktX6_goesOn_1
theorem dksX6_goesOn_0 : cX6_goesOn.data.toList.drop 0 = dktX6_goesOn_0 := by decide +kernel
theorem dksX6_goesOn_1 : cX6_goesOn.data.toList.drop 24 = dktX6_goesOn_1 := dk_seg dksX6_goesOn_0 24 rfl rfl
theorem dksX6_goesOn_2 : cX6_goesOn.data.toList.drop 48 = dktX6_goesOn_2 := dk_seg dksX6_goesOn_1 24 rfl rfl
theorem dksX6_goesOn_3 : cX6_goesOn.data.toList.drop 71 = dktX6_goesOn_3 := dk_seg dksX6_goesOn_2 23 rfl rfl
theorem dksX6_goesOn_4 : cX6_goesOn.data.toList.drop 94 = dktX6_goesOn_4 := dk_seg dksX6_goesOn_3 23 rfl rfl
theorem dksX6_goesOn_5 : cX6_goesOn.data.toList.drop 118 = dktX6_goesOn_5 := dk_seg dksX6_goesOn_4 24 rfl rfl
theorem dksX6_goesOn_6 : cX6_goesOn.data.toList.drop 142 = dktX6_goesOn_6 := dk_seg dksX6_goesOn_5 24 rfl rfl
theorem dksX6_goesOn_7 : cX6_goesOn.data.toList.drop 165 = dktX6_goesOn_7 := dk_seg dksX6_goesOn_6 23 rfl rfl
theorem dksX6_goesOn_8 : cX6_goesOn.data.toList.drop 189 = dktX6_goesOn_8 := dk_seg dksX6_goesOn_7 24 rfl rfl
theorem dksX6_goesOn_9 : cX6_goesOn.data.toList.drop 212 = dktX6_goesOn_9 := dk_seg dksX6_goesOn_8 23 rfl rfl
theorem dksX6_goesOn_10 : cX6_goesOn.data.toList.drop 236 = dktX6_goesOn_10 := dk_seg dksX6_goesOn_9 24 rfl rfl
theorem dksX6_goesOn_11 : cX6_goesOn.data.toList.drop 260 = dktX6_goesOn_11 := dk_seg dksX6_goesOn_10 24 rfl rfl
theorem dksX6_goesOn_12 : cX6_goesOn.data.toList.drop 283 = dktX6_goesOn_12 := dk_seg dksX6_goesOn_11 23 rfl rfl
theorem dksX6_goesOn_13 : cX6_goesOn.data.toList.drop 307 = dktX6_goesOn_13 := dk_seg dksX6_goesOn_12 24 rfl rfl
theorem dksX6_goesOn_14 : cX6_goesOn.data.toList.drop 330 = dktX6_goesOn_14 := dk_seg dksX6_goesOn_13 23 rfl rfl
theorem dksX6_goesOn_15 : cX6_goesOn.data.toList.drop 354 = dktX6_goesOn_15 := dk_seg dksX6_goesOn_14 24 rfl rfl
theorem dksX6_goesOn_16 : cX6_goesOn.data.toList.drop 377 = dktX6_goesOn_16 := dk_seg dksX6_goesOn_15 23 rfl rfl
theorem dksX6_goesOn_17 : cX6_goesOn.data.toList.drop 401 = dktX6_goesOn_17 := dk_seg dksX6_goesOn_16 24 rfl rfl
theorem dksX6_goesOn_18 : cX6_goesOn.data.toList.drop 423 = dktX6_goesOn_18 := dk_seg dksX6_goesOn_17 22 rfl rfl
theorem dksX6_goesOn_19 : cX6_goesOn.data.toList.drop 445 = dktX6_goesOn_19 := dk_seg dksX6_goesOn_18 22 rfl rfl
theorem dksX6_goesOn_20 : cX6_goesOn.data.toList.drop 469 = dktX6_goesOn_20 := dk_seg dksX6_goesOn_19 24 rfl rfl
theorem dksX6_goesOn_21 : cX6_goesOn.data.toList.drop 491 = dktX6_goesOn_21 := dk_seg dksX6_goesOn_20 22 rfl rfl
theorem dksX6_goesOn_22 : cX6_goesOn.data.toList.drop 515 = dktX6_goesOn_22 := dk_seg dksX6_goesOn_21 24 rfl rfl
theorem dksX6_goesOn_23 : cX6_goesOn.data.toList.drop 537 = dktX6_goesOn_23 := dk_seg dksX6_goesOn_22 22 rfl rfl
theorem dksX6_goesOn_24 : cX6_goesOn.data.toList.drop 561 = dktX6_goesOn_24 := dk_seg dksX6_goesOn_23 24 rfl rfl
theorem dX6_goesOn_0 : decode cX6_goesOn 0 = .ok (.aload_n 0, 1) := dk_42 (dk_at dksX6_goesOn_0 0 rfl rfl)
theorem dX6_goesOn_1 : decode cX6_goesOn 1 = .ok (.getfield 155, 3) := dk_180 0 155 (dk_at dksX6_goesOn_0 1 rfl rfl)
theorem dX6_goesOn_4 : decode cX6_goesOn 4 = .ok (.iconst 1, 1) := dk_4 (dk_at dksX6_goesOn_0 4 rfl rfl)
theorem dX6_goesOn_5 : decode cX6_goesOn 5 = .ok (.isub, 1) := dk_100 (dk_at dksX6_goesOn_0 5 rfl rfl)
theorem dX6_goesOn_6 : decode cX6_goesOn 6 = .ok (.istore_n 1, 1) := dk_60 (dk_at dksX6_goesOn_0 6 rfl rfl)
theorem dX6_goesOn_7 : decode cX6_goesOn 7 = .ok (.aload_n 0, 1) := dk_42 (dk_at dksX6_goesOn_0 7 rfl rfl)
theorem dX6_goesOn_8 : decode cX6_goesOn 8 = .ok (.getfield 140, 3) := dk_180 0 140 (dk_at dksX6_goesOn_0 8 rfl rfl)
theorem dX6_goesOn_11 : decode cX6_goesOn 11 = .ok (.iload_n 1, 1) := dk_27 (dk_at dksX6_goesOn_0 11 rfl rfl)
theorem dX6_goesOn_12 : decode cX6_goesOn 12 = .ok (.iaload, 1) := dk_46 (dk_at dksX6_goesOn_0 12 rfl rfl)
theorem dX6_goesOn_13 : decode cX6_goesOn 13 = .ok (.istore_n 2, 1) := dk_61 (dk_at dksX6_goesOn_0 13 rfl rfl)
theorem dX6_goesOn_14 : decode cX6_goesOn 14 = .ok (.iload_n 2, 1) := dk_28 (dk_at dksX6_goesOn_0 14 rfl rfl)
theorem dX6_goesOn_15 : decode cX6_goesOn 15 = .ok (.invokestatic 356, 3) := dk_184 1 100 (dk_at dksX6_goesOn_0 15 rfl rfl)
theorem dX6_goesOn_18 : decode cX6_goesOn 18 = .ok (.istore_n 3, 1) := dk_62 (dk_at dksX6_goesOn_0 18 rfl rfl)
theorem dX6_goesOn_19 : decode cX6_goesOn 19 = .ok (.aload_n 0, 1) := dk_42 (dk_at dksX6_goesOn_0 19 rfl rfl)
theorem dX6_goesOn_20 : decode cX6_goesOn 20 = .ok (.getfield 143, 3) := dk_180 0 143 (dk_at dksX6_goesOn_0 20 rfl rfl)
theorem dX6_goesOn_23 : decode cX6_goesOn 23 = .ok (.iload_n 1, 1) := dk_27 (dk_at dksX6_goesOn_0 23 rfl rfl)
theorem dX6_goesOn_24 : decode cX6_goesOn 24 = .ok (.iaload, 1) := dk_46 (dk_at dksX6_goesOn_1 0 rfl rfl)
theorem dX6_goesOn_25 : decode cX6_goesOn 25 = .ok (.iconst 2, 1) := dk_5 (dk_at dksX6_goesOn_1 1 rfl rfl)
theorem dX6_goesOn_26 : decode cX6_goesOn 26 = .ok (.if_icmp .ge 149, 3) := dk_162 0 149 (dk_at dksX6_goesOn_1 2 rfl rfl)
theorem dX6_goesOn_29 : decode cX6_goesOn 29 = .ok (.aload_n 0, 1) := dk_42 (dk_at dksX6_goesOn_1 5 rfl rfl)
theorem dX6_goesOn_30 : decode cX6_goesOn 30 = .ok (.bipush 43, 2) := dk_16 43 (dk_at dksX6_goesOn_1 6 rfl rfl)
theorem dX6_goesOn_32 : decode cX6_goesOn 32 = .ok (.invokevirtual 283, 3) := dk_182 1 27 (dk_at dksX6_goesOn_1 8 rfl rfl)
theorem dX6_goesOn_35 : decode cX6_goesOn 35 = .ok (.ifCond .ne 39, 3) := dk_154 0 39 (dk_at dksX6_goesOn_1 11 rfl rfl)
theorem dX6_goesOn_38 : decode cX6_goesOn 38 = .ok (.aload_n 0, 1) := dk_42 (dk_at dksX6_goesOn_1 14 rfl rfl)
theorem dX6_goesOn_39 : decode cX6_goesOn 39 = .ok (.bipush 45, 2) := dk_16 45 (dk_at dksX6_goesOn_1 15 rfl rfl)
theorem dX6_goesOn_41 : decode cX6_goesOn 41 = .ok (.invokevirtual 283, 3) := dk_182 1 27 (dk_at dksX6_goesOn_1 17 rfl rfl)
theorem dX6_goesOn_44 : decode cX6_goesOn 44 = .ok (.ifCond .ne 30, 3) := dk_154 0 30 (dk_at dksX6_goesOn_1 20 rfl rfl)
theorem dX6_goesOn_47 : decode cX6_goesOn 47 = .ok (.aload_n 0, 1) := dk_42 (dk_at dksX6_goesOn_1 23 rfl rfl)
theorem dX6_goesOn_48 : decode cX6_goesOn 48 = .ok (.bipush 42, 2) := dk_16 42 (dk_at dksX6_goesOn_2 0 rfl rfl)
theorem dX6_goesOn_50 : decode cX6_goesOn 50 = .ok (.invokevirtual 283, 3) := dk_182 1 27 (dk_at dksX6_goesOn_2 2 rfl rfl)
theorem dX6_goesOn_53 : decode cX6_goesOn 53 = .ok (.ifCond .ne 21, 3) := dk_154 0 21 (dk_at dksX6_goesOn_2 5 rfl rfl)
theorem dX6_goesOn_56 : decode cX6_goesOn 56 = .ok (.aload_n 0, 1) := dk_42 (dk_at dksX6_goesOn_2 8 rfl rfl)
theorem dX6_goesOn_57 : decode cX6_goesOn 57 = .ok (.bipush 47, 2) := dk_16 47 (dk_at dksX6_goesOn_2 9 rfl rfl)
theorem dX6_goesOn_59 : decode cX6_goesOn 59 = .ok (.invokevirtual 283, 3) := dk_182 1 27 (dk_at dksX6_goesOn_2 11 rfl rfl)
theorem dX6_goesOn_62 : decode cX6_goesOn 62 = .ok (.ifCond .ne 12, 3) := dk_154 0 12 (dk_at dksX6_goesOn_2 14 rfl rfl)
theorem dX6_goesOn_65 : decode cX6_goesOn 65 = .ok (.aload_n 0, 1) := dk_42 (dk_at dksX6_goesOn_2 17 rfl rfl)
theorem dX6_goesOn_66 : decode cX6_goesOn 66 = .ok (.bipush 37, 2) := dk_16 37 (dk_at dksX6_goesOn_2 18 rfl rfl)
theorem dX6_goesOn_68 : decode cX6_goesOn 68 = .ok (.invokevirtual 283, 3) := dk_182 1 27 (dk_at dksX6_goesOn_2 20 rfl rfl)
theorem dX6_goesOn_71 : decode cX6_goesOn 71 = .ok (.ifCond .eq 104, 3) := dk_153 0 104 (dk_at dksX6_goesOn_3 0 rfl rfl)
theorem dX6_goesOn_74 : decode cX6_goesOn 74 = .ok (.aload_n 0, 1) := dk_42 (dk_at dksX6_goesOn_3 3 rfl rfl)
theorem dX6_goesOn_75 : decode cX6_goesOn 75 = .ok (.aload_n 0, 1) := dk_42 (dk_at dksX6_goesOn_3 4 rfl rfl)
theorem dX6_goesOn_76 : decode cX6_goesOn 76 = .ok (.bipush 43, 2) := dk_16 43 (dk_at dksX6_goesOn_3 5 rfl rfl)
theorem dX6_goesOn_78 : decode cX6_goesOn 78 = .ok (.invokevirtual 283, 3) := dk_182 1 27 (dk_at dksX6_goesOn_3 7 rfl rfl)
theorem dX6_goesOn_81 : decode cX6_goesOn 81 = .ok (.ifCond .ne 12, 3) := dk_154 0 12 (dk_at dksX6_goesOn_3 10 rfl rfl)
theorem dX6_goesOn_84 : decode cX6_goesOn 84 = .ok (.aload_n 0, 1) := dk_42 (dk_at dksX6_goesOn_3 13 rfl rfl)
theorem dX6_goesOn_85 : decode cX6_goesOn 85 = .ok (.bipush 45, 2) := dk_16 45 (dk_at dksX6_goesOn_3 14 rfl rfl)
theorem dX6_goesOn_87 : decode cX6_goesOn 87 = .ok (.invokevirtual 283, 3) := dk_182 1 27 (dk_at dksX6_goesOn_3 16 rfl rfl)
theorem dX6_goesOn_90 : decode cX6_goesOn 90 = .ok (.ifCond .eq 7, 3) := dk_153 0 7 (dk_at dksX6_goesOn_3 19 rfl rfl)
theorem dX6_goesOn_93 : decode cX6_goesOn 93 = .ok (.iconst 5, 1) := dk_8 (dk_at dksX6_goesOn_3 22 rfl rfl)
theorem dX6_goesOn_94 : decode cX6_goesOn 94 = .ok (.goto 5, 3) := dk_167 0 5 (dk_at dksX6_goesOn_4 0 rfl rfl)
theorem dX6_goesOn_97 : decode cX6_goesOn 97 = .ok (.bipush 6, 2) := dk_16 6 (dk_at dksX6_goesOn_4 3 rfl rfl)
theorem dX6_goesOn_99 : decode cX6_goesOn 99 = .ok (.invokevirtual 369, 3) := dk_182 1 113 (dk_at dksX6_goesOn_4 5 rfl rfl)
theorem dX6_goesOn_102 : decode cX6_goesOn 102 = .ok (.aload_n 0, 1) := dk_42 (dk_at dksX6_goesOn_4 8 rfl rfl)
theorem dX6_goesOn_103 : decode cX6_goesOn 103 = .ok (.aload_n 0, 1) := dk_42 (dk_at dksX6_goesOn_4 9 rfl rfl)
theorem dX6_goesOn_104 : decode cX6_goesOn 104 = .ok (.bipush 43, 2) := dk_16 43 (dk_at dksX6_goesOn_4 10 rfl rfl)
theorem dX6_goesOn_106 : decode cX6_goesOn 106 = .ok (.invokevirtual 283, 3) := dk_182 1 27 (dk_at dksX6_goesOn_4 12 rfl rfl)
theorem dX6_goesOn_109 : decode cX6_goesOn 109 = .ok (.ifCond .eq 8, 3) := dk_153 0 8 (dk_at dksX6_goesOn_4 15 rfl rfl)
theorem dX6_goesOn_112 : decode cX6_goesOn 112 = .ok (.bipush 10, 2) := dk_16 10 (dk_at dksX6_goesOn_4 18 rfl rfl)
theorem dX6_goesOn_114 : decode cX6_goesOn 114 = .ok (.goto 47, 3) := dk_167 0 47 (dk_at dksX6_goesOn_4 20 rfl rfl)
theorem dX6_goesOn_117 : decode cX6_goesOn 117 = .ok (.aload_n 0, 1) := dk_42 (dk_at dksX6_goesOn_4 23 rfl rfl)
theorem dX6_goesOn_118 : decode cX6_goesOn 118 = .ok (.bipush 45, 2) := dk_16 45 (dk_at dksX6_goesOn_5 0 rfl rfl)
theorem dX6_goesOn_120 : decode cX6_goesOn 120 = .ok (.invokevirtual 283, 3) := dk_182 1 27 (dk_at dksX6_goesOn_5 2 rfl rfl)
theorem dX6_goesOn_123 : decode cX6_goesOn 123 = .ok (.ifCond .eq 8, 3) := dk_153 0 8 (dk_at dksX6_goesOn_5 5 rfl rfl)
theorem dX6_goesOn_126 : decode cX6_goesOn 126 = .ok (.bipush 11, 2) := dk_16 11 (dk_at dksX6_goesOn_5 8 rfl rfl)
theorem dX6_goesOn_128 : decode cX6_goesOn 128 = .ok (.goto 33, 3) := dk_167 0 33 (dk_at dksX6_goesOn_5 10 rfl rfl)
theorem dX6_goesOn_131 : decode cX6_goesOn 131 = .ok (.aload_n 0, 1) := dk_42 (dk_at dksX6_goesOn_5 13 rfl rfl)
theorem dX6_goesOn_132 : decode cX6_goesOn 132 = .ok (.bipush 42, 2) := dk_16 42 (dk_at dksX6_goesOn_5 14 rfl rfl)
theorem dX6_goesOn_134 : decode cX6_goesOn 134 = .ok (.invokevirtual 283, 3) := dk_182 1 27 (dk_at dksX6_goesOn_5 16 rfl rfl)
theorem dX6_goesOn_137 : decode cX6_goesOn 137 = .ok (.ifCond .eq 8, 3) := dk_153 0 8 (dk_at dksX6_goesOn_5 19 rfl rfl)
theorem dX6_goesOn_140 : decode cX6_goesOn 140 = .ok (.bipush 12, 2) := dk_16 12 (dk_at dksX6_goesOn_5 22 rfl rfl)
theorem dX6_goesOn_142 : decode cX6_goesOn 142 = .ok (.goto 19, 3) := dk_167 0 19 (dk_at dksX6_goesOn_6 0 rfl rfl)
theorem dX6_goesOn_145 : decode cX6_goesOn 145 = .ok (.aload_n 0, 1) := dk_42 (dk_at dksX6_goesOn_6 3 rfl rfl)
theorem dX6_goesOn_146 : decode cX6_goesOn 146 = .ok (.bipush 47, 2) := dk_16 47 (dk_at dksX6_goesOn_6 4 rfl rfl)
theorem dX6_goesOn_148 : decode cX6_goesOn 148 = .ok (.invokevirtual 283, 3) := dk_182 1 27 (dk_at dksX6_goesOn_6 6 rfl rfl)
theorem dX6_goesOn_151 : decode cX6_goesOn 151 = .ok (.ifCond .eq 8, 3) := dk_153 0 8 (dk_at dksX6_goesOn_6 9 rfl rfl)
theorem dX6_goesOn_154 : decode cX6_goesOn 154 = .ok (.bipush 13, 2) := dk_16 13 (dk_at dksX6_goesOn_6 12 rfl rfl)
theorem dX6_goesOn_156 : decode cX6_goesOn 156 = .ok (.goto 5, 3) := dk_167 0 5 (dk_at dksX6_goesOn_6 14 rfl rfl)
theorem dX6_goesOn_159 : decode cX6_goesOn 159 = .ok (.bipush 14, 2) := dk_16 14 (dk_at dksX6_goesOn_6 17 rfl rfl)
theorem dX6_goesOn_161 : decode cX6_goesOn 161 = .ok (.invokevirtual 363, 3) := dk_182 1 107 (dk_at dksX6_goesOn_6 19 rfl rfl)
theorem dX6_goesOn_164 : decode cX6_goesOn 164 = .ok (.aload_n 0, 1) := dk_42 (dk_at dksX6_goesOn_6 22 rfl rfl)
theorem dX6_goesOn_165 : decode cX6_goesOn 165 = .ok (.invokevirtual 286, 3) := dk_182 1 30 (dk_at dksX6_goesOn_7 0 rfl rfl)
theorem dX6_goesOn_168 : decode cX6_goesOn 168 = .ok (.aload_n 0, 1) := dk_42 (dk_at dksX6_goesOn_7 3 rfl rfl)
theorem dX6_goesOn_169 : decode cX6_goesOn 169 = .ok (.iconst 0, 1) := dk_3 (dk_at dksX6_goesOn_7 4 rfl rfl)
theorem dX6_goesOn_170 : decode cX6_goesOn 170 = .ok (.putfield 167, 3) := dk_181 0 167 (dk_at dksX6_goesOn_7 5 rfl rfl)
theorem dX6_goesOn_173 : decode cX6_goesOn 173 = .ok (.iconst 1, 1) := dk_4 (dk_at dksX6_goesOn_7 8 rfl rfl)
theorem dX6_goesOn_174 : decode cX6_goesOn 174 = .ok (.ireturn, 1) := dk_172 (dk_at dksX6_goesOn_7 9 rfl rfl)
theorem dX6_goesOn_175 : decode cX6_goesOn 175 = .ok (.iload_n 3, 1) := dk_29 (dk_at dksX6_goesOn_7 10 rfl rfl)
theorem dX6_goesOn_176 : decode cX6_goesOn 176 = .ok (.ifCond .eq 96, 3) := dk_153 0 96 (dk_at dksX6_goesOn_7 11 rfl rfl)
theorem dX6_goesOn_179 : decode cX6_goesOn 179 = .ok (.aload_n 0, 1) := dk_42 (dk_at dksX6_goesOn_7 14 rfl rfl)
theorem dX6_goesOn_180 : decode cX6_goesOn 180 = .ok (.getfield 143, 3) := dk_180 0 143 (dk_at dksX6_goesOn_7 15 rfl rfl)
theorem dX6_goesOn_183 : decode cX6_goesOn 183 = .ok (.iload_n 1, 1) := dk_27 (dk_at dksX6_goesOn_7 18 rfl rfl)
theorem dX6_goesOn_184 : decode cX6_goesOn 184 = .ok (.iaload, 1) := dk_46 (dk_at dksX6_goesOn_7 19 rfl rfl)
theorem dX6_goesOn_185 : decode cX6_goesOn 185 = .ok (.ifCond .ne 87, 3) := dk_154 0 87 (dk_at dksX6_goesOn_7 20 rfl rfl)
theorem dX6_goesOn_188 : decode cX6_goesOn 188 = .ok (.aload_n 0, 1) := dk_42 (dk_at dksX6_goesOn_7 23 rfl rfl)
theorem dX6_goesOn_189 : decode cX6_goesOn 189 = .ok (.bipush 60, 2) := dk_16 60 (dk_at dksX6_goesOn_8 0 rfl rfl)
theorem dX6_goesOn_191 : decode cX6_goesOn 191 = .ok (.invokevirtual 283, 3) := dk_182 1 27 (dk_at dksX6_goesOn_8 2 rfl rfl)
theorem dX6_goesOn_194 : decode cX6_goesOn 194 = .ok (.ifCond .ne 21, 3) := dk_154 0 21 (dk_at dksX6_goesOn_8 5 rfl rfl)
theorem dX6_goesOn_197 : decode cX6_goesOn 197 = .ok (.aload_n 0, 1) := dk_42 (dk_at dksX6_goesOn_8 8 rfl rfl)
theorem dX6_goesOn_198 : decode cX6_goesOn 198 = .ok (.bipush 62, 2) := dk_16 62 (dk_at dksX6_goesOn_8 9 rfl rfl)
theorem dX6_goesOn_200 : decode cX6_goesOn 200 = .ok (.invokevirtual 283, 3) := dk_182 1 27 (dk_at dksX6_goesOn_8 11 rfl rfl)
theorem dX6_goesOn_203 : decode cX6_goesOn 203 = .ok (.ifCond .ne 12, 3) := dk_154 0 12 (dk_at dksX6_goesOn_8 14 rfl rfl)
theorem dX6_goesOn_206 : decode cX6_goesOn 206 = .ok (.aload_n 0, 1) := dk_42 (dk_at dksX6_goesOn_8 17 rfl rfl)
theorem dX6_goesOn_207 : decode cX6_goesOn 207 = .ok (.bipush 61, 2) := dk_16 61 (dk_at dksX6_goesOn_8 18 rfl rfl)
theorem dX6_goesOn_209 : decode cX6_goesOn 209 = .ok (.invokevirtual 283, 3) := dk_182 1 27 (dk_at dksX6_goesOn_8 20 rfl rfl)
theorem dX6_goesOn_212 : decode cX6_goesOn 212 = .ok (.ifCond .eq 60, 3) := dk_153 0 60 (dk_at dksX6_goesOn_9 0 rfl rfl)
theorem dX6_goesOn_215 : decode cX6_goesOn 215 = .ok (.aload_n 0, 1) := dk_42 (dk_at dksX6_goesOn_9 3 rfl rfl)
theorem dX6_goesOn_216 : decode cX6_goesOn 216 = .ok (.iconst 5, 1) := dk_8 (dk_at dksX6_goesOn_9 4 rfl rfl)
theorem dX6_goesOn_217 : decode cX6_goesOn 217 = .ok (.invokevirtual 369, 3) := dk_182 1 113 (dk_at dksX6_goesOn_9 5 rfl rfl)
theorem dX6_goesOn_220 : decode cX6_goesOn 220 = .ok (.aload_n 0, 1) := dk_42 (dk_at dksX6_goesOn_9 8 rfl rfl)
theorem dX6_goesOn_221 : decode cX6_goesOn 221 = .ok (.aload_n 0, 1) := dk_42 (dk_at dksX6_goesOn_9 9 rfl rfl)
theorem dX6_goesOn_222 : decode cX6_goesOn 222 = .ok (.bipush 60, 2) := dk_16 60 (dk_at dksX6_goesOn_9 10 rfl rfl)
theorem dX6_goesOn_224 : decode cX6_goesOn 224 = .ok (.invokevirtual 283, 3) := dk_182 1 27 (dk_at dksX6_goesOn_9 12 rfl rfl)
theorem dX6_goesOn_227 : decode cX6_goesOn 227 = .ok (.ifCond .eq 8, 3) := dk_153 0 8 (dk_at dksX6_goesOn_9 15 rfl rfl)
theorem dX6_goesOn_230 : decode cX6_goesOn 230 = .ok (.bipush 17, 2) := dk_16 17 (dk_at dksX6_goesOn_9 18 rfl rfl)
theorem dX6_goesOn_232 : decode cX6_goesOn 232 = .ok (.goto 19, 3) := dk_167 0 19 (dk_at dksX6_goesOn_9 20 rfl rfl)
theorem dX6_goesOn_235 : decode cX6_goesOn 235 = .ok (.aload_n 0, 1) := dk_42 (dk_at dksX6_goesOn_9 23 rfl rfl)
theorem dX6_goesOn_236 : decode cX6_goesOn 236 = .ok (.bipush 62, 2) := dk_16 62 (dk_at dksX6_goesOn_10 0 rfl rfl)
theorem dX6_goesOn_238 : decode cX6_goesOn 238 = .ok (.invokevirtual 283, 3) := dk_182 1 27 (dk_at dksX6_goesOn_10 2 rfl rfl)
theorem dX6_goesOn_241 : decode cX6_goesOn 241 = .ok (.ifCond .eq 8, 3) := dk_153 0 8 (dk_at dksX6_goesOn_10 5 rfl rfl)
theorem dX6_goesOn_244 : decode cX6_goesOn 244 = .ok (.bipush 18, 2) := dk_16 18 (dk_at dksX6_goesOn_10 8 rfl rfl)
theorem dX6_goesOn_246 : decode cX6_goesOn 246 = .ok (.goto 5, 3) := dk_167 0 5 (dk_at dksX6_goesOn_10 10 rfl rfl)
theorem dX6_goesOn_249 : decode cX6_goesOn 249 = .ok (.bipush 19, 2) := dk_16 19 (dk_at dksX6_goesOn_10 13 rfl rfl)
theorem dX6_goesOn_251 : decode cX6_goesOn 251 = .ok (.invokevirtual 363, 3) := dk_182 1 107 (dk_at dksX6_goesOn_10 15 rfl rfl)
theorem dX6_goesOn_254 : decode cX6_goesOn 254 = .ok (.aload_n 0, 1) := dk_42 (dk_at dksX6_goesOn_10 18 rfl rfl)
theorem dX6_goesOn_255 : decode cX6_goesOn 255 = .ok (.getfield 143, 3) := dk_180 0 143 (dk_at dksX6_goesOn_10 19 rfl rfl)
theorem dX6_goesOn_258 : decode cX6_goesOn 258 = .ok (.iload_n 1, 1) := dk_27 (dk_at dksX6_goesOn_10 22 rfl rfl)
theorem dX6_goesOn_259 : decode cX6_goesOn 259 = .ok (.iconst 1, 1) := dk_4 (dk_at dksX6_goesOn_10 23 rfl rfl)
theorem dX6_goesOn_260 : decode cX6_goesOn 260 = .ok (.iastore, 1) := dk_79 (dk_at dksX6_goesOn_11 0 rfl rfl)
theorem dX6_goesOn_261 : decode cX6_goesOn 261 = .ok (.aload_n 0, 1) := dk_42 (dk_at dksX6_goesOn_11 1 rfl rfl)
theorem dX6_goesOn_262 : decode cX6_goesOn 262 = .ok (.invokevirtual 286, 3) := dk_182 1 30 (dk_at dksX6_goesOn_11 2 rfl rfl)
theorem dX6_goesOn_265 : decode cX6_goesOn 265 = .ok (.aload_n 0, 1) := dk_42 (dk_at dksX6_goesOn_11 5 rfl rfl)
theorem dX6_goesOn_266 : decode cX6_goesOn 266 = .ok (.iconst 0, 1) := dk_3 (dk_at dksX6_goesOn_11 6 rfl rfl)
theorem dX6_goesOn_267 : decode cX6_goesOn 267 = .ok (.putfield 167, 3) := dk_181 0 167 (dk_at dksX6_goesOn_11 7 rfl rfl)
theorem dX6_goesOn_270 : decode cX6_goesOn 270 = .ok (.iconst 1, 1) := dk_4 (dk_at dksX6_goesOn_11 10 rfl rfl)
theorem dX6_goesOn_271 : decode cX6_goesOn 271 = .ok (.ireturn, 1) := dk_172 (dk_at dksX6_goesOn_11 11 rfl rfl)
theorem dX6_goesOn_272 : decode cX6_goesOn 272 = .ok (.iload_n 3, 1) := dk_29 (dk_at dksX6_goesOn_11 12 rfl rfl)
theorem dX6_goesOn_273 : decode cX6_goesOn 273 = .ok (.ifCond .eq 114, 3) := dk_153 0 114 (dk_at dksX6_goesOn_11 13 rfl rfl)
theorem dX6_goesOn_276 : decode cX6_goesOn 276 = .ok (.aload_n 0, 1) := dk_42 (dk_at dksX6_goesOn_11 16 rfl rfl)
theorem dX6_goesOn_277 : decode cX6_goesOn 277 = .ok (.ldc2_w 329, 3) := dk_20 1 73 (dk_at dksX6_goesOn_11 17 rfl rfl)
theorem dX6_goesOn_280 : decode cX6_goesOn 280 = .ok (.invokevirtual 359, 3) := dk_182 1 103 (dk_at dksX6_goesOn_11 20 rfl rfl)
theorem dX6_goesOn_283 : decode cX6_goesOn 283 = .ok (.ifCond .ne 13, 3) := dk_154 0 13 (dk_at dksX6_goesOn_12 0 rfl rfl)
theorem dX6_goesOn_286 : decode cX6_goesOn 286 = .ok (.aload_n 0, 1) := dk_42 (dk_at dksX6_goesOn_12 3 rfl rfl)
theorem dX6_goesOn_287 : decode cX6_goesOn 287 = .ok (.ldc2_w 327, 3) := dk_20 1 71 (dk_at dksX6_goesOn_12 4 rfl rfl)
theorem dX6_goesOn_290 : decode cX6_goesOn 290 = .ok (.invokevirtual 359, 3) := dk_182 1 103 (dk_at dksX6_goesOn_12 7 rfl rfl)
theorem dX6_goesOn_293 : decode cX6_goesOn 293 = .ok (.ifCond .eq 94, 3) := dk_153 0 94 (dk_at dksX6_goesOn_12 10 rfl rfl)
theorem dX6_goesOn_296 : decode cX6_goesOn 296 = .ok (.aload_n 0, 1) := dk_42 (dk_at dksX6_goesOn_12 13 rfl rfl)
theorem dX6_goesOn_297 : decode cX6_goesOn 297 = .ok (.getfield 143, 3) := dk_180 0 143 (dk_at dksX6_goesOn_12 14 rfl rfl)
theorem dX6_goesOn_300 : decode cX6_goesOn 300 = .ok (.iload_n 1, 1) := dk_27 (dk_at dksX6_goesOn_12 17 rfl rfl)
theorem dX6_goesOn_301 : decode cX6_goesOn 301 = .ok (.iaload, 1) := dk_46 (dk_at dksX6_goesOn_12 18 rfl rfl)
theorem dX6_goesOn_302 : decode cX6_goesOn 302 = .ok (.ifCond .ne 12, 3) := dk_154 0 12 (dk_at dksX6_goesOn_12 19 rfl rfl)
theorem dX6_goesOn_305 : decode cX6_goesOn 305 = .ok (.aload_n 0, 1) := dk_42 (dk_at dksX6_goesOn_12 22 rfl rfl)
theorem dX6_goesOn_306 : decode cX6_goesOn 306 = .ok (.iconst 1, 1) := dk_4 (dk_at dksX6_goesOn_12 23 rfl rfl)
theorem dX6_goesOn_307 : decode cX6_goesOn 307 = .ok (.aload_n 0, 1) := dk_42 (dk_at dksX6_goesOn_13 0 rfl rfl)
theorem dX6_goesOn_308 : decode cX6_goesOn 308 = .ok (.getfield 23, 3) := dk_180 0 23 (dk_at dksX6_goesOn_13 1 rfl rfl)
theorem dX6_goesOn_311 : decode cX6_goesOn 311 = .ok (.invokevirtual 279, 3) := dk_182 1 23 (dk_at dksX6_goesOn_13 4 rfl rfl)
theorem dX6_goesOn_314 : decode cX6_goesOn 314 = .ok (.aload_n 0, 1) := dk_42 (dk_at dksX6_goesOn_13 7 rfl rfl)
theorem dX6_goesOn_315 : decode cX6_goesOn 315 = .ok (.getfield 36, 3) := dk_180 0 36 (dk_at dksX6_goesOn_13 8 rfl rfl)
theorem dX6_goesOn_318 : decode cX6_goesOn 318 = .ok (.ifCond .le 5, 3) := dk_158 0 5 (dk_at dksX6_goesOn_13 11 rfl rfl)
theorem dX6_goesOn_321 : decode cX6_goesOn 321 = .ok (.iconst 0, 1) := dk_3 (dk_at dksX6_goesOn_13 14 rfl rfl)
theorem dX6_goesOn_322 : decode cX6_goesOn 322 = .ok (.ireturn, 1) := dk_172 (dk_at dksX6_goesOn_13 15 rfl rfl)
theorem dX6_goesOn_323 : decode cX6_goesOn 323 = .ok (.aload_n 0, 1) := dk_42 (dk_at dksX6_goesOn_13 16 rfl rfl)
theorem dX6_goesOn_324 : decode cX6_goesOn 324 = .ok (.ldc2_w 329, 3) := dk_20 1 73 (dk_at dksX6_goesOn_13 17 rfl rfl)
theorem dX6_goesOn_327 : decode cX6_goesOn 327 = .ok (.invokevirtual 359, 3) := dk_182 1 103 (dk_at dksX6_goesOn_13 20 rfl rfl)
theorem dX6_goesOn_330 : decode cX6_goesOn 330 = .ok (.istore 4, 2) := dk_54 4 (dk_at dksX6_goesOn_14 0 rfl rfl)
theorem dX6_goesOn_332 : decode cX6_goesOn 332 = .ok (.aload_n 0, 1) := dk_42 (dk_at dksX6_goesOn_14 2 rfl rfl)
theorem dX6_goesOn_333 : decode cX6_goesOn 333 = .ok (.iload 4, 2) := dk_21 4 (dk_at dksX6_goesOn_14 3 rfl rfl)
theorem dX6_goesOn_335 : decode cX6_goesOn 335 = .ok (.ifCond .eq 7, 3) := dk_153 0 7 (dk_at dksX6_goesOn_14 5 rfl rfl)
theorem dX6_goesOn_338 : decode cX6_goesOn 338 = .ok (.iconst 2, 1) := dk_5 (dk_at dksX6_goesOn_14 8 rfl rfl)
theorem dX6_goesOn_339 : decode cX6_goesOn 339 = .ok (.goto 4, 3) := dk_167 0 4 (dk_at dksX6_goesOn_14 9 rfl rfl)
theorem dX6_goesOn_342 : decode cX6_goesOn 342 = .ok (.iconst 1, 1) := dk_4 (dk_at dksX6_goesOn_14 12 rfl rfl)
theorem dX6_goesOn_343 : decode cX6_goesOn 343 = .ok (.invokevirtual 369, 3) := dk_182 1 113 (dk_at dksX6_goesOn_14 13 rfl rfl)
theorem dX6_goesOn_346 : decode cX6_goesOn 346 = .ok (.aload_n 0, 1) := dk_42 (dk_at dksX6_goesOn_14 16 rfl rfl)
theorem dX6_goesOn_347 : decode cX6_goesOn 347 = .ok (.iload 4, 2) := dk_21 4 (dk_at dksX6_goesOn_14 17 rfl rfl)
theorem dX6_goesOn_349 : decode cX6_goesOn 349 = .ok (.ifCond .eq 8, 3) := dk_153 0 8 (dk_at dksX6_goesOn_14 19 rfl rfl)
theorem dX6_goesOn_352 : decode cX6_goesOn 352 = .ok (.bipush 20, 2) := dk_16 20 (dk_at dksX6_goesOn_14 22 rfl rfl)
theorem dX6_goesOn_354 : decode cX6_goesOn 354 = .ok (.goto 5, 3) := dk_167 0 5 (dk_at dksX6_goesOn_15 0 rfl rfl)
theorem dX6_goesOn_357 : decode cX6_goesOn 357 = .ok (.bipush 21, 2) := dk_16 21 (dk_at dksX6_goesOn_15 3 rfl rfl)
theorem dX6_goesOn_359 : decode cX6_goesOn 359 = .ok (.invokevirtual 363, 3) := dk_182 1 107 (dk_at dksX6_goesOn_15 5 rfl rfl)
theorem dX6_goesOn_362 : decode cX6_goesOn 362 = .ok (.aload_n 0, 1) := dk_42 (dk_at dksX6_goesOn_15 8 rfl rfl)
theorem dX6_goesOn_363 : decode cX6_goesOn 363 = .ok (.getfield 143, 3) := dk_180 0 143 (dk_at dksX6_goesOn_15 9 rfl rfl)
theorem dX6_goesOn_366 : decode cX6_goesOn 366 = .ok (.iload_n 1, 1) := dk_27 (dk_at dksX6_goesOn_15 12 rfl rfl)
theorem dX6_goesOn_367 : decode cX6_goesOn 367 = .ok (.iconst 0, 1) := dk_3 (dk_at dksX6_goesOn_15 13 rfl rfl)
theorem dX6_goesOn_368 : decode cX6_goesOn 368 = .ok (.iastore, 1) := dk_79 (dk_at dksX6_goesOn_15 14 rfl rfl)
theorem dX6_goesOn_369 : decode cX6_goesOn 369 = .ok (.aload_n 0, 1) := dk_42 (dk_at dksX6_goesOn_15 15 rfl rfl)
theorem dX6_goesOn_370 : decode cX6_goesOn 370 = .ok (.getfield 146, 3) := dk_180 0 146 (dk_at dksX6_goesOn_15 16 rfl rfl)
theorem dX6_goesOn_373 : decode cX6_goesOn 373 = .ok (.iload_n 1, 1) := dk_27 (dk_at dksX6_goesOn_15 19 rfl rfl)
theorem dX6_goesOn_374 : decode cX6_goesOn 374 = .ok (.iconst 1, 1) := dk_4 (dk_at dksX6_goesOn_15 20 rfl rfl)
theorem dX6_goesOn_375 : decode cX6_goesOn 375 = .ok (.bastore, 1) := dk_84 (dk_at dksX6_goesOn_15 21 rfl rfl)
theorem dX6_goesOn_376 : decode cX6_goesOn 376 = .ok (.aload_n 0, 1) := dk_42 (dk_at dksX6_goesOn_15 22 rfl rfl)
theorem dX6_goesOn_377 : decode cX6_goesOn 377 = .ok (.invokevirtual 286, 3) := dk_182 1 30 (dk_at dksX6_goesOn_16 0 rfl rfl)
theorem dX6_goesOn_380 : decode cX6_goesOn 380 = .ok (.aload_n 0, 1) := dk_42 (dk_at dksX6_goesOn_16 3 rfl rfl)
theorem dX6_goesOn_381 : decode cX6_goesOn 381 = .ok (.iconst 0, 1) := dk_3 (dk_at dksX6_goesOn_16 4 rfl rfl)
theorem dX6_goesOn_382 : decode cX6_goesOn 382 = .ok (.putfield 167, 3) := dk_181 0 167 (dk_at dksX6_goesOn_16 5 rfl rfl)
theorem dX6_goesOn_385 : decode cX6_goesOn 385 = .ok (.iconst 1, 1) := dk_4 (dk_at dksX6_goesOn_16 8 rfl rfl)
theorem dX6_goesOn_386 : decode cX6_goesOn 386 = .ok (.ireturn, 1) := dk_172 (dk_at dksX6_goesOn_16 9 rfl rfl)
theorem dX6_goesOn_387 : decode cX6_goesOn 387 = .ok (.iload_n 3, 1) := dk_29 (dk_at dksX6_goesOn_16 10 rfl rfl)
theorem dX6_goesOn_388 : decode cX6_goesOn 388 = .ok (.ifCond .eq 21, 3) := dk_153 0 21 (dk_at dksX6_goesOn_16 11 rfl rfl)
theorem dX6_goesOn_391 : decode cX6_goesOn 391 = .ok (.aload_n 0, 1) := dk_42 (dk_at dksX6_goesOn_16 14 rfl rfl)
theorem dX6_goesOn_392 : decode cX6_goesOn 392 = .ok (.getfield 143, 3) := dk_180 0 143 (dk_at dksX6_goesOn_16 15 rfl rfl)
theorem dX6_goesOn_395 : decode cX6_goesOn 395 = .ok (.iload_n 1, 1) := dk_27 (dk_at dksX6_goesOn_16 18 rfl rfl)
theorem dX6_goesOn_396 : decode cX6_goesOn 396 = .ok (.iaload, 1) := dk_46 (dk_at dksX6_goesOn_16 19 rfl rfl)
theorem dX6_goesOn_397 : decode cX6_goesOn 397 = .ok (.ifCond .ne 12, 3) := dk_154 0 12 (dk_at dksX6_goesOn_16 20 rfl rfl)
theorem dX6_goesOn_400 : decode cX6_goesOn 400 = .ok (.aload_n 0, 1) := dk_42 (dk_at dksX6_goesOn_16 23 rfl rfl)
theorem dX6_goesOn_401 : decode cX6_goesOn 401 = .ok (.iconst 1, 1) := dk_4 (dk_at dksX6_goesOn_17 0 rfl rfl)
theorem dX6_goesOn_402 : decode cX6_goesOn 402 = .ok (.aload_n 0, 1) := dk_42 (dk_at dksX6_goesOn_17 1 rfl rfl)
theorem dX6_goesOn_403 : decode cX6_goesOn 403 = .ok (.getfield 23, 3) := dk_180 0 23 (dk_at dksX6_goesOn_17 2 rfl rfl)
theorem dX6_goesOn_406 : decode cX6_goesOn 406 = .ok (.invokevirtual 279, 3) := dk_182 1 23 (dk_at dksX6_goesOn_17 5 rfl rfl)
theorem dX6_goesOn_409 : decode cX6_goesOn 409 = .ok (.iload_n 2, 1) := dk_28 (dk_at dksX6_goesOn_17 8 rfl rfl)
theorem dX6_goesOn_410 : decode cX6_goesOn 410 = .ok (.iconst 2, 1) := dk_5 (dk_at dksX6_goesOn_17 9 rfl rfl)
theorem dX6_goesOn_411 : decode cX6_goesOn 411 = .ok (.if_icmp .ge 17, 3) := dk_162 0 17 (dk_at dksX6_goesOn_17 10 rfl rfl)
theorem dX6_goesOn_414 : decode cX6_goesOn 414 = .ok (.aload_n 0, 1) := dk_42 (dk_at dksX6_goesOn_17 13 rfl rfl)
theorem dX6_goesOn_415 : decode cX6_goesOn 415 = .ok (.getfield 36, 3) := dk_180 0 36 (dk_at dksX6_goesOn_17 14 rfl rfl)
theorem dX6_goesOn_418 : decode cX6_goesOn 418 = .ok (.ifCond .ne 8, 3) := dk_154 0 8 (dk_at dksX6_goesOn_17 17 rfl rfl)
theorem dX6_goesOn_421 : decode cX6_goesOn 421 = .ok (.aload_n 0, 1) := dk_42 (dk_at dksX6_goesOn_17 20 rfl rfl)
theorem dX6_goesOn_422 : decode cX6_goesOn 422 = .ok (.iconst 1, 1) := dk_4 (dk_at dksX6_goesOn_17 21 rfl rfl)
theorem dX6_goesOn_423 : decode cX6_goesOn 423 = .ok (.invokevirtual 369, 3) := dk_182 1 113 (dk_at dksX6_goesOn_18 0 rfl rfl)
theorem dX6_goesOn_426 : decode cX6_goesOn 426 = .ok (.iconst 0, 1) := dk_3 (dk_at dksX6_goesOn_18 3 rfl rfl)
theorem dX6_goesOn_427 : decode cX6_goesOn 427 = .ok (.ireturn, 1) := dk_172 (dk_at dksX6_goesOn_18 4 rfl rfl)
theorem dX6_goesOn_428 : decode cX6_goesOn 428 = .ok (.iload_n 2, 1) := dk_28 (dk_at dksX6_goesOn_18 5 rfl rfl)
theorem dX6_goesOn_429 : decode cX6_goesOn 429 = .ok (.iconst 3, 1) := dk_6 (dk_at dksX6_goesOn_18 6 rfl rfl)
theorem dX6_goesOn_430 : decode cX6_goesOn 430 = .ok (.if_icmp .ne 53, 3) := dk_160 0 53 (dk_at dksX6_goesOn_18 7 rfl rfl)
theorem dX6_goesOn_433 : decode cX6_goesOn 433 = .ok (.aload_n 0, 1) := dk_42 (dk_at dksX6_goesOn_18 10 rfl rfl)
theorem dX6_goesOn_434 : decode cX6_goesOn 434 = .ok (.bipush 44, 2) := dk_16 44 (dk_at dksX6_goesOn_18 11 rfl rfl)
theorem dX6_goesOn_436 : decode cX6_goesOn 436 = .ok (.invokevirtual 283, 3) := dk_182 1 27 (dk_at dksX6_goesOn_18 13 rfl rfl)
theorem dX6_goesOn_439 : decode cX6_goesOn 439 = .ok (.ifCond .ne 12, 3) := dk_154 0 12 (dk_at dksX6_goesOn_18 16 rfl rfl)
theorem dX6_goesOn_442 : decode cX6_goesOn 442 = .ok (.aload_n 0, 1) := dk_42 (dk_at dksX6_goesOn_18 19 rfl rfl)
theorem dX6_goesOn_443 : decode cX6_goesOn 443 = .ok (.iconst 1, 1) := dk_4 (dk_at dksX6_goesOn_18 20 rfl rfl)
theorem dX6_goesOn_444 : decode cX6_goesOn 444 = .ok (.aload_n 0, 1) := dk_42 (dk_at dksX6_goesOn_18 21 rfl rfl)
theorem dX6_goesOn_445 : decode cX6_goesOn 445 = .ok (.getfield 23, 3) := dk_180 0 23 (dk_at dksX6_goesOn_19 0 rfl rfl)
theorem dX6_goesOn_448 : decode cX6_goesOn 448 = .ok (.invokevirtual 279, 3) := dk_182 1 23 (dk_at dksX6_goesOn_19 3 rfl rfl)
theorem dX6_goesOn_451 : decode cX6_goesOn 451 = .ok (.aload_n 0, 1) := dk_42 (dk_at dksX6_goesOn_19 6 rfl rfl)
theorem dX6_goesOn_452 : decode cX6_goesOn 452 = .ok (.getfield 36, 3) := dk_180 0 36 (dk_at dksX6_goesOn_19 7 rfl rfl)
theorem dX6_goesOn_455 : decode cX6_goesOn 455 = .ok (.ifCond .le 5, 3) := dk_158 0 5 (dk_at dksX6_goesOn_19 10 rfl rfl)
theorem dX6_goesOn_458 : decode cX6_goesOn 458 = .ok (.iconst 0, 1) := dk_3 (dk_at dksX6_goesOn_19 13 rfl rfl)
theorem dX6_goesOn_459 : decode cX6_goesOn 459 = .ok (.ireturn, 1) := dk_172 (dk_at dksX6_goesOn_19 14 rfl rfl)
theorem dX6_goesOn_460 : decode cX6_goesOn 460 = .ok (.aload_n 0, 1) := dk_42 (dk_at dksX6_goesOn_19 15 rfl rfl)
theorem dX6_goesOn_461 : decode cX6_goesOn 461 = .ok (.iconst 1, 1) := dk_4 (dk_at dksX6_goesOn_19 16 rfl rfl)
theorem dX6_goesOn_462 : decode cX6_goesOn 462 = .ok (.invokevirtual 369, 3) := dk_182 1 113 (dk_at dksX6_goesOn_19 17 rfl rfl)
theorem dX6_goesOn_465 : decode cX6_goesOn 465 = .ok (.aload_n 0, 1) := dk_42 (dk_at dksX6_goesOn_19 20 rfl rfl)
theorem dX6_goesOn_466 : decode cX6_goesOn 466 = .ok (.getfield 140, 3) := dk_180 0 140 (dk_at dksX6_goesOn_19 21 rfl rfl)
theorem dX6_goesOn_469 : decode cX6_goesOn 469 = .ok (.iload_n 1, 1) := dk_27 (dk_at dksX6_goesOn_20 0 rfl rfl)
theorem dX6_goesOn_470 : decode cX6_goesOn 470 = .ok (.iconst 4, 1) := dk_7 (dk_at dksX6_goesOn_20 1 rfl rfl)
theorem dX6_goesOn_471 : decode cX6_goesOn 471 = .ok (.iastore, 1) := dk_79 (dk_at dksX6_goesOn_20 2 rfl rfl)
theorem dX6_goesOn_472 : decode cX6_goesOn 472 = .ok (.aload_n 0, 1) := dk_42 (dk_at dksX6_goesOn_20 3 rfl rfl)
theorem dX6_goesOn_473 : decode cX6_goesOn 473 = .ok (.invokevirtual 286, 3) := dk_182 1 30 (dk_at dksX6_goesOn_20 4 rfl rfl)
theorem dX6_goesOn_476 : decode cX6_goesOn 476 = .ok (.aload_n 0, 1) := dk_42 (dk_at dksX6_goesOn_20 7 rfl rfl)
theorem dX6_goesOn_477 : decode cX6_goesOn 477 = .ok (.iconst 0, 1) := dk_3 (dk_at dksX6_goesOn_20 8 rfl rfl)
theorem dX6_goesOn_478 : decode cX6_goesOn 478 = .ok (.putfield 167, 3) := dk_181 0 167 (dk_at dksX6_goesOn_20 9 rfl rfl)
theorem dX6_goesOn_481 : decode cX6_goesOn 481 = .ok (.iconst 1, 1) := dk_4 (dk_at dksX6_goesOn_20 12 rfl rfl)
theorem dX6_goesOn_482 : decode cX6_goesOn 482 = .ok (.ireturn, 1) := dk_172 (dk_at dksX6_goesOn_20 13 rfl rfl)
theorem dX6_goesOn_483 : decode cX6_goesOn 483 = .ok (.aload_n 0, 1) := dk_42 (dk_at dksX6_goesOn_20 14 rfl rfl)
theorem dX6_goesOn_484 : decode cX6_goesOn 484 = .ok (.iload_n 2, 1) := dk_28 (dk_at dksX6_goesOn_20 15 rfl rfl)
theorem dX6_goesOn_485 : decode cX6_goesOn 485 = .ok (.iconst 5, 1) := dk_8 (dk_at dksX6_goesOn_20 16 rfl rfl)
theorem dX6_goesOn_486 : decode cX6_goesOn 486 = .ok (.if_icmp .ne 8, 3) := dk_160 0 8 (dk_at dksX6_goesOn_20 17 rfl rfl)
theorem dX6_goesOn_489 : decode cX6_goesOn 489 = .ok (.bipush 93, 2) := dk_16 93 (dk_at dksX6_goesOn_20 20 rfl rfl)
theorem dX6_goesOn_491 : decode cX6_goesOn 491 = .ok (.goto 5, 3) := dk_167 0 5 (dk_at dksX6_goesOn_21 0 rfl rfl)
theorem dX6_goesOn_494 : decode cX6_goesOn 494 = .ok (.bipush 41, 2) := dk_16 41 (dk_at dksX6_goesOn_21 3 rfl rfl)
theorem dX6_goesOn_496 : decode cX6_goesOn 496 = .ok (.invokevirtual 283, 3) := dk_182 1 27 (dk_at dksX6_goesOn_21 5 rfl rfl)
theorem dX6_goesOn_499 : decode cX6_goesOn 499 = .ok (.ifCond .ne 12, 3) := dk_154 0 12 (dk_at dksX6_goesOn_21 8 rfl rfl)
theorem dX6_goesOn_502 : decode cX6_goesOn 502 = .ok (.aload_n 0, 1) := dk_42 (dk_at dksX6_goesOn_21 11 rfl rfl)
theorem dX6_goesOn_503 : decode cX6_goesOn 503 = .ok (.iconst 1, 1) := dk_4 (dk_at dksX6_goesOn_21 12 rfl rfl)
theorem dX6_goesOn_504 : decode cX6_goesOn 504 = .ok (.aload_n 0, 1) := dk_42 (dk_at dksX6_goesOn_21 13 rfl rfl)
theorem dX6_goesOn_505 : decode cX6_goesOn 505 = .ok (.getfield 23, 3) := dk_180 0 23 (dk_at dksX6_goesOn_21 14 rfl rfl)
theorem dX6_goesOn_508 : decode cX6_goesOn 508 = .ok (.invokevirtual 279, 3) := dk_182 1 23 (dk_at dksX6_goesOn_21 17 rfl rfl)
theorem dX6_goesOn_511 : decode cX6_goesOn 511 = .ok (.aload_n 0, 1) := dk_42 (dk_at dksX6_goesOn_21 20 rfl rfl)
theorem dX6_goesOn_512 : decode cX6_goesOn 512 = .ok (.getfield 36, 3) := dk_180 0 36 (dk_at dksX6_goesOn_21 21 rfl rfl)
theorem dX6_goesOn_515 : decode cX6_goesOn 515 = .ok (.ifCond .le 5, 3) := dk_158 0 5 (dk_at dksX6_goesOn_22 0 rfl rfl)
theorem dX6_goesOn_518 : decode cX6_goesOn 518 = .ok (.iconst 0, 1) := dk_3 (dk_at dksX6_goesOn_22 3 rfl rfl)
theorem dX6_goesOn_519 : decode cX6_goesOn 519 = .ok (.ireturn, 1) := dk_172 (dk_at dksX6_goesOn_22 4 rfl rfl)
theorem dX6_goesOn_520 : decode cX6_goesOn 520 = .ok (.aload_n 0, 1) := dk_42 (dk_at dksX6_goesOn_22 5 rfl rfl)
theorem dX6_goesOn_521 : decode cX6_goesOn 521 = .ok (.iconst 1, 1) := dk_4 (dk_at dksX6_goesOn_22 6 rfl rfl)
theorem dX6_goesOn_522 : decode cX6_goesOn 522 = .ok (.invokevirtual 369, 3) := dk_182 1 113 (dk_at dksX6_goesOn_22 7 rfl rfl)
theorem dX6_goesOn_525 : decode cX6_goesOn 525 = .ok (.aload_n 0, 1) := dk_42 (dk_at dksX6_goesOn_22 10 rfl rfl)
theorem dX6_goesOn_526 : decode cX6_goesOn 526 = .ok (.dup, 1) := dk_89 (dk_at dksX6_goesOn_22 11 rfl rfl)
theorem dX6_goesOn_527 : decode cX6_goesOn 527 = .ok (.getfield 155, 3) := dk_180 0 155 (dk_at dksX6_goesOn_22 12 rfl rfl)
theorem dX6_goesOn_530 : decode cX6_goesOn 530 = .ok (.iconst 1, 1) := dk_4 (dk_at dksX6_goesOn_22 15 rfl rfl)
theorem dX6_goesOn_531 : decode cX6_goesOn 531 = .ok (.isub, 1) := dk_100 (dk_at dksX6_goesOn_22 16 rfl rfl)
theorem dX6_goesOn_532 : decode cX6_goesOn 532 = .ok (.putfield 155, 3) := dk_181 0 155 (dk_at dksX6_goesOn_22 17 rfl rfl)
theorem dX6_goesOn_535 : decode cX6_goesOn 535 = .ok (.aload_n 0, 1) := dk_42 (dk_at dksX6_goesOn_22 20 rfl rfl)
theorem dX6_goesOn_536 : decode cX6_goesOn 536 = .ok (.dup, 1) := dk_89 (dk_at dksX6_goesOn_22 21 rfl rfl)
theorem dX6_goesOn_537 : decode cX6_goesOn 537 = .ok (.getfield 158, 3) := dk_180 0 158 (dk_at dksX6_goesOn_23 0 rfl rfl)
theorem dX6_goesOn_540 : decode cX6_goesOn 540 = .ok (.iconst 1, 1) := dk_4 (dk_at dksX6_goesOn_23 3 rfl rfl)
theorem dX6_goesOn_541 : decode cX6_goesOn 541 = .ok (.isub, 1) := dk_100 (dk_at dksX6_goesOn_23 4 rfl rfl)
theorem dX6_goesOn_542 : decode cX6_goesOn 542 = .ok (.putfield 158, 3) := dk_181 0 158 (dk_at dksX6_goesOn_23 5 rfl rfl)
theorem dX6_goesOn_545 : decode cX6_goesOn 545 = .ok (.iload_n 2, 1) := dk_28 (dk_at dksX6_goesOn_23 8 rfl rfl)
theorem dX6_goesOn_546 : decode cX6_goesOn 546 = .ok (.iconst 4, 1) := dk_7 (dk_at dksX6_goesOn_23 9 rfl rfl)
theorem dX6_goesOn_547 : decode cX6_goesOn 547 = .ok (.if_icmp .ne 14, 3) := dk_160 0 14 (dk_at dksX6_goesOn_23 10 rfl rfl)
theorem dX6_goesOn_550 : decode cX6_goesOn 550 = .ok (.aload_n 0, 1) := dk_42 (dk_at dksX6_goesOn_23 13 rfl rfl)
theorem dX6_goesOn_551 : decode cX6_goesOn 551 = .ok (.aload_n 0, 1) := dk_42 (dk_at dksX6_goesOn_23 14 rfl rfl)
theorem dX6_goesOn_552 : decode cX6_goesOn 552 = .ok (.getfield 149, 3) := dk_180 0 149 (dk_at dksX6_goesOn_23 15 rfl rfl)
theorem dX6_goesOn_555 : decode cX6_goesOn 555 = .ok (.iload_n 1, 1) := dk_27 (dk_at dksX6_goesOn_23 18 rfl rfl)
theorem dX6_goesOn_556 : decode cX6_goesOn 556 = .ok (.iaload, 1) := dk_46 (dk_at dksX6_goesOn_23 19 rfl rfl)
theorem dX6_goesOn_557 : decode cX6_goesOn 557 = .ok (.iconst 0, 1) := dk_3 (dk_at dksX6_goesOn_23 20 rfl rfl)
theorem dX6_goesOn_558 : decode cX6_goesOn 558 = .ok (.invokevirtual 350, 3) := dk_182 1 94 (dk_at dksX6_goesOn_23 21 rfl rfl)
theorem dX6_goesOn_561 : decode cX6_goesOn 561 = .ok (.iload_n 2, 1) := dk_28 (dk_at dksX6_goesOn_24 0 rfl rfl)
theorem dX6_goesOn_562 : decode cX6_goesOn 562 = .ok (.iconst 5, 1) := dk_8 (dk_at dksX6_goesOn_24 1 rfl rfl)
theorem dX6_goesOn_563 : decode cX6_goesOn 563 = .ok (.if_icmp .ne 15, 3) := dk_160 0 15 (dk_at dksX6_goesOn_24 2 rfl rfl)
theorem dX6_goesOn_566 : decode cX6_goesOn 566 = .ok (.aload_n 0, 1) := dk_42 (dk_at dksX6_goesOn_24 5 rfl rfl)
theorem dX6_goesOn_567 : decode cX6_goesOn 567 = .ok (.getfield 143, 3) := dk_180 0 143 (dk_at dksX6_goesOn_24 6 rfl rfl)
theorem dX6_goesOn_570 : decode cX6_goesOn 570 = .ok (.aload_n 0, 1) := dk_42 (dk_at dksX6_goesOn_24 9 rfl rfl)
theorem dX6_goesOn_571 : decode cX6_goesOn 571 = .ok (.getfield 155, 3) := dk_180 0 155 (dk_at dksX6_goesOn_24 10 rfl rfl)
theorem dX6_goesOn_574 : decode cX6_goesOn 574 = .ok (.iconst 1, 1) := dk_4 (dk_at dksX6_goesOn_24 13 rfl rfl)
theorem dX6_goesOn_575 : decode cX6_goesOn 575 = .ok (.isub, 1) := dk_100 (dk_at dksX6_goesOn_24 14 rfl rfl)
theorem dX6_goesOn_576 : decode cX6_goesOn 576 = .ok (.iconst 2, 1) := dk_5 (dk_at dksX6_goesOn_24 15 rfl rfl)
theorem dX6_goesOn_577 : decode cX6_goesOn 577 = .ok (.iastore, 1) := dk_79 (dk_at dksX6_goesOn_24 16 rfl rfl)
theorem dX6_goesOn_578 : decode cX6_goesOn 578 = .ok (.aload_n 0, 1) := dk_42 (dk_at dksX6_goesOn_24 17 rfl rfl)
theorem dX6_goesOn_579 : decode cX6_goesOn 579 = .ok (.invokevirtual 286, 3) := dk_182 1 30 (dk_at dksX6_goesOn_24 18 rfl rfl)
theorem dX6_goesOn_582 : decode cX6_goesOn 582 = .ok (.iconst 1, 1) := dk_4 (dk_at dksX6_goesOn_24 21 rfl rfl)
theorem dX6_goesOn_583 : decode cX6_goesOn 583 = .ok (.ireturn, 1) := dk_172 (dk_at dksX6_goesOn_24 22 rfl rfl)
abbrev cX6_joins : ByteArray := prog_29_method_20_code
def yX6_joins : MethodName := ⟨RX6, "joins", "(I)V"⟩
def dkwX6_joins_2 : List UInt8 := [42, 180, 0, 161, 42, 180, 0, 164, 46, 3, 182, 1, 94, 167, 255, 196, 177]
abbrev dktX6_joins_2 : List UInt8 := dkwX6_joins_2 ++ []
def dkwX6_joins_1 : List UInt8 := [180, 0, 164, 4, 100, 46, 184, 1, 91, 27, 161, 0, 30, 42, 89, 180, 0, 164, 4, 100, 181, 0, 164, 42]
abbrev dktX6_joins_1 : List UInt8 := dkwX6_joins_1 ++ dktX6_joins_2
def dkwX6_joins_0 : List UInt8 := [42, 180, 0, 164, 42, 180, 0, 152, 42, 180, 0, 155, 4, 100, 46, 164, 0, 48, 42, 180, 0, 161, 42]
abbrev dktX6_joins_0 : List UInt8 := dkwX6_joins_0 ++ dktX6_joins_1
theorem dksX6_joins_0 : cX6_joins.data.toList.drop 0 = dktX6_joins_0 := by decide +kernel
theorem dksX6_joins_1 : cX6_joins.data.toList.drop 23 = dktX6_joins_1 := dk_seg dksX6_joins_0 23 rfl rfl
theorem dksX6_joins_2 : cX6_joins.data.toList.drop 47 = dktX6_joins_2 := dk_seg dksX6_joins_1 24 rfl rfl
theorem dX6_joins_0 : decode cX6_joins 0 = .ok (.aload_n 0, 1) := dk_42 (dk_at dksX6_joins_0 0 rfl rfl)
theorem dX6_joins_1 : decode cX6_joins 1 = .ok (.getfield 164, 3) := dk_180 0 164 (dk_at dksX6_joins_0 1 rfl rfl)
theorem dX6_joins_4 : decode cX6_joins 4 = .ok (.aload_n 0, 1) := dk_42 (dk_at dksX6_joins_0 4 rfl rfl)
theorem dX6_joins_5 : decode cX6_joins 5 = .ok (.getfield 152, 3) := dk_180 0 152 (dk_at dksX6_joins_0 5 rfl rfl)
theorem dX6_joins_8 : decode cX6_joins 8 = .ok (.aload_n 0, 1) := dk_42 (dk_at dksX6_joins_0 8 rfl rfl)
theorem dX6_joins_9 : decode cX6_joins 9 = .ok (.getfield 155, 3) := dk_180 0 155 (dk_at dksX6_joins_0 9 rfl rfl)
theorem dX6_joins_12 : decode cX6_joins 12 = .ok (.iconst 1, 1) := dk_4 (dk_at dksX6_joins_0 12 rfl rfl)
theorem dX6_joins_13 : decode cX6_joins 13 = .ok (.isub, 1) := dk_100 (dk_at dksX6_joins_0 13 rfl rfl)
theorem dX6_joins_14 : decode cX6_joins 14 = .ok (.iaload, 1) := dk_46 (dk_at dksX6_joins_0 14 rfl rfl)
theorem dX6_joins_15 : decode cX6_joins 15 = .ok (.if_icmp .le 48, 3) := dk_164 0 48 (dk_at dksX6_joins_0 15 rfl rfl)
theorem dX6_joins_18 : decode cX6_joins 18 = .ok (.aload_n 0, 1) := dk_42 (dk_at dksX6_joins_0 18 rfl rfl)
theorem dX6_joins_19 : decode cX6_joins 19 = .ok (.getfield 161, 3) := dk_180 0 161 (dk_at dksX6_joins_0 19 rfl rfl)
theorem dX6_joins_22 : decode cX6_joins 22 = .ok (.aload_n 0, 1) := dk_42 (dk_at dksX6_joins_0 22 rfl rfl)
theorem dX6_joins_23 : decode cX6_joins 23 = .ok (.getfield 164, 3) := dk_180 0 164 (dk_at dksX6_joins_1 0 rfl rfl)
theorem dX6_joins_26 : decode cX6_joins 26 = .ok (.iconst 1, 1) := dk_4 (dk_at dksX6_joins_1 3 rfl rfl)
theorem dX6_joins_27 : decode cX6_joins 27 = .ok (.isub, 1) := dk_100 (dk_at dksX6_joins_1 4 rfl rfl)
theorem dX6_joins_28 : decode cX6_joins 28 = .ok (.iaload, 1) := dk_46 (dk_at dksX6_joins_1 5 rfl rfl)
theorem dX6_joins_29 : decode cX6_joins 29 = .ok (.invokestatic 347, 3) := dk_184 1 91 (dk_at dksX6_joins_1 6 rfl rfl)
theorem dX6_joins_32 : decode cX6_joins 32 = .ok (.iload_n 1, 1) := dk_27 (dk_at dksX6_joins_1 9 rfl rfl)
theorem dX6_joins_33 : decode cX6_joins 33 = .ok (.if_icmp .lt 30, 3) := dk_161 0 30 (dk_at dksX6_joins_1 10 rfl rfl)
theorem dX6_joins_36 : decode cX6_joins 36 = .ok (.aload_n 0, 1) := dk_42 (dk_at dksX6_joins_1 13 rfl rfl)
theorem dX6_joins_37 : decode cX6_joins 37 = .ok (.dup, 1) := dk_89 (dk_at dksX6_joins_1 14 rfl rfl)
theorem dX6_joins_38 : decode cX6_joins 38 = .ok (.getfield 164, 3) := dk_180 0 164 (dk_at dksX6_joins_1 15 rfl rfl)
theorem dX6_joins_41 : decode cX6_joins 41 = .ok (.iconst 1, 1) := dk_4 (dk_at dksX6_joins_1 18 rfl rfl)
theorem dX6_joins_42 : decode cX6_joins 42 = .ok (.isub, 1) := dk_100 (dk_at dksX6_joins_1 19 rfl rfl)
theorem dX6_joins_43 : decode cX6_joins 43 = .ok (.putfield 164, 3) := dk_181 0 164 (dk_at dksX6_joins_1 20 rfl rfl)
theorem dX6_joins_46 : decode cX6_joins 46 = .ok (.aload_n 0, 1) := dk_42 (dk_at dksX6_joins_1 23 rfl rfl)
theorem dX6_joins_47 : decode cX6_joins 47 = .ok (.aload_n 0, 1) := dk_42 (dk_at dksX6_joins_2 0 rfl rfl)
theorem dX6_joins_48 : decode cX6_joins 48 = .ok (.getfield 161, 3) := dk_180 0 161 (dk_at dksX6_joins_2 1 rfl rfl)
theorem dX6_joins_51 : decode cX6_joins 51 = .ok (.aload_n 0, 1) := dk_42 (dk_at dksX6_joins_2 4 rfl rfl)
theorem dX6_joins_52 : decode cX6_joins 52 = .ok (.getfield 164, 3) := dk_180 0 164 (dk_at dksX6_joins_2 5 rfl rfl)
theorem dX6_joins_55 : decode cX6_joins 55 = .ok (.iaload, 1) := dk_46 (dk_at dksX6_joins_2 8 rfl rfl)
theorem dX6_joins_56 : decode cX6_joins 56 = .ok (.iconst 0, 1) := dk_3 (dk_at dksX6_joins_2 9 rfl rfl)
theorem dX6_joins_57 : decode cX6_joins 57 = .ok (.invokevirtual 350, 3) := dk_182 1 94 (dk_at dksX6_joins_2 10 rfl rfl)
theorem dX6_joins_60 : decode cX6_joins 60 = .ok (.goto (-60), 3) := dk_167 255 196 (dk_at dksX6_joins_2 13 rfl rfl)
theorem dX6_joins_63 : decode cX6_joins 63 = .ok (.return_, 1) := dk_177 (dk_at dksX6_joins_2 16 rfl rfl)
abbrev cX6_rank : ByteArray := prog_29_method_19_code
def yX6_rank : MethodName := ⟨RX6, "rank", "(I)I"⟩
def dkwX6_rank_3 : List UInt8 := [16, 6, 172]
abbrev dktX6_rank_3 : List UInt8 := dkwX6_rank_3 ++ []
def dkwX6_rank_2 : List UInt8 := [160, 0, 7, 7, 167, 0, 21, 26, 16, 10, 159, 0, 9, 26, 16, 11, 160, 0, 7, 8, 167, 0, 5]
abbrev dktX6_rank_2 : List UInt8 := dkwX6_rank_2 ++ dktX6_rank_3
def dkwX6_rank_1 : List UInt8 := [160, 0, 7, 6, 167, 0, 43, 26, 16, 17, 159, 0, 15, 26, 16, 18, 159, 0, 9, 26, 16, 19]
abbrev dktX6_rank_1 : List UInt8 := dkwX6_rank_1 ++ dktX6_rank_2
def dkwX6_rank_0 : List UInt8 := [26, 16, 21, 160, 0, 7, 4, 167, 0, 63, 26, 16, 20, 160, 0, 7, 5, 167, 0, 53, 26, 16, 22]
abbrev dktX6_rank_0 : List UInt8 := dkwX6_rank_0 ++ dktX6_rank_1
theorem dksX6_rank_0 : cX6_rank.data.toList.drop 0 = dktX6_rank_0 := by decide +kernel
theorem dksX6_rank_1 : cX6_rank.data.toList.drop 23 = dktX6_rank_1 := dk_seg dksX6_rank_0 23 rfl rfl
theorem dksX6_rank_2 : cX6_rank.data.toList.drop 45 = dktX6_rank_2 := dk_seg dksX6_rank_1 22 rfl rfl
theorem dksX6_rank_3 : cX6_rank.data.toList.drop 68 = dktX6_rank_3 := dk_seg dksX6_rank_2 23 rfl rfl
theorem dX6_rank_0 : decode cX6_rank 0 = .ok (.iload_n 0, 1) := dk_26 (dk_at dksX6_rank_0 0 rfl rfl)
theorem dX6_rank_1 : decode cX6_rank 1 = .ok (.bipush 21, 2) := dk_16 21 (dk_at dksX6_rank_0 1 rfl rfl)
theorem dX6_rank_3 : decode cX6_rank 3 = .ok (.if_icmp .ne 7, 3) := dk_160 0 7 (dk_at dksX6_rank_0 3 rfl rfl)
theorem dX6_rank_6 : decode cX6_rank 6 = .ok (.iconst 1, 1) := dk_4 (dk_at dksX6_rank_0 6 rfl rfl)
theorem dX6_rank_7 : decode cX6_rank 7 = .ok (.goto 63, 3) := dk_167 0 63 (dk_at dksX6_rank_0 7 rfl rfl)
theorem dX6_rank_10 : decode cX6_rank 10 = .ok (.iload_n 0, 1) := dk_26 (dk_at dksX6_rank_0 10 rfl rfl)
theorem dX6_rank_11 : decode cX6_rank 11 = .ok (.bipush 20, 2) := dk_16 20 (dk_at dksX6_rank_0 11 rfl rfl)
theorem dX6_rank_13 : decode cX6_rank 13 = .ok (.if_icmp .ne 7, 3) := dk_160 0 7 (dk_at dksX6_rank_0 13 rfl rfl)
theorem dX6_rank_16 : decode cX6_rank 16 = .ok (.iconst 2, 1) := dk_5 (dk_at dksX6_rank_0 16 rfl rfl)
theorem dX6_rank_17 : decode cX6_rank 17 = .ok (.goto 53, 3) := dk_167 0 53 (dk_at dksX6_rank_0 17 rfl rfl)
theorem dX6_rank_20 : decode cX6_rank 20 = .ok (.iload_n 0, 1) := dk_26 (dk_at dksX6_rank_0 20 rfl rfl)
theorem dX6_rank_21 : decode cX6_rank 21 = .ok (.bipush 22, 2) := dk_16 22 (dk_at dksX6_rank_0 21 rfl rfl)
theorem dX6_rank_23 : decode cX6_rank 23 = .ok (.if_icmp .ne 7, 3) := dk_160 0 7 (dk_at dksX6_rank_1 0 rfl rfl)
theorem dX6_rank_26 : decode cX6_rank 26 = .ok (.iconst 3, 1) := dk_6 (dk_at dksX6_rank_1 3 rfl rfl)
theorem dX6_rank_27 : decode cX6_rank 27 = .ok (.goto 43, 3) := dk_167 0 43 (dk_at dksX6_rank_1 4 rfl rfl)
theorem dX6_rank_30 : decode cX6_rank 30 = .ok (.iload_n 0, 1) := dk_26 (dk_at dksX6_rank_1 7 rfl rfl)
theorem dX6_rank_31 : decode cX6_rank 31 = .ok (.bipush 17, 2) := dk_16 17 (dk_at dksX6_rank_1 8 rfl rfl)
theorem dX6_rank_33 : decode cX6_rank 33 = .ok (.if_icmp .eq 15, 3) := dk_159 0 15 (dk_at dksX6_rank_1 10 rfl rfl)
theorem dX6_rank_36 : decode cX6_rank 36 = .ok (.iload_n 0, 1) := dk_26 (dk_at dksX6_rank_1 13 rfl rfl)
theorem dX6_rank_37 : decode cX6_rank 37 = .ok (.bipush 18, 2) := dk_16 18 (dk_at dksX6_rank_1 14 rfl rfl)
theorem dX6_rank_39 : decode cX6_rank 39 = .ok (.if_icmp .eq 9, 3) := dk_159 0 9 (dk_at dksX6_rank_1 16 rfl rfl)
theorem dX6_rank_42 : decode cX6_rank 42 = .ok (.iload_n 0, 1) := dk_26 (dk_at dksX6_rank_1 19 rfl rfl)
theorem dX6_rank_43 : decode cX6_rank 43 = .ok (.bipush 19, 2) := dk_16 19 (dk_at dksX6_rank_1 20 rfl rfl)
theorem dX6_rank_45 : decode cX6_rank 45 = .ok (.if_icmp .ne 7, 3) := dk_160 0 7 (dk_at dksX6_rank_2 0 rfl rfl)
theorem dX6_rank_48 : decode cX6_rank 48 = .ok (.iconst 4, 1) := dk_7 (dk_at dksX6_rank_2 3 rfl rfl)
theorem dX6_rank_49 : decode cX6_rank 49 = .ok (.goto 21, 3) := dk_167 0 21 (dk_at dksX6_rank_2 4 rfl rfl)
theorem dX6_rank_52 : decode cX6_rank 52 = .ok (.iload_n 0, 1) := dk_26 (dk_at dksX6_rank_2 7 rfl rfl)
theorem dX6_rank_53 : decode cX6_rank 53 = .ok (.bipush 10, 2) := dk_16 10 (dk_at dksX6_rank_2 8 rfl rfl)
theorem dX6_rank_55 : decode cX6_rank 55 = .ok (.if_icmp .eq 9, 3) := dk_159 0 9 (dk_at dksX6_rank_2 10 rfl rfl)
theorem dX6_rank_58 : decode cX6_rank 58 = .ok (.iload_n 0, 1) := dk_26 (dk_at dksX6_rank_2 13 rfl rfl)
theorem dX6_rank_59 : decode cX6_rank 59 = .ok (.bipush 11, 2) := dk_16 11 (dk_at dksX6_rank_2 14 rfl rfl)
theorem dX6_rank_61 : decode cX6_rank 61 = .ok (.if_icmp .ne 7, 3) := dk_160 0 7 (dk_at dksX6_rank_2 16 rfl rfl)
theorem dX6_rank_64 : decode cX6_rank 64 = .ok (.iconst 5, 1) := dk_8 (dk_at dksX6_rank_2 19 rfl rfl)
theorem dX6_rank_65 : decode cX6_rank 65 = .ok (.goto 5, 3) := dk_167 0 5 (dk_at dksX6_rank_2 20 rfl rfl)
theorem dX6_rank_68 : decode cX6_rank 68 = .ok (.bipush 6, 2) := dk_16 6 (dk_at dksX6_rank_3 0 rfl rfl)
theorem dX6_rank_70 : decode cX6_rank 70 = .ok (.ireturn, 1) := dk_172 (dk_at dksX6_rank_3 2 rfl rfl)
abbrev cX6_must_2 : ByteArray := prog_29_method_29_code
def yX6_must_2 : MethodName := ⟨RX6, "must", "(J)V"⟩
def dkwX6_must_2_1 : List UInt8 := [182, 1, 23, 42, 180, 0, 36, 154, 0, 7, 42, 182, 1, 30, 177]
abbrev dktX6_must_2_1 : List UInt8 := dkwX6_must_2_1 ++ []
def dkwX6_must_2_0 : List UInt8 := [42, 180, 0, 36, 158, 0, 4, 177, 42, 31, 182, 1, 103, 154, 0, 12, 42, 4, 42, 180, 0, 23]
abbrev dktX6_must_2_0 : List UInt8 := dkwX6_must_2_0 ++ dktX6_must_2_1
theorem dksX6_must_2_0 : cX6_must_2.data.toList.drop 0 = dktX6_must_2_0 := by decide +kernel
theorem dksX6_must_2_1 : cX6_must_2.data.toList.drop 22 = dktX6_must_2_1 := dk_seg dksX6_must_2_0 22 rfl rfl
theorem dX6_must_2_0 : decode cX6_must_2 0 = .ok (.aload_n 0, 1) := dk_42 (dk_at dksX6_must_2_0 0 rfl rfl)
theorem dX6_must_2_1 : decode cX6_must_2 1 = .ok (.getfield 36, 3) := dk_180 0 36 (dk_at dksX6_must_2_0 1 rfl rfl)
theorem dX6_must_2_4 : decode cX6_must_2 4 = .ok (.ifCond .le 4, 3) := dk_158 0 4 (dk_at dksX6_must_2_0 4 rfl rfl)
theorem dX6_must_2_7 : decode cX6_must_2 7 = .ok (.return_, 1) := dk_177 (dk_at dksX6_must_2_0 7 rfl rfl)
theorem dX6_must_2_8 : decode cX6_must_2 8 = .ok (.aload_n 0, 1) := dk_42 (dk_at dksX6_must_2_0 8 rfl rfl)
theorem dX6_must_2_9 : decode cX6_must_2 9 = .ok (.lload_n 1, 1) := dk_31 (dk_at dksX6_must_2_0 9 rfl rfl)
theorem dX6_must_2_10 : decode cX6_must_2 10 = .ok (.invokevirtual 359, 3) := dk_182 1 103 (dk_at dksX6_must_2_0 10 rfl rfl)
theorem dX6_must_2_13 : decode cX6_must_2 13 = .ok (.ifCond .ne 12, 3) := dk_154 0 12 (dk_at dksX6_must_2_0 13 rfl rfl)
theorem dX6_must_2_16 : decode cX6_must_2 16 = .ok (.aload_n 0, 1) := dk_42 (dk_at dksX6_must_2_0 16 rfl rfl)
theorem dX6_must_2_17 : decode cX6_must_2 17 = .ok (.iconst 1, 1) := dk_4 (dk_at dksX6_must_2_0 17 rfl rfl)
theorem dX6_must_2_18 : decode cX6_must_2 18 = .ok (.aload_n 0, 1) := dk_42 (dk_at dksX6_must_2_0 18 rfl rfl)
theorem dX6_must_2_19 : decode cX6_must_2 19 = .ok (.getfield 23, 3) := dk_180 0 23 (dk_at dksX6_must_2_0 19 rfl rfl)
theorem dX6_must_2_22 : decode cX6_must_2 22 = .ok (.invokevirtual 279, 3) := dk_182 1 23 (dk_at dksX6_must_2_1 0 rfl rfl)
theorem dX6_must_2_25 : decode cX6_must_2 25 = .ok (.aload_n 0, 1) := dk_42 (dk_at dksX6_must_2_1 3 rfl rfl)
theorem dX6_must_2_26 : decode cX6_must_2 26 = .ok (.getfield 36, 3) := dk_180 0 36 (dk_at dksX6_must_2_1 4 rfl rfl)
theorem dX6_must_2_29 : decode cX6_must_2 29 = .ok (.ifCond .ne 7, 3) := dk_154 0 7 (dk_at dksX6_must_2_1 7 rfl rfl)
theorem dX6_must_2_32 : decode cX6_must_2 32 = .ok (.aload_n 0, 1) := dk_42 (dk_at dksX6_must_2_1 10 rfl rfl)
theorem dX6_must_2_33 : decode cX6_must_2 33 = .ok (.invokevirtual 286, 3) := dk_182 1 30 (dk_at dksX6_must_2_1 11 rfl rfl)
theorem dX6_must_2_36 : decode cX6_must_2 36 = .ok (.return_, 1) := dk_177 (dk_at dksX6_must_2_1 14 rfl rfl)
abbrev cX6_ship : ByteArray := prog_29_method_34_code
def yX6_ship : MethodName := ⟨RX6, "ship", "()V"⟩
def dkwX6_ship_6 : List UInt8 := [180, 0, 69, 42, 180, 0, 137, 92, 46, 4, 96, 79, 177]
abbrev dktX6_ship_6 : List UInt8 := dkwX6_ship_6 ++ []
def dkwX6_ship_5 : List UInt8 := [182, 1, 150, 42, 180, 0, 85, 27, 42, 3, 16, 40, 182, 1, 129, 79, 42, 180, 0, 36, 154, 0, 16, 42]
abbrev dktX6_ship_5 : List UInt8 := dkwX6_ship_5 ++ dktX6_ship_6
def dkwX6_ship_4 : List UInt8 := [20, 1, 47, 182, 1, 150, 42, 180, 0, 82, 27, 42, 4, 16, 40, 182, 1, 129, 79, 42, 20, 1, 49]
abbrev dktX6_ship_4 : List UInt8 := dkwX6_ship_4 ++ dktX6_ship_5
def dkwX6_ship_3 : List UInt8 := [182, 1, 129, 79, 42, 20, 1, 45, 182, 1, 150, 42, 180, 0, 79, 27, 42, 4, 7, 182, 1, 129, 79, 42]
abbrev dktX6_ship_3 : List UInt8 := dkwX6_ship_3 ++ dktX6_ship_4
def dkwX6_ship_2 : List UInt8 := [180, 0, 72, 27, 42, 182, 1, 153, 80, 42, 20, 1, 43, 182, 1, 150, 42, 180, 0, 76, 27, 42, 3, 6]
abbrev dktX6_ship_2 : List UInt8 := dkwX6_ship_2 ++ dktX6_ship_3
def dkwX6_ship_1 : List UInt8 := [154, 0, 4, 177, 16, 8, 42, 180, 0, 137, 104, 42, 180, 0, 69, 42, 180, 0, 137, 46, 96, 60, 42]
abbrev dktX6_ship_1 : List UInt8 := dkwX6_ship_1 ++ dktX6_ship_2
def dkwX6_ship_0 : List UInt8 := [42, 42, 180, 0, 69, 42, 180, 0, 137, 46, 16, 8, 160, 0, 7, 4, 167, 0, 4, 3, 182, 1, 139]
abbrev dktX6_ship_0 : List UInt8 := dkwX6_ship_0 ++ dktX6_ship_1
theorem dksX6_ship_0 : cX6_ship.data.toList.drop 0 = dktX6_ship_0 := by decide +kernel
theorem dksX6_ship_1 : cX6_ship.data.toList.drop 23 = dktX6_ship_1 := dk_seg dksX6_ship_0 23 rfl rfl
theorem dksX6_ship_2 : cX6_ship.data.toList.drop 46 = dktX6_ship_2 := dk_seg dksX6_ship_1 23 rfl rfl
theorem dksX6_ship_3 : cX6_ship.data.toList.drop 70 = dktX6_ship_3 := dk_seg dksX6_ship_2 24 rfl rfl
theorem dksX6_ship_4 : cX6_ship.data.toList.drop 94 = dktX6_ship_4 := dk_seg dksX6_ship_3 24 rfl rfl
theorem dksX6_ship_5 : cX6_ship.data.toList.drop 117 = dktX6_ship_5 := dk_seg dksX6_ship_4 23 rfl rfl
theorem dksX6_ship_6 : cX6_ship.data.toList.drop 141 = dktX6_ship_6 := dk_seg dksX6_ship_5 24 rfl rfl
theorem dX6_ship_0 : decode cX6_ship 0 = .ok (.aload_n 0, 1) := dk_42 (dk_at dksX6_ship_0 0 rfl rfl)
theorem dX6_ship_1 : decode cX6_ship 1 = .ok (.aload_n 0, 1) := dk_42 (dk_at dksX6_ship_0 1 rfl rfl)
theorem dX6_ship_2 : decode cX6_ship 2 = .ok (.getfield 69, 3) := dk_180 0 69 (dk_at dksX6_ship_0 2 rfl rfl)
theorem dX6_ship_5 : decode cX6_ship 5 = .ok (.aload_n 0, 1) := dk_42 (dk_at dksX6_ship_0 5 rfl rfl)
theorem dX6_ship_6 : decode cX6_ship 6 = .ok (.getfield 137, 3) := dk_180 0 137 (dk_at dksX6_ship_0 6 rfl rfl)
theorem dX6_ship_9 : decode cX6_ship 9 = .ok (.iaload, 1) := dk_46 (dk_at dksX6_ship_0 9 rfl rfl)
theorem dX6_ship_10 : decode cX6_ship 10 = .ok (.bipush 8, 2) := dk_16 8 (dk_at dksX6_ship_0 10 rfl rfl)
theorem dX6_ship_12 : decode cX6_ship 12 = .ok (.if_icmp .ne 7, 3) := dk_160 0 7 (dk_at dksX6_ship_0 12 rfl rfl)
theorem dX6_ship_15 : decode cX6_ship 15 = .ok (.iconst 1, 1) := dk_4 (dk_at dksX6_ship_0 15 rfl rfl)
theorem dX6_ship_16 : decode cX6_ship 16 = .ok (.goto 4, 3) := dk_167 0 4 (dk_at dksX6_ship_0 16 rfl rfl)
theorem dX6_ship_19 : decode cX6_ship 19 = .ok (.iconst 0, 1) := dk_3 (dk_at dksX6_ship_0 19 rfl rfl)
theorem dX6_ship_20 : decode cX6_ship 20 = .ok (.invokevirtual 395, 3) := dk_182 1 139 (dk_at dksX6_ship_0 20 rfl rfl)
theorem dX6_ship_23 : decode cX6_ship 23 = .ok (.ifCond .ne 4, 3) := dk_154 0 4 (dk_at dksX6_ship_1 0 rfl rfl)
theorem dX6_ship_26 : decode cX6_ship 26 = .ok (.return_, 1) := dk_177 (dk_at dksX6_ship_1 3 rfl rfl)
theorem dX6_ship_27 : decode cX6_ship 27 = .ok (.bipush 8, 2) := dk_16 8 (dk_at dksX6_ship_1 4 rfl rfl)
theorem dX6_ship_29 : decode cX6_ship 29 = .ok (.aload_n 0, 1) := dk_42 (dk_at dksX6_ship_1 6 rfl rfl)
theorem dX6_ship_30 : decode cX6_ship 30 = .ok (.getfield 137, 3) := dk_180 0 137 (dk_at dksX6_ship_1 7 rfl rfl)
theorem dX6_ship_33 : decode cX6_ship 33 = .ok (.imul, 1) := dk_104 (dk_at dksX6_ship_1 10 rfl rfl)
theorem dX6_ship_34 : decode cX6_ship 34 = .ok (.aload_n 0, 1) := dk_42 (dk_at dksX6_ship_1 11 rfl rfl)
theorem dX6_ship_35 : decode cX6_ship 35 = .ok (.getfield 69, 3) := dk_180 0 69 (dk_at dksX6_ship_1 12 rfl rfl)
theorem dX6_ship_38 : decode cX6_ship 38 = .ok (.aload_n 0, 1) := dk_42 (dk_at dksX6_ship_1 15 rfl rfl)
theorem dX6_ship_39 : decode cX6_ship 39 = .ok (.getfield 137, 3) := dk_180 0 137 (dk_at dksX6_ship_1 16 rfl rfl)
theorem dX6_ship_42 : decode cX6_ship 42 = .ok (.iaload, 1) := dk_46 (dk_at dksX6_ship_1 19 rfl rfl)
theorem dX6_ship_43 : decode cX6_ship 43 = .ok (.iadd, 1) := dk_96 (dk_at dksX6_ship_1 20 rfl rfl)
theorem dX6_ship_44 : decode cX6_ship 44 = .ok (.istore_n 1, 1) := dk_60 (dk_at dksX6_ship_1 21 rfl rfl)
theorem dX6_ship_45 : decode cX6_ship 45 = .ok (.aload_n 0, 1) := dk_42 (dk_at dksX6_ship_1 22 rfl rfl)
theorem dX6_ship_46 : decode cX6_ship 46 = .ok (.getfield 72, 3) := dk_180 0 72 (dk_at dksX6_ship_2 0 rfl rfl)
theorem dX6_ship_49 : decode cX6_ship 49 = .ok (.iload_n 1, 1) := dk_27 (dk_at dksX6_ship_2 3 rfl rfl)
theorem dX6_ship_50 : decode cX6_ship 50 = .ok (.aload_n 0, 1) := dk_42 (dk_at dksX6_ship_2 4 rfl rfl)
theorem dX6_ship_51 : decode cX6_ship 51 = .ok (.invokevirtual 409, 3) := dk_182 1 153 (dk_at dksX6_ship_2 5 rfl rfl)
theorem dX6_ship_54 : decode cX6_ship 54 = .ok (.lastore, 1) := dk_80 (dk_at dksX6_ship_2 8 rfl rfl)
theorem dX6_ship_55 : decode cX6_ship 55 = .ok (.aload_n 0, 1) := dk_42 (dk_at dksX6_ship_2 9 rfl rfl)
theorem dX6_ship_56 : decode cX6_ship 56 = .ok (.ldc2_w 299, 3) := dk_20 1 43 (dk_at dksX6_ship_2 10 rfl rfl)
theorem dX6_ship_59 : decode cX6_ship 59 = .ok (.invokevirtual 406, 3) := dk_182 1 150 (dk_at dksX6_ship_2 13 rfl rfl)
theorem dX6_ship_62 : decode cX6_ship 62 = .ok (.aload_n 0, 1) := dk_42 (dk_at dksX6_ship_2 16 rfl rfl)
theorem dX6_ship_63 : decode cX6_ship 63 = .ok (.getfield 76, 3) := dk_180 0 76 (dk_at dksX6_ship_2 17 rfl rfl)
theorem dX6_ship_66 : decode cX6_ship 66 = .ok (.iload_n 1, 1) := dk_27 (dk_at dksX6_ship_2 20 rfl rfl)
theorem dX6_ship_67 : decode cX6_ship 67 = .ok (.aload_n 0, 1) := dk_42 (dk_at dksX6_ship_2 21 rfl rfl)
theorem dX6_ship_68 : decode cX6_ship 68 = .ok (.iconst 0, 1) := dk_3 (dk_at dksX6_ship_2 22 rfl rfl)
theorem dX6_ship_69 : decode cX6_ship 69 = .ok (.iconst 3, 1) := dk_6 (dk_at dksX6_ship_2 23 rfl rfl)
theorem dX6_ship_70 : decode cX6_ship 70 = .ok (.invokevirtual 385, 3) := dk_182 1 129 (dk_at dksX6_ship_3 0 rfl rfl)
theorem dX6_ship_73 : decode cX6_ship 73 = .ok (.iastore, 1) := dk_79 (dk_at dksX6_ship_3 3 rfl rfl)
theorem dX6_ship_74 : decode cX6_ship 74 = .ok (.aload_n 0, 1) := dk_42 (dk_at dksX6_ship_3 4 rfl rfl)
theorem dX6_ship_75 : decode cX6_ship 75 = .ok (.ldc2_w 301, 3) := dk_20 1 45 (dk_at dksX6_ship_3 5 rfl rfl)
theorem dX6_ship_78 : decode cX6_ship 78 = .ok (.invokevirtual 406, 3) := dk_182 1 150 (dk_at dksX6_ship_3 8 rfl rfl)
theorem dX6_ship_81 : decode cX6_ship 81 = .ok (.aload_n 0, 1) := dk_42 (dk_at dksX6_ship_3 11 rfl rfl)
theorem dX6_ship_82 : decode cX6_ship 82 = .ok (.getfield 79, 3) := dk_180 0 79 (dk_at dksX6_ship_3 12 rfl rfl)
theorem dX6_ship_85 : decode cX6_ship 85 = .ok (.iload_n 1, 1) := dk_27 (dk_at dksX6_ship_3 15 rfl rfl)
theorem dX6_ship_86 : decode cX6_ship 86 = .ok (.aload_n 0, 1) := dk_42 (dk_at dksX6_ship_3 16 rfl rfl)
theorem dX6_ship_87 : decode cX6_ship 87 = .ok (.iconst 1, 1) := dk_4 (dk_at dksX6_ship_3 17 rfl rfl)
theorem dX6_ship_88 : decode cX6_ship 88 = .ok (.iconst 4, 1) := dk_7 (dk_at dksX6_ship_3 18 rfl rfl)
theorem dX6_ship_89 : decode cX6_ship 89 = .ok (.invokevirtual 385, 3) := dk_182 1 129 (dk_at dksX6_ship_3 19 rfl rfl)
theorem dX6_ship_92 : decode cX6_ship 92 = .ok (.iastore, 1) := dk_79 (dk_at dksX6_ship_3 22 rfl rfl)
theorem dX6_ship_93 : decode cX6_ship 93 = .ok (.aload_n 0, 1) := dk_42 (dk_at dksX6_ship_3 23 rfl rfl)
theorem dX6_ship_94 : decode cX6_ship 94 = .ok (.ldc2_w 303, 3) := dk_20 1 47 (dk_at dksX6_ship_4 0 rfl rfl)
theorem dX6_ship_97 : decode cX6_ship 97 = .ok (.invokevirtual 406, 3) := dk_182 1 150 (dk_at dksX6_ship_4 3 rfl rfl)
theorem dX6_ship_100 : decode cX6_ship 100 = .ok (.aload_n 0, 1) := dk_42 (dk_at dksX6_ship_4 6 rfl rfl)
theorem dX6_ship_101 : decode cX6_ship 101 = .ok (.getfield 82, 3) := dk_180 0 82 (dk_at dksX6_ship_4 7 rfl rfl)
theorem dX6_ship_104 : decode cX6_ship 104 = .ok (.iload_n 1, 1) := dk_27 (dk_at dksX6_ship_4 10 rfl rfl)
theorem dX6_ship_105 : decode cX6_ship 105 = .ok (.aload_n 0, 1) := dk_42 (dk_at dksX6_ship_4 11 rfl rfl)
theorem dX6_ship_106 : decode cX6_ship 106 = .ok (.iconst 1, 1) := dk_4 (dk_at dksX6_ship_4 12 rfl rfl)
theorem dX6_ship_107 : decode cX6_ship 107 = .ok (.bipush 40, 2) := dk_16 40 (dk_at dksX6_ship_4 13 rfl rfl)
theorem dX6_ship_109 : decode cX6_ship 109 = .ok (.invokevirtual 385, 3) := dk_182 1 129 (dk_at dksX6_ship_4 15 rfl rfl)
theorem dX6_ship_112 : decode cX6_ship 112 = .ok (.iastore, 1) := dk_79 (dk_at dksX6_ship_4 18 rfl rfl)
theorem dX6_ship_113 : decode cX6_ship 113 = .ok (.aload_n 0, 1) := dk_42 (dk_at dksX6_ship_4 19 rfl rfl)
theorem dX6_ship_114 : decode cX6_ship 114 = .ok (.ldc2_w 305, 3) := dk_20 1 49 (dk_at dksX6_ship_4 20 rfl rfl)
theorem dX6_ship_117 : decode cX6_ship 117 = .ok (.invokevirtual 406, 3) := dk_182 1 150 (dk_at dksX6_ship_5 0 rfl rfl)
theorem dX6_ship_120 : decode cX6_ship 120 = .ok (.aload_n 0, 1) := dk_42 (dk_at dksX6_ship_5 3 rfl rfl)
theorem dX6_ship_121 : decode cX6_ship 121 = .ok (.getfield 85, 3) := dk_180 0 85 (dk_at dksX6_ship_5 4 rfl rfl)
theorem dX6_ship_124 : decode cX6_ship 124 = .ok (.iload_n 1, 1) := dk_27 (dk_at dksX6_ship_5 7 rfl rfl)
theorem dX6_ship_125 : decode cX6_ship 125 = .ok (.aload_n 0, 1) := dk_42 (dk_at dksX6_ship_5 8 rfl rfl)
theorem dX6_ship_126 : decode cX6_ship 126 = .ok (.iconst 0, 1) := dk_3 (dk_at dksX6_ship_5 9 rfl rfl)
theorem dX6_ship_127 : decode cX6_ship 127 = .ok (.bipush 40, 2) := dk_16 40 (dk_at dksX6_ship_5 10 rfl rfl)
theorem dX6_ship_129 : decode cX6_ship 129 = .ok (.invokevirtual 385, 3) := dk_182 1 129 (dk_at dksX6_ship_5 12 rfl rfl)
theorem dX6_ship_132 : decode cX6_ship 132 = .ok (.iastore, 1) := dk_79 (dk_at dksX6_ship_5 15 rfl rfl)
theorem dX6_ship_133 : decode cX6_ship 133 = .ok (.aload_n 0, 1) := dk_42 (dk_at dksX6_ship_5 16 rfl rfl)
theorem dX6_ship_134 : decode cX6_ship 134 = .ok (.getfield 36, 3) := dk_180 0 36 (dk_at dksX6_ship_5 17 rfl rfl)
theorem dX6_ship_137 : decode cX6_ship 137 = .ok (.ifCond .ne 16, 3) := dk_154 0 16 (dk_at dksX6_ship_5 20 rfl rfl)
theorem dX6_ship_140 : decode cX6_ship 140 = .ok (.aload_n 0, 1) := dk_42 (dk_at dksX6_ship_5 23 rfl rfl)
theorem dX6_ship_141 : decode cX6_ship 141 = .ok (.getfield 69, 3) := dk_180 0 69 (dk_at dksX6_ship_6 0 rfl rfl)
theorem dX6_ship_144 : decode cX6_ship 144 = .ok (.aload_n 0, 1) := dk_42 (dk_at dksX6_ship_6 3 rfl rfl)
theorem dX6_ship_145 : decode cX6_ship 145 = .ok (.getfield 137, 3) := dk_180 0 137 (dk_at dksX6_ship_6 4 rfl rfl)
theorem dX6_ship_148 : decode cX6_ship 148 = .ok (.dup2, 1) := dk_92 (dk_at dksX6_ship_6 7 rfl rfl)
theorem dX6_ship_149 : decode cX6_ship 149 = .ok (.iaload, 1) := dk_46 (dk_at dksX6_ship_6 8 rfl rfl)
theorem dX6_ship_150 : decode cX6_ship 150 = .ok (.iconst 1, 1) := dk_4 (dk_at dksX6_ship_6 9 rfl rfl)
theorem dX6_ship_151 : decode cX6_ship 151 = .ok (.iadd, 1) := dk_96 (dk_at dksX6_ship_6 10 rfl rfl)
theorem dX6_ship_152 : decode cX6_ship 152 = .ok (.iastore, 1) := dk_79 (dk_at dksX6_ship_6 11 rfl rfl)
theorem dX6_ship_153 : decode cX6_ship 153 = .ok (.return_, 1) := dk_177 (dk_at dksX6_ship_6 12 rfl rfl)
abbrev cX6_fresh : ByteArray := prog_29_method_30_code
def yX6_fresh : MethodName := ⟨RX6, "fresh", "()J"⟩
def dkwX6_fresh_3 : List UInt8 := [42, 180, 0, 36, 154, 0, 7, 42, 182, 1, 30, 31, 173]
abbrev dktX6_fresh_3 : List UInt8 := dkwX6_fresh_3 ++ []
def dkwX6_fresh_2 : List UInt8 := [180, 0, 32, 182, 1, 125, 2, 159, 0, 12, 42, 5, 42, 180, 0, 23, 182, 1, 23, 42, 180, 0, 32, 64]
abbrev dktX6_fresh_2 : List UInt8 := dkwX6_fresh_2 ++ dktX6_fresh_3
def dkwX6_fresh_1 : List UInt8 := [182, 1, 122, 153, 0, 12, 42, 4, 42, 180, 0, 23, 182, 1, 23, 42, 180, 0, 36, 154, 0, 24, 42, 42]
abbrev dktX6_fresh_1 : List UInt8 := dkwX6_fresh_1 ++ dktX6_fresh_2
def dkwX6_fresh_0 : List UInt8 := [42, 180, 0, 36, 158, 0, 5, 9, 173, 42, 180, 0, 20, 4, 160, 0, 14, 42, 42, 180, 0, 32]
abbrev dktX6_fresh_0 : List UInt8 := dkwX6_fresh_0 ++ dktX6_fresh_1
theorem dksX6_fresh_0 : cX6_fresh.data.toList.drop 0 = dktX6_fresh_0 := by decide +kernel
theorem dksX6_fresh_1 : cX6_fresh.data.toList.drop 22 = dktX6_fresh_1 := dk_seg dksX6_fresh_0 22 rfl rfl
theorem dksX6_fresh_2 : cX6_fresh.data.toList.drop 46 = dktX6_fresh_2 := dk_seg dksX6_fresh_1 24 rfl rfl
theorem dksX6_fresh_3 : cX6_fresh.data.toList.drop 70 = dktX6_fresh_3 := dk_seg dksX6_fresh_2 24 rfl rfl
theorem dX6_fresh_0 : decode cX6_fresh 0 = .ok (.aload_n 0, 1) := dk_42 (dk_at dksX6_fresh_0 0 rfl rfl)
theorem dX6_fresh_1 : decode cX6_fresh 1 = .ok (.getfield 36, 3) := dk_180 0 36 (dk_at dksX6_fresh_0 1 rfl rfl)
theorem dX6_fresh_4 : decode cX6_fresh 4 = .ok (.ifCond .le 5, 3) := dk_158 0 5 (dk_at dksX6_fresh_0 4 rfl rfl)
theorem dX6_fresh_7 : decode cX6_fresh 7 = .ok (.lconst 0, 1) := dk_9 (dk_at dksX6_fresh_0 7 rfl rfl)
theorem dX6_fresh_8 : decode cX6_fresh 8 = .ok (.lreturn, 1) := dk_173 (dk_at dksX6_fresh_0 8 rfl rfl)
theorem dX6_fresh_9 : decode cX6_fresh 9 = .ok (.aload_n 0, 1) := dk_42 (dk_at dksX6_fresh_0 9 rfl rfl)
theorem dX6_fresh_10 : decode cX6_fresh 10 = .ok (.getfield 20, 3) := dk_180 0 20 (dk_at dksX6_fresh_0 10 rfl rfl)
theorem dX6_fresh_13 : decode cX6_fresh 13 = .ok (.iconst 1, 1) := dk_4 (dk_at dksX6_fresh_0 13 rfl rfl)
theorem dX6_fresh_14 : decode cX6_fresh 14 = .ok (.if_icmp .ne 14, 3) := dk_160 0 14 (dk_at dksX6_fresh_0 14 rfl rfl)
theorem dX6_fresh_17 : decode cX6_fresh 17 = .ok (.aload_n 0, 1) := dk_42 (dk_at dksX6_fresh_0 17 rfl rfl)
theorem dX6_fresh_18 : decode cX6_fresh 18 = .ok (.aload_n 0, 1) := dk_42 (dk_at dksX6_fresh_0 18 rfl rfl)
theorem dX6_fresh_19 : decode cX6_fresh 19 = .ok (.getfield 32, 3) := dk_180 0 32 (dk_at dksX6_fresh_0 19 rfl rfl)
theorem dX6_fresh_22 : decode cX6_fresh 22 = .ok (.invokevirtual 378, 3) := dk_182 1 122 (dk_at dksX6_fresh_1 0 rfl rfl)
theorem dX6_fresh_25 : decode cX6_fresh 25 = .ok (.ifCond .eq 12, 3) := dk_153 0 12 (dk_at dksX6_fresh_1 3 rfl rfl)
theorem dX6_fresh_28 : decode cX6_fresh 28 = .ok (.aload_n 0, 1) := dk_42 (dk_at dksX6_fresh_1 6 rfl rfl)
theorem dX6_fresh_29 : decode cX6_fresh 29 = .ok (.iconst 1, 1) := dk_4 (dk_at dksX6_fresh_1 7 rfl rfl)
theorem dX6_fresh_30 : decode cX6_fresh 30 = .ok (.aload_n 0, 1) := dk_42 (dk_at dksX6_fresh_1 8 rfl rfl)
theorem dX6_fresh_31 : decode cX6_fresh 31 = .ok (.getfield 23, 3) := dk_180 0 23 (dk_at dksX6_fresh_1 9 rfl rfl)
theorem dX6_fresh_34 : decode cX6_fresh 34 = .ok (.invokevirtual 279, 3) := dk_182 1 23 (dk_at dksX6_fresh_1 12 rfl rfl)
theorem dX6_fresh_37 : decode cX6_fresh 37 = .ok (.aload_n 0, 1) := dk_42 (dk_at dksX6_fresh_1 15 rfl rfl)
theorem dX6_fresh_38 : decode cX6_fresh 38 = .ok (.getfield 36, 3) := dk_180 0 36 (dk_at dksX6_fresh_1 16 rfl rfl)
theorem dX6_fresh_41 : decode cX6_fresh 41 = .ok (.ifCond .ne 24, 3) := dk_154 0 24 (dk_at dksX6_fresh_1 19 rfl rfl)
theorem dX6_fresh_44 : decode cX6_fresh 44 = .ok (.aload_n 0, 1) := dk_42 (dk_at dksX6_fresh_1 22 rfl rfl)
theorem dX6_fresh_45 : decode cX6_fresh 45 = .ok (.aload_n 0, 1) := dk_42 (dk_at dksX6_fresh_1 23 rfl rfl)
theorem dX6_fresh_46 : decode cX6_fresh 46 = .ok (.getfield 32, 3) := dk_180 0 32 (dk_at dksX6_fresh_2 0 rfl rfl)
theorem dX6_fresh_49 : decode cX6_fresh 49 = .ok (.invokevirtual 381, 3) := dk_182 1 125 (dk_at dksX6_fresh_2 3 rfl rfl)
theorem dX6_fresh_52 : decode cX6_fresh 52 = .ok (.iconst (-1), 1) := dk_2 (dk_at dksX6_fresh_2 6 rfl rfl)
theorem dX6_fresh_53 : decode cX6_fresh 53 = .ok (.if_icmp .eq 12, 3) := dk_159 0 12 (dk_at dksX6_fresh_2 7 rfl rfl)
theorem dX6_fresh_56 : decode cX6_fresh 56 = .ok (.aload_n 0, 1) := dk_42 (dk_at dksX6_fresh_2 10 rfl rfl)
theorem dX6_fresh_57 : decode cX6_fresh 57 = .ok (.iconst 2, 1) := dk_5 (dk_at dksX6_fresh_2 11 rfl rfl)
theorem dX6_fresh_58 : decode cX6_fresh 58 = .ok (.aload_n 0, 1) := dk_42 (dk_at dksX6_fresh_2 12 rfl rfl)
theorem dX6_fresh_59 : decode cX6_fresh 59 = .ok (.getfield 23, 3) := dk_180 0 23 (dk_at dksX6_fresh_2 13 rfl rfl)
theorem dX6_fresh_62 : decode cX6_fresh 62 = .ok (.invokevirtual 279, 3) := dk_182 1 23 (dk_at dksX6_fresh_2 16 rfl rfl)
theorem dX6_fresh_65 : decode cX6_fresh 65 = .ok (.aload_n 0, 1) := dk_42 (dk_at dksX6_fresh_2 19 rfl rfl)
theorem dX6_fresh_66 : decode cX6_fresh 66 = .ok (.getfield 32, 3) := dk_180 0 32 (dk_at dksX6_fresh_2 20 rfl rfl)
theorem dX6_fresh_69 : decode cX6_fresh 69 = .ok (.lstore_n 1, 1) := dk_64 (dk_at dksX6_fresh_2 23 rfl rfl)
theorem dX6_fresh_70 : decode cX6_fresh 70 = .ok (.aload_n 0, 1) := dk_42 (dk_at dksX6_fresh_3 0 rfl rfl)
theorem dX6_fresh_71 : decode cX6_fresh 71 = .ok (.getfield 36, 3) := dk_180 0 36 (dk_at dksX6_fresh_3 1 rfl rfl)
theorem dX6_fresh_74 : decode cX6_fresh 74 = .ok (.ifCond .ne 7, 3) := dk_154 0 7 (dk_at dksX6_fresh_3 4 rfl rfl)
theorem dX6_fresh_77 : decode cX6_fresh 77 = .ok (.aload_n 0, 1) := dk_42 (dk_at dksX6_fresh_3 7 rfl rfl)
theorem dX6_fresh_78 : decode cX6_fresh 78 = .ok (.invokevirtual 286, 3) := dk_182 1 30 (dk_at dksX6_fresh_3 8 rfl rfl)
theorem dX6_fresh_81 : decode cX6_fresh 81 = .ok (.lload_n 1, 1) := dk_31 (dk_at dksX6_fresh_3 11 rfl rfl)
theorem dX6_fresh_82 : decode cX6_fresh 82 = .ok (.lreturn, 1) := dk_173 (dk_at dksX6_fresh_3 12 rfl rfl)
abbrev cX6_isOwn : ByteArray := prog_29_method_13_code
def yX6_isOwn : MethodName := ⟨RX6, "isOwn", "(J)Z"⟩
def dkwX6_isOwn_9 : List UInt8 := [172, 31, 20, 1, 83, 148, 153, 0, 11, 31, 20, 1, 85, 148, 154, 0, 5, 4, 172, 3, 172]
abbrev dktX6_isOwn_9 : List UInt8 := dkwX6_isOwn_9 ++ []
def dkwX6_isOwn_8 : List UInt8 := [20, 1, 77, 148, 153, 0, 19, 31, 20, 1, 79, 148, 153, 0, 11, 31, 20, 1, 81, 148, 154, 0, 5, 4]
abbrev dktX6_isOwn_8 : List UInt8 := dkwX6_isOwn_8 ++ dktX6_isOwn_9
def dkwX6_isOwn_7 : List UInt8 := [154, 0, 5, 4, 172, 31, 20, 1, 73, 148, 153, 0, 35, 31, 20, 1, 75, 148, 153, 0, 27, 31]
abbrev dktX6_isOwn_7 : List UInt8 := dkwX6_isOwn_7 ++ dktX6_isOwn_8
def dkwX6_isOwn_6 : List UInt8 := [153, 0, 27, 31, 20, 1, 67, 148, 153, 0, 19, 31, 20, 1, 69, 148, 153, 0, 11, 31, 20, 1, 71, 148]
abbrev dktX6_isOwn_6 : List UInt8 := dkwX6_isOwn_6 ++ dktX6_isOwn_7
def dkwX6_isOwn_5 : List UInt8 := [20, 1, 61, 148, 154, 0, 5, 4, 172, 31, 20, 1, 63, 148, 153, 0, 35, 31, 20, 1, 65, 148]
abbrev dktX6_isOwn_5 : List UInt8 := dkwX6_isOwn_5 ++ dktX6_isOwn_6
def dkwX6_isOwn_4 : List UInt8 := [20, 1, 55, 148, 153, 0, 27, 31, 20, 1, 57, 148, 153, 0, 19, 31, 20, 1, 59, 148, 153, 0, 11, 31]
abbrev dktX6_isOwn_4 : List UInt8 := dkwX6_isOwn_4 ++ dktX6_isOwn_5
def dkwX6_isOwn_3 : List UInt8 := [153, 0, 11, 31, 20, 1, 51, 148, 154, 0, 5, 4, 172, 31, 20, 1, 53, 148, 153, 0, 35, 31]
abbrev dktX6_isOwn_3 : List UInt8 := dkwX6_isOwn_3 ++ dktX6_isOwn_4
def dkwX6_isOwn_2 : List UInt8 := [153, 0, 35, 31, 20, 1, 45, 148, 153, 0, 27, 31, 20, 1, 47, 148, 153, 0, 19, 31, 20, 1, 49, 148]
abbrev dktX6_isOwn_2 : List UInt8 := dkwX6_isOwn_2 ++ dktX6_isOwn_3
def dkwX6_isOwn_1 : List UInt8 := [31, 20, 1, 39, 148, 153, 0, 11, 31, 20, 1, 41, 148, 154, 0, 5, 4, 172, 31, 20, 1, 43, 148]
abbrev dktX6_isOwn_1 : List UInt8 := dkwX6_isOwn_1 ++ dktX6_isOwn_2
def dkwX6_isOwn_0 : List UInt8 := [31, 20, 1, 33, 148, 153, 0, 35, 31, 20, 1, 35, 148, 153, 0, 27, 31, 20, 1, 37, 148, 153, 0, 19]
abbrev dktX6_isOwn_0 : List UInt8 := dkwX6_isOwn_0 ++ dktX6_isOwn_1
theorem dksX6_isOwn_0 : cX6_isOwn.data.toList.drop 0 = dktX6_isOwn_0 := by decide +kernel
theorem dksX6_isOwn_1 : cX6_isOwn.data.toList.drop 24 = dktX6_isOwn_1 := dk_seg dksX6_isOwn_0 24 rfl rfl
theorem dksX6_isOwn_2 : cX6_isOwn.data.toList.drop 47 = dktX6_isOwn_2 := dk_seg dksX6_isOwn_1 23 rfl rfl
theorem dksX6_isOwn_3 : cX6_isOwn.data.toList.drop 71 = dktX6_isOwn_3 := dk_seg dksX6_isOwn_2 24 rfl rfl
theorem dksX6_isOwn_4 : cX6_isOwn.data.toList.drop 93 = dktX6_isOwn_4 := dk_seg dksX6_isOwn_3 22 rfl rfl
theorem dksX6_isOwn_5 : cX6_isOwn.data.toList.drop 117 = dktX6_isOwn_5 := dk_seg dksX6_isOwn_4 24 rfl rfl
theorem dksX6_isOwn_6 : cX6_isOwn.data.toList.drop 139 = dktX6_isOwn_6 := dk_seg dksX6_isOwn_5 22 rfl rfl
theorem dksX6_isOwn_7 : cX6_isOwn.data.toList.drop 163 = dktX6_isOwn_7 := dk_seg dksX6_isOwn_6 24 rfl rfl
theorem dksX6_isOwn_8 : cX6_isOwn.data.toList.drop 185 = dktX6_isOwn_8 := dk_seg dksX6_isOwn_7 22 rfl rfl
theorem dksX6_isOwn_9 : cX6_isOwn.data.toList.drop 209 = dktX6_isOwn_9 := dk_seg dksX6_isOwn_8 24 rfl rfl
theorem dX6_isOwn_0 : decode cX6_isOwn 0 = .ok (.lload_n 1, 1) := dk_31 (dk_at dksX6_isOwn_0 0 rfl rfl)
theorem dX6_isOwn_1 : decode cX6_isOwn 1 = .ok (.ldc2_w 289, 3) := dk_20 1 33 (dk_at dksX6_isOwn_0 1 rfl rfl)
theorem dX6_isOwn_4 : decode cX6_isOwn 4 = .ok (.lcmp, 1) := dk_148 (dk_at dksX6_isOwn_0 4 rfl rfl)
theorem dX6_isOwn_5 : decode cX6_isOwn 5 = .ok (.ifCond .eq 35, 3) := dk_153 0 35 (dk_at dksX6_isOwn_0 5 rfl rfl)
theorem dX6_isOwn_8 : decode cX6_isOwn 8 = .ok (.lload_n 1, 1) := dk_31 (dk_at dksX6_isOwn_0 8 rfl rfl)
theorem dX6_isOwn_9 : decode cX6_isOwn 9 = .ok (.ldc2_w 291, 3) := dk_20 1 35 (dk_at dksX6_isOwn_0 9 rfl rfl)
theorem dX6_isOwn_12 : decode cX6_isOwn 12 = .ok (.lcmp, 1) := dk_148 (dk_at dksX6_isOwn_0 12 rfl rfl)
theorem dX6_isOwn_13 : decode cX6_isOwn 13 = .ok (.ifCond .eq 27, 3) := dk_153 0 27 (dk_at dksX6_isOwn_0 13 rfl rfl)
theorem dX6_isOwn_16 : decode cX6_isOwn 16 = .ok (.lload_n 1, 1) := dk_31 (dk_at dksX6_isOwn_0 16 rfl rfl)
theorem dX6_isOwn_17 : decode cX6_isOwn 17 = .ok (.ldc2_w 293, 3) := dk_20 1 37 (dk_at dksX6_isOwn_0 17 rfl rfl)
theorem dX6_isOwn_20 : decode cX6_isOwn 20 = .ok (.lcmp, 1) := dk_148 (dk_at dksX6_isOwn_0 20 rfl rfl)
theorem dX6_isOwn_21 : decode cX6_isOwn 21 = .ok (.ifCond .eq 19, 3) := dk_153 0 19 (dk_at dksX6_isOwn_0 21 rfl rfl)
theorem dX6_isOwn_24 : decode cX6_isOwn 24 = .ok (.lload_n 1, 1) := dk_31 (dk_at dksX6_isOwn_1 0 rfl rfl)
theorem dX6_isOwn_25 : decode cX6_isOwn 25 = .ok (.ldc2_w 295, 3) := dk_20 1 39 (dk_at dksX6_isOwn_1 1 rfl rfl)
theorem dX6_isOwn_28 : decode cX6_isOwn 28 = .ok (.lcmp, 1) := dk_148 (dk_at dksX6_isOwn_1 4 rfl rfl)
theorem dX6_isOwn_29 : decode cX6_isOwn 29 = .ok (.ifCond .eq 11, 3) := dk_153 0 11 (dk_at dksX6_isOwn_1 5 rfl rfl)
theorem dX6_isOwn_32 : decode cX6_isOwn 32 = .ok (.lload_n 1, 1) := dk_31 (dk_at dksX6_isOwn_1 8 rfl rfl)
theorem dX6_isOwn_33 : decode cX6_isOwn 33 = .ok (.ldc2_w 297, 3) := dk_20 1 41 (dk_at dksX6_isOwn_1 9 rfl rfl)
theorem dX6_isOwn_36 : decode cX6_isOwn 36 = .ok (.lcmp, 1) := dk_148 (dk_at dksX6_isOwn_1 12 rfl rfl)
theorem dX6_isOwn_37 : decode cX6_isOwn 37 = .ok (.ifCond .ne 5, 3) := dk_154 0 5 (dk_at dksX6_isOwn_1 13 rfl rfl)
theorem dX6_isOwn_40 : decode cX6_isOwn 40 = .ok (.iconst 1, 1) := dk_4 (dk_at dksX6_isOwn_1 16 rfl rfl)
theorem dX6_isOwn_41 : decode cX6_isOwn 41 = .ok (.ireturn, 1) := dk_172 (dk_at dksX6_isOwn_1 17 rfl rfl)
theorem dX6_isOwn_42 : decode cX6_isOwn 42 = .ok (.lload_n 1, 1) := dk_31 (dk_at dksX6_isOwn_1 18 rfl rfl)
theorem dX6_isOwn_43 : decode cX6_isOwn 43 = .ok (.ldc2_w 299, 3) := dk_20 1 43 (dk_at dksX6_isOwn_1 19 rfl rfl)
theorem dX6_isOwn_46 : decode cX6_isOwn 46 = .ok (.lcmp, 1) := dk_148 (dk_at dksX6_isOwn_1 22 rfl rfl)
theorem dX6_isOwn_47 : decode cX6_isOwn 47 = .ok (.ifCond .eq 35, 3) := dk_153 0 35 (dk_at dksX6_isOwn_2 0 rfl rfl)
theorem dX6_isOwn_50 : decode cX6_isOwn 50 = .ok (.lload_n 1, 1) := dk_31 (dk_at dksX6_isOwn_2 3 rfl rfl)
theorem dX6_isOwn_51 : decode cX6_isOwn 51 = .ok (.ldc2_w 301, 3) := dk_20 1 45 (dk_at dksX6_isOwn_2 4 rfl rfl)
theorem dX6_isOwn_54 : decode cX6_isOwn 54 = .ok (.lcmp, 1) := dk_148 (dk_at dksX6_isOwn_2 7 rfl rfl)
theorem dX6_isOwn_55 : decode cX6_isOwn 55 = .ok (.ifCond .eq 27, 3) := dk_153 0 27 (dk_at dksX6_isOwn_2 8 rfl rfl)
theorem dX6_isOwn_58 : decode cX6_isOwn 58 = .ok (.lload_n 1, 1) := dk_31 (dk_at dksX6_isOwn_2 11 rfl rfl)
theorem dX6_isOwn_59 : decode cX6_isOwn 59 = .ok (.ldc2_w 303, 3) := dk_20 1 47 (dk_at dksX6_isOwn_2 12 rfl rfl)
theorem dX6_isOwn_62 : decode cX6_isOwn 62 = .ok (.lcmp, 1) := dk_148 (dk_at dksX6_isOwn_2 15 rfl rfl)
theorem dX6_isOwn_63 : decode cX6_isOwn 63 = .ok (.ifCond .eq 19, 3) := dk_153 0 19 (dk_at dksX6_isOwn_2 16 rfl rfl)
theorem dX6_isOwn_66 : decode cX6_isOwn 66 = .ok (.lload_n 1, 1) := dk_31 (dk_at dksX6_isOwn_2 19 rfl rfl)
theorem dX6_isOwn_67 : decode cX6_isOwn 67 = .ok (.ldc2_w 305, 3) := dk_20 1 49 (dk_at dksX6_isOwn_2 20 rfl rfl)
theorem dX6_isOwn_70 : decode cX6_isOwn 70 = .ok (.lcmp, 1) := dk_148 (dk_at dksX6_isOwn_2 23 rfl rfl)
theorem dX6_isOwn_71 : decode cX6_isOwn 71 = .ok (.ifCond .eq 11, 3) := dk_153 0 11 (dk_at dksX6_isOwn_3 0 rfl rfl)
theorem dX6_isOwn_74 : decode cX6_isOwn 74 = .ok (.lload_n 1, 1) := dk_31 (dk_at dksX6_isOwn_3 3 rfl rfl)
theorem dX6_isOwn_75 : decode cX6_isOwn 75 = .ok (.ldc2_w 307, 3) := dk_20 1 51 (dk_at dksX6_isOwn_3 4 rfl rfl)
theorem dX6_isOwn_78 : decode cX6_isOwn 78 = .ok (.lcmp, 1) := dk_148 (dk_at dksX6_isOwn_3 7 rfl rfl)
theorem dX6_isOwn_79 : decode cX6_isOwn 79 = .ok (.ifCond .ne 5, 3) := dk_154 0 5 (dk_at dksX6_isOwn_3 8 rfl rfl)
theorem dX6_isOwn_82 : decode cX6_isOwn 82 = .ok (.iconst 1, 1) := dk_4 (dk_at dksX6_isOwn_3 11 rfl rfl)
theorem dX6_isOwn_83 : decode cX6_isOwn 83 = .ok (.ireturn, 1) := dk_172 (dk_at dksX6_isOwn_3 12 rfl rfl)
theorem dX6_isOwn_84 : decode cX6_isOwn 84 = .ok (.lload_n 1, 1) := dk_31 (dk_at dksX6_isOwn_3 13 rfl rfl)
theorem dX6_isOwn_85 : decode cX6_isOwn 85 = .ok (.ldc2_w 309, 3) := dk_20 1 53 (dk_at dksX6_isOwn_3 14 rfl rfl)
theorem dX6_isOwn_88 : decode cX6_isOwn 88 = .ok (.lcmp, 1) := dk_148 (dk_at dksX6_isOwn_3 17 rfl rfl)
theorem dX6_isOwn_89 : decode cX6_isOwn 89 = .ok (.ifCond .eq 35, 3) := dk_153 0 35 (dk_at dksX6_isOwn_3 18 rfl rfl)
theorem dX6_isOwn_92 : decode cX6_isOwn 92 = .ok (.lload_n 1, 1) := dk_31 (dk_at dksX6_isOwn_3 21 rfl rfl)
theorem dX6_isOwn_93 : decode cX6_isOwn 93 = .ok (.ldc2_w 311, 3) := dk_20 1 55 (dk_at dksX6_isOwn_4 0 rfl rfl)
theorem dX6_isOwn_96 : decode cX6_isOwn 96 = .ok (.lcmp, 1) := dk_148 (dk_at dksX6_isOwn_4 3 rfl rfl)
theorem dX6_isOwn_97 : decode cX6_isOwn 97 = .ok (.ifCond .eq 27, 3) := dk_153 0 27 (dk_at dksX6_isOwn_4 4 rfl rfl)
theorem dX6_isOwn_100 : decode cX6_isOwn 100 = .ok (.lload_n 1, 1) := dk_31 (dk_at dksX6_isOwn_4 7 rfl rfl)
theorem dX6_isOwn_101 : decode cX6_isOwn 101 = .ok (.ldc2_w 313, 3) := dk_20 1 57 (dk_at dksX6_isOwn_4 8 rfl rfl)
theorem dX6_isOwn_104 : decode cX6_isOwn 104 = .ok (.lcmp, 1) := dk_148 (dk_at dksX6_isOwn_4 11 rfl rfl)
theorem dX6_isOwn_105 : decode cX6_isOwn 105 = .ok (.ifCond .eq 19, 3) := dk_153 0 19 (dk_at dksX6_isOwn_4 12 rfl rfl)
theorem dX6_isOwn_108 : decode cX6_isOwn 108 = .ok (.lload_n 1, 1) := dk_31 (dk_at dksX6_isOwn_4 15 rfl rfl)
theorem dX6_isOwn_109 : decode cX6_isOwn 109 = .ok (.ldc2_w 315, 3) := dk_20 1 59 (dk_at dksX6_isOwn_4 16 rfl rfl)
theorem dX6_isOwn_112 : decode cX6_isOwn 112 = .ok (.lcmp, 1) := dk_148 (dk_at dksX6_isOwn_4 19 rfl rfl)
theorem dX6_isOwn_113 : decode cX6_isOwn 113 = .ok (.ifCond .eq 11, 3) := dk_153 0 11 (dk_at dksX6_isOwn_4 20 rfl rfl)
theorem dX6_isOwn_116 : decode cX6_isOwn 116 = .ok (.lload_n 1, 1) := dk_31 (dk_at dksX6_isOwn_4 23 rfl rfl)
theorem dX6_isOwn_117 : decode cX6_isOwn 117 = .ok (.ldc2_w 317, 3) := dk_20 1 61 (dk_at dksX6_isOwn_5 0 rfl rfl)
theorem dX6_isOwn_120 : decode cX6_isOwn 120 = .ok (.lcmp, 1) := dk_148 (dk_at dksX6_isOwn_5 3 rfl rfl)
theorem dX6_isOwn_121 : decode cX6_isOwn 121 = .ok (.ifCond .ne 5, 3) := dk_154 0 5 (dk_at dksX6_isOwn_5 4 rfl rfl)
theorem dX6_isOwn_124 : decode cX6_isOwn 124 = .ok (.iconst 1, 1) := dk_4 (dk_at dksX6_isOwn_5 7 rfl rfl)
theorem dX6_isOwn_125 : decode cX6_isOwn 125 = .ok (.ireturn, 1) := dk_172 (dk_at dksX6_isOwn_5 8 rfl rfl)
theorem dX6_isOwn_126 : decode cX6_isOwn 126 = .ok (.lload_n 1, 1) := dk_31 (dk_at dksX6_isOwn_5 9 rfl rfl)
theorem dX6_isOwn_127 : decode cX6_isOwn 127 = .ok (.ldc2_w 319, 3) := dk_20 1 63 (dk_at dksX6_isOwn_5 10 rfl rfl)
theorem dX6_isOwn_130 : decode cX6_isOwn 130 = .ok (.lcmp, 1) := dk_148 (dk_at dksX6_isOwn_5 13 rfl rfl)
theorem dX6_isOwn_131 : decode cX6_isOwn 131 = .ok (.ifCond .eq 35, 3) := dk_153 0 35 (dk_at dksX6_isOwn_5 14 rfl rfl)
theorem dX6_isOwn_134 : decode cX6_isOwn 134 = .ok (.lload_n 1, 1) := dk_31 (dk_at dksX6_isOwn_5 17 rfl rfl)
theorem dX6_isOwn_135 : decode cX6_isOwn 135 = .ok (.ldc2_w 321, 3) := dk_20 1 65 (dk_at dksX6_isOwn_5 18 rfl rfl)
theorem dX6_isOwn_138 : decode cX6_isOwn 138 = .ok (.lcmp, 1) := dk_148 (dk_at dksX6_isOwn_5 21 rfl rfl)
theorem dX6_isOwn_139 : decode cX6_isOwn 139 = .ok (.ifCond .eq 27, 3) := dk_153 0 27 (dk_at dksX6_isOwn_6 0 rfl rfl)
theorem dX6_isOwn_142 : decode cX6_isOwn 142 = .ok (.lload_n 1, 1) := dk_31 (dk_at dksX6_isOwn_6 3 rfl rfl)
theorem dX6_isOwn_143 : decode cX6_isOwn 143 = .ok (.ldc2_w 323, 3) := dk_20 1 67 (dk_at dksX6_isOwn_6 4 rfl rfl)
theorem dX6_isOwn_146 : decode cX6_isOwn 146 = .ok (.lcmp, 1) := dk_148 (dk_at dksX6_isOwn_6 7 rfl rfl)
theorem dX6_isOwn_147 : decode cX6_isOwn 147 = .ok (.ifCond .eq 19, 3) := dk_153 0 19 (dk_at dksX6_isOwn_6 8 rfl rfl)
theorem dX6_isOwn_150 : decode cX6_isOwn 150 = .ok (.lload_n 1, 1) := dk_31 (dk_at dksX6_isOwn_6 11 rfl rfl)
theorem dX6_isOwn_151 : decode cX6_isOwn 151 = .ok (.ldc2_w 325, 3) := dk_20 1 69 (dk_at dksX6_isOwn_6 12 rfl rfl)
theorem dX6_isOwn_154 : decode cX6_isOwn 154 = .ok (.lcmp, 1) := dk_148 (dk_at dksX6_isOwn_6 15 rfl rfl)
theorem dX6_isOwn_155 : decode cX6_isOwn 155 = .ok (.ifCond .eq 11, 3) := dk_153 0 11 (dk_at dksX6_isOwn_6 16 rfl rfl)
theorem dX6_isOwn_158 : decode cX6_isOwn 158 = .ok (.lload_n 1, 1) := dk_31 (dk_at dksX6_isOwn_6 19 rfl rfl)
theorem dX6_isOwn_159 : decode cX6_isOwn 159 = .ok (.ldc2_w 327, 3) := dk_20 1 71 (dk_at dksX6_isOwn_6 20 rfl rfl)
theorem dX6_isOwn_162 : decode cX6_isOwn 162 = .ok (.lcmp, 1) := dk_148 (dk_at dksX6_isOwn_6 23 rfl rfl)
theorem dX6_isOwn_163 : decode cX6_isOwn 163 = .ok (.ifCond .ne 5, 3) := dk_154 0 5 (dk_at dksX6_isOwn_7 0 rfl rfl)
theorem dX6_isOwn_166 : decode cX6_isOwn 166 = .ok (.iconst 1, 1) := dk_4 (dk_at dksX6_isOwn_7 3 rfl rfl)
theorem dX6_isOwn_167 : decode cX6_isOwn 167 = .ok (.ireturn, 1) := dk_172 (dk_at dksX6_isOwn_7 4 rfl rfl)
theorem dX6_isOwn_168 : decode cX6_isOwn 168 = .ok (.lload_n 1, 1) := dk_31 (dk_at dksX6_isOwn_7 5 rfl rfl)
theorem dX6_isOwn_169 : decode cX6_isOwn 169 = .ok (.ldc2_w 329, 3) := dk_20 1 73 (dk_at dksX6_isOwn_7 6 rfl rfl)
theorem dX6_isOwn_172 : decode cX6_isOwn 172 = .ok (.lcmp, 1) := dk_148 (dk_at dksX6_isOwn_7 9 rfl rfl)
theorem dX6_isOwn_173 : decode cX6_isOwn 173 = .ok (.ifCond .eq 35, 3) := dk_153 0 35 (dk_at dksX6_isOwn_7 10 rfl rfl)
theorem dX6_isOwn_176 : decode cX6_isOwn 176 = .ok (.lload_n 1, 1) := dk_31 (dk_at dksX6_isOwn_7 13 rfl rfl)
theorem dX6_isOwn_177 : decode cX6_isOwn 177 = .ok (.ldc2_w 331, 3) := dk_20 1 75 (dk_at dksX6_isOwn_7 14 rfl rfl)
theorem dX6_isOwn_180 : decode cX6_isOwn 180 = .ok (.lcmp, 1) := dk_148 (dk_at dksX6_isOwn_7 17 rfl rfl)
theorem dX6_isOwn_181 : decode cX6_isOwn 181 = .ok (.ifCond .eq 27, 3) := dk_153 0 27 (dk_at dksX6_isOwn_7 18 rfl rfl)
theorem dX6_isOwn_184 : decode cX6_isOwn 184 = .ok (.lload_n 1, 1) := dk_31 (dk_at dksX6_isOwn_7 21 rfl rfl)
theorem dX6_isOwn_185 : decode cX6_isOwn 185 = .ok (.ldc2_w 333, 3) := dk_20 1 77 (dk_at dksX6_isOwn_8 0 rfl rfl)
theorem dX6_isOwn_188 : decode cX6_isOwn 188 = .ok (.lcmp, 1) := dk_148 (dk_at dksX6_isOwn_8 3 rfl rfl)
theorem dX6_isOwn_189 : decode cX6_isOwn 189 = .ok (.ifCond .eq 19, 3) := dk_153 0 19 (dk_at dksX6_isOwn_8 4 rfl rfl)
theorem dX6_isOwn_192 : decode cX6_isOwn 192 = .ok (.lload_n 1, 1) := dk_31 (dk_at dksX6_isOwn_8 7 rfl rfl)
theorem dX6_isOwn_193 : decode cX6_isOwn 193 = .ok (.ldc2_w 335, 3) := dk_20 1 79 (dk_at dksX6_isOwn_8 8 rfl rfl)
theorem dX6_isOwn_196 : decode cX6_isOwn 196 = .ok (.lcmp, 1) := dk_148 (dk_at dksX6_isOwn_8 11 rfl rfl)
theorem dX6_isOwn_197 : decode cX6_isOwn 197 = .ok (.ifCond .eq 11, 3) := dk_153 0 11 (dk_at dksX6_isOwn_8 12 rfl rfl)
theorem dX6_isOwn_200 : decode cX6_isOwn 200 = .ok (.lload_n 1, 1) := dk_31 (dk_at dksX6_isOwn_8 15 rfl rfl)
theorem dX6_isOwn_201 : decode cX6_isOwn 201 = .ok (.ldc2_w 337, 3) := dk_20 1 81 (dk_at dksX6_isOwn_8 16 rfl rfl)
theorem dX6_isOwn_204 : decode cX6_isOwn 204 = .ok (.lcmp, 1) := dk_148 (dk_at dksX6_isOwn_8 19 rfl rfl)
theorem dX6_isOwn_205 : decode cX6_isOwn 205 = .ok (.ifCond .ne 5, 3) := dk_154 0 5 (dk_at dksX6_isOwn_8 20 rfl rfl)
theorem dX6_isOwn_208 : decode cX6_isOwn 208 = .ok (.iconst 1, 1) := dk_4 (dk_at dksX6_isOwn_8 23 rfl rfl)
theorem dX6_isOwn_209 : decode cX6_isOwn 209 = .ok (.ireturn, 1) := dk_172 (dk_at dksX6_isOwn_9 0 rfl rfl)
theorem dX6_isOwn_210 : decode cX6_isOwn 210 = .ok (.lload_n 1, 1) := dk_31 (dk_at dksX6_isOwn_9 1 rfl rfl)
theorem dX6_isOwn_211 : decode cX6_isOwn 211 = .ok (.ldc2_w 339, 3) := dk_20 1 83 (dk_at dksX6_isOwn_9 2 rfl rfl)
theorem dX6_isOwn_214 : decode cX6_isOwn 214 = .ok (.lcmp, 1) := dk_148 (dk_at dksX6_isOwn_9 5 rfl rfl)
theorem dX6_isOwn_215 : decode cX6_isOwn 215 = .ok (.ifCond .eq 11, 3) := dk_153 0 11 (dk_at dksX6_isOwn_9 6 rfl rfl)
theorem dX6_isOwn_218 : decode cX6_isOwn 218 = .ok (.lload_n 1, 1) := dk_31 (dk_at dksX6_isOwn_9 9 rfl rfl)
theorem dX6_isOwn_219 : decode cX6_isOwn 219 = .ok (.ldc2_w 341, 3) := dk_20 1 85 (dk_at dksX6_isOwn_9 10 rfl rfl)
theorem dX6_isOwn_222 : decode cX6_isOwn 222 = .ok (.lcmp, 1) := dk_148 (dk_at dksX6_isOwn_9 13 rfl rfl)
theorem dX6_isOwn_223 : decode cX6_isOwn 223 = .ok (.ifCond .ne 5, 3) := dk_154 0 5 (dk_at dksX6_isOwn_9 14 rfl rfl)
theorem dX6_isOwn_226 : decode cX6_isOwn 226 = .ok (.iconst 1, 1) := dk_4 (dk_at dksX6_isOwn_9 17 rfl rfl)
theorem dX6_isOwn_227 : decode cX6_isOwn 227 = .ok (.ireturn, 1) := dk_172 (dk_at dksX6_isOwn_9 18 rfl rfl)
theorem dX6_isOwn_228 : decode cX6_isOwn 228 = .ok (.iconst 0, 1) := dk_3 (dk_at dksX6_isOwn_9 19 rfl rfl)
theorem dX6_isOwn_229 : decode cX6_isOwn 229 = .ok (.ireturn, 1) := dk_172 (dk_at dksX6_isOwn_9 20 rfl rfl)
abbrev cX6_named : ByteArray := prog_29_method_16_code
def yX6_named : MethodName := ⟨RX6, "named", "(J)I"⟩
def dkwX6_named_1 : List UInt8 := [180, 0, 137, 104, 29, 96, 47, 31, 148, 154, 0, 5, 29, 172, 132, 3, 1, 167, 255, 219, 2, 172]
abbrev dktX6_named_1 : List UInt8 := dkwX6_named_1 ++ []
def dkwX6_named_0 : List UInt8 := [3, 62, 29, 42, 180, 0, 69, 42, 180, 0, 137, 46, 162, 0, 30, 42, 180, 0, 72, 16, 8, 42]
abbrev dktX6_named_0 : List UInt8 := dkwX6_named_0 ++ dktX6_named_1
theorem dksX6_named_0 : cX6_named.data.toList.drop 0 = dktX6_named_0 := by decide +kernel
theorem dksX6_named_1 : cX6_named.data.toList.drop 22 = dktX6_named_1 := dk_seg dksX6_named_0 22 rfl rfl
theorem dX6_named_0 : decode cX6_named 0 = .ok (.iconst 0, 1) := dk_3 (dk_at dksX6_named_0 0 rfl rfl)
theorem dX6_named_1 : decode cX6_named 1 = .ok (.istore_n 3, 1) := dk_62 (dk_at dksX6_named_0 1 rfl rfl)
theorem dX6_named_2 : decode cX6_named 2 = .ok (.iload_n 3, 1) := dk_29 (dk_at dksX6_named_0 2 rfl rfl)
theorem dX6_named_3 : decode cX6_named 3 = .ok (.aload_n 0, 1) := dk_42 (dk_at dksX6_named_0 3 rfl rfl)
theorem dX6_named_4 : decode cX6_named 4 = .ok (.getfield 69, 3) := dk_180 0 69 (dk_at dksX6_named_0 4 rfl rfl)
theorem dX6_named_7 : decode cX6_named 7 = .ok (.aload_n 0, 1) := dk_42 (dk_at dksX6_named_0 7 rfl rfl)
theorem dX6_named_8 : decode cX6_named 8 = .ok (.getfield 137, 3) := dk_180 0 137 (dk_at dksX6_named_0 8 rfl rfl)
theorem dX6_named_11 : decode cX6_named 11 = .ok (.iaload, 1) := dk_46 (dk_at dksX6_named_0 11 rfl rfl)
theorem dX6_named_12 : decode cX6_named 12 = .ok (.if_icmp .ge 30, 3) := dk_162 0 30 (dk_at dksX6_named_0 12 rfl rfl)
theorem dX6_named_15 : decode cX6_named 15 = .ok (.aload_n 0, 1) := dk_42 (dk_at dksX6_named_0 15 rfl rfl)
theorem dX6_named_16 : decode cX6_named 16 = .ok (.getfield 72, 3) := dk_180 0 72 (dk_at dksX6_named_0 16 rfl rfl)
theorem dX6_named_19 : decode cX6_named 19 = .ok (.bipush 8, 2) := dk_16 8 (dk_at dksX6_named_0 19 rfl rfl)
theorem dX6_named_21 : decode cX6_named 21 = .ok (.aload_n 0, 1) := dk_42 (dk_at dksX6_named_0 21 rfl rfl)
theorem dX6_named_22 : decode cX6_named 22 = .ok (.getfield 137, 3) := dk_180 0 137 (dk_at dksX6_named_1 0 rfl rfl)
theorem dX6_named_25 : decode cX6_named 25 = .ok (.imul, 1) := dk_104 (dk_at dksX6_named_1 3 rfl rfl)
theorem dX6_named_26 : decode cX6_named 26 = .ok (.iload_n 3, 1) := dk_29 (dk_at dksX6_named_1 4 rfl rfl)
theorem dX6_named_27 : decode cX6_named 27 = .ok (.iadd, 1) := dk_96 (dk_at dksX6_named_1 5 rfl rfl)
theorem dX6_named_28 : decode cX6_named 28 = .ok (.laload, 1) := dk_47 (dk_at dksX6_named_1 6 rfl rfl)
theorem dX6_named_29 : decode cX6_named 29 = .ok (.lload_n 1, 1) := dk_31 (dk_at dksX6_named_1 7 rfl rfl)
theorem dX6_named_30 : decode cX6_named 30 = .ok (.lcmp, 1) := dk_148 (dk_at dksX6_named_1 8 rfl rfl)
theorem dX6_named_31 : decode cX6_named 31 = .ok (.ifCond .ne 5, 3) := dk_154 0 5 (dk_at dksX6_named_1 9 rfl rfl)
theorem dX6_named_34 : decode cX6_named 34 = .ok (.iload_n 3, 1) := dk_29 (dk_at dksX6_named_1 12 rfl rfl)
theorem dX6_named_35 : decode cX6_named 35 = .ok (.ireturn, 1) := dk_172 (dk_at dksX6_named_1 13 rfl rfl)
theorem dX6_named_36 : decode cX6_named 36 = .ok (.iinc 3 1, 3) := dk_132 3 1 (dk_at dksX6_named_1 14 rfl rfl)
theorem dX6_named_39 : decode cX6_named 39 = .ok (.goto (-37), 3) := dk_167 255 219 (dk_at dksX6_named_1 17 rfl rfl)
theorem dX6_named_42 : decode cX6_named 42 = .ok (.iconst (-1), 1) := dk_2 (dk_at dksX6_named_1 20 rfl rfl)
theorem dX6_named_43 : decode cX6_named 43 = .ok (.ireturn, 1) := dk_172 (dk_at dksX6_named_1 21 rfl rfl)
abbrev cX6_says : ByteArray := prog_29_method_36_code
def yX6_says : MethodName := ⟨RX6, "says", "()V"⟩
def dkwX6_says_7 : List UInt8 := [160, 0, 7, 4, 167, 0, 4, 3, 84, 42, 180, 0, 88, 42, 180, 0, 137, 92, 46, 4, 96, 79, 177]
abbrev dktX6_says_7 : List UInt8 := dkwX6_says_7 ++ []
def dkwX6_says_6 : List UInt8 := [42, 180, 0, 36, 158, 0, 4, 177, 42, 180, 0, 91, 29, 21, 4, 79, 42, 180, 0, 94, 29, 21, 5, 4]
abbrev dktX6_says_6 : List UInt8 := dkwX6_says_6 ++ dktX6_says_7
def dkwX6_says_5 : List UInt8 := [28, 96, 62, 42, 182, 1, 161, 54, 4, 42, 20, 1, 55, 182, 1, 150, 42, 3, 4, 182, 1, 129, 54, 5]
abbrev dktX6_says_5 : List UInt8 := dkwX6_says_5 ++ dktX6_says_6
def dkwX6_says_4 : List UInt8 := [182, 1, 23, 42, 3, 16, 47, 182, 1, 129, 61, 17, 1, 128, 42, 180, 0, 137, 104, 16, 48, 27, 104, 96]
abbrev dktX6_says_4 : List UInt8 := dkwX6_says_4 ++ dktX6_says_5
def dkwX6_says_3 : List UInt8 := [104, 16, 48, 27, 104, 96, 42, 180, 0, 29, 96, 46, 2, 159, 0, 12, 42, 6, 42, 180, 0, 23]
abbrev dktX6_says_3 : List UInt8 := dkwX6_says_3 ++ dktX6_says_4
def dkwX6_says_2 : List UInt8 := [42, 180, 0, 29, 3, 16, 47, 184, 1, 87, 153, 0, 39, 42, 180, 0, 91, 17, 1, 128, 42, 180, 0, 137]
abbrev dktX6_says_2 : List UInt8 := dkwX6_says_2 ++ dktX6_says_3
def dkwX6_says_1 : List UInt8 := [154, 0, 4, 177, 42, 182, 1, 157, 60, 42, 180, 0, 36, 154, 0, 60, 42, 180, 0, 20, 5, 160, 0, 52]
abbrev dktX6_says_1 : List UInt8 := dkwX6_says_1 ++ dktX6_says_2
def dkwX6_says_0 : List UInt8 := [42, 42, 180, 0, 88, 42, 180, 0, 137, 46, 16, 96, 160, 0, 7, 4, 167, 0, 4, 3, 182, 1, 139]
abbrev dktX6_says_0 : List UInt8 := dkwX6_says_0 ++ dktX6_says_1
theorem dksX6_says_0 : cX6_says.data.toList.drop 0 = dktX6_says_0 := by decide +kernel
theorem dksX6_says_1 : cX6_says.data.toList.drop 23 = dktX6_says_1 := dk_seg dksX6_says_0 23 rfl rfl
theorem dksX6_says_2 : cX6_says.data.toList.drop 47 = dktX6_says_2 := dk_seg dksX6_says_1 24 rfl rfl
theorem dksX6_says_3 : cX6_says.data.toList.drop 71 = dktX6_says_3 := dk_seg dksX6_says_2 24 rfl rfl
theorem dksX6_says_4 : cX6_says.data.toList.drop 93 = dktX6_says_4 := dk_seg dksX6_says_3 22 rfl rfl
theorem dksX6_says_5 : cX6_says.data.toList.drop 117 = dktX6_says_5 := dk_seg dksX6_says_4 24 rfl rfl
theorem dksX6_says_6 : cX6_says.data.toList.drop 141 = dktX6_says_6 := dk_seg dksX6_says_5 24 rfl rfl
theorem dksX6_says_7 : cX6_says.data.toList.drop 165 = dktX6_says_7 := dk_seg dksX6_says_6 24 rfl rfl
theorem dX6_says_0 : decode cX6_says 0 = .ok (.aload_n 0, 1) := dk_42 (dk_at dksX6_says_0 0 rfl rfl)
theorem dX6_says_1 : decode cX6_says 1 = .ok (.aload_n 0, 1) := dk_42 (dk_at dksX6_says_0 1 rfl rfl)
theorem dX6_says_2 : decode cX6_says 2 = .ok (.getfield 88, 3) := dk_180 0 88 (dk_at dksX6_says_0 2 rfl rfl)
theorem dX6_says_5 : decode cX6_says 5 = .ok (.aload_n 0, 1) := dk_42 (dk_at dksX6_says_0 5 rfl rfl)
theorem dX6_says_6 : decode cX6_says 6 = .ok (.getfield 137, 3) := dk_180 0 137 (dk_at dksX6_says_0 6 rfl rfl)
theorem dX6_says_9 : decode cX6_says 9 = .ok (.iaload, 1) := dk_46 (dk_at dksX6_says_0 9 rfl rfl)
theorem dX6_says_10 : decode cX6_says 10 = .ok (.bipush 96, 2) := dk_16 96 (dk_at dksX6_says_0 10 rfl rfl)
theorem dX6_says_12 : decode cX6_says 12 = .ok (.if_icmp .ne 7, 3) := dk_160 0 7 (dk_at dksX6_says_0 12 rfl rfl)
theorem dX6_says_15 : decode cX6_says 15 = .ok (.iconst 1, 1) := dk_4 (dk_at dksX6_says_0 15 rfl rfl)
theorem dX6_says_16 : decode cX6_says 16 = .ok (.goto 4, 3) := dk_167 0 4 (dk_at dksX6_says_0 16 rfl rfl)
theorem dX6_says_19 : decode cX6_says 19 = .ok (.iconst 0, 1) := dk_3 (dk_at dksX6_says_0 19 rfl rfl)
theorem dX6_says_20 : decode cX6_says 20 = .ok (.invokevirtual 395, 3) := dk_182 1 139 (dk_at dksX6_says_0 20 rfl rfl)
theorem dX6_says_23 : decode cX6_says 23 = .ok (.ifCond .ne 4, 3) := dk_154 0 4 (dk_at dksX6_says_1 0 rfl rfl)
theorem dX6_says_26 : decode cX6_says 26 = .ok (.return_, 1) := dk_177 (dk_at dksX6_says_1 3 rfl rfl)
theorem dX6_says_27 : decode cX6_says 27 = .ok (.aload_n 0, 1) := dk_42 (dk_at dksX6_says_1 4 rfl rfl)
theorem dX6_says_28 : decode cX6_says 28 = .ok (.invokevirtual 413, 3) := dk_182 1 157 (dk_at dksX6_says_1 5 rfl rfl)
theorem dX6_says_31 : decode cX6_says 31 = .ok (.istore_n 1, 1) := dk_60 (dk_at dksX6_says_1 8 rfl rfl)
theorem dX6_says_32 : decode cX6_says 32 = .ok (.aload_n 0, 1) := dk_42 (dk_at dksX6_says_1 9 rfl rfl)
theorem dX6_says_33 : decode cX6_says 33 = .ok (.getfield 36, 3) := dk_180 0 36 (dk_at dksX6_says_1 10 rfl rfl)
theorem dX6_says_36 : decode cX6_says 36 = .ok (.ifCond .ne 60, 3) := dk_154 0 60 (dk_at dksX6_says_1 13 rfl rfl)
theorem dX6_says_39 : decode cX6_says 39 = .ok (.aload_n 0, 1) := dk_42 (dk_at dksX6_says_1 16 rfl rfl)
theorem dX6_says_40 : decode cX6_says 40 = .ok (.getfield 20, 3) := dk_180 0 20 (dk_at dksX6_says_1 17 rfl rfl)
theorem dX6_says_43 : decode cX6_says 43 = .ok (.iconst 2, 1) := dk_5 (dk_at dksX6_says_1 20 rfl rfl)
theorem dX6_says_44 : decode cX6_says 44 = .ok (.if_icmp .ne 52, 3) := dk_160 0 52 (dk_at dksX6_says_1 21 rfl rfl)
theorem dX6_says_47 : decode cX6_says 47 = .ok (.aload_n 0, 1) := dk_42 (dk_at dksX6_says_2 0 rfl rfl)
theorem dX6_says_48 : decode cX6_says 48 = .ok (.getfield 29, 3) := dk_180 0 29 (dk_at dksX6_says_2 1 rfl rfl)
theorem dX6_says_51 : decode cX6_says 51 = .ok (.iconst 0, 1) := dk_3 (dk_at dksX6_says_2 4 rfl rfl)
theorem dX6_says_52 : decode cX6_says 52 = .ok (.bipush 47, 2) := dk_16 47 (dk_at dksX6_says_2 5 rfl rfl)
theorem dX6_says_54 : decode cX6_says 54 = .ok (.invokestatic 343, 3) := dk_184 1 87 (dk_at dksX6_says_2 7 rfl rfl)
theorem dX6_says_57 : decode cX6_says 57 = .ok (.ifCond .eq 39, 3) := dk_153 0 39 (dk_at dksX6_says_2 10 rfl rfl)
theorem dX6_says_60 : decode cX6_says 60 = .ok (.aload_n 0, 1) := dk_42 (dk_at dksX6_says_2 13 rfl rfl)
theorem dX6_says_61 : decode cX6_says 61 = .ok (.getfield 91, 3) := dk_180 0 91 (dk_at dksX6_says_2 14 rfl rfl)
theorem dX6_says_64 : decode cX6_says 64 = .ok (.sipush 384, 3) := dk_17 1 128 (dk_at dksX6_says_2 17 rfl rfl)
theorem dX6_says_67 : decode cX6_says 67 = .ok (.aload_n 0, 1) := dk_42 (dk_at dksX6_says_2 20 rfl rfl)
theorem dX6_says_68 : decode cX6_says 68 = .ok (.getfield 137, 3) := dk_180 0 137 (dk_at dksX6_says_2 21 rfl rfl)
theorem dX6_says_71 : decode cX6_says 71 = .ok (.imul, 1) := dk_104 (dk_at dksX6_says_3 0 rfl rfl)
theorem dX6_says_72 : decode cX6_says 72 = .ok (.bipush 48, 2) := dk_16 48 (dk_at dksX6_says_3 1 rfl rfl)
theorem dX6_says_74 : decode cX6_says 74 = .ok (.iload_n 1, 1) := dk_27 (dk_at dksX6_says_3 3 rfl rfl)
theorem dX6_says_75 : decode cX6_says 75 = .ok (.imul, 1) := dk_104 (dk_at dksX6_says_3 4 rfl rfl)
theorem dX6_says_76 : decode cX6_says 76 = .ok (.iadd, 1) := dk_96 (dk_at dksX6_says_3 5 rfl rfl)
theorem dX6_says_77 : decode cX6_says 77 = .ok (.aload_n 0, 1) := dk_42 (dk_at dksX6_says_3 6 rfl rfl)
theorem dX6_says_78 : decode cX6_says 78 = .ok (.getfield 29, 3) := dk_180 0 29 (dk_at dksX6_says_3 7 rfl rfl)
theorem dX6_says_81 : decode cX6_says 81 = .ok (.iadd, 1) := dk_96 (dk_at dksX6_says_3 10 rfl rfl)
theorem dX6_says_82 : decode cX6_says 82 = .ok (.iaload, 1) := dk_46 (dk_at dksX6_says_3 11 rfl rfl)
theorem dX6_says_83 : decode cX6_says 83 = .ok (.iconst (-1), 1) := dk_2 (dk_at dksX6_says_3 12 rfl rfl)
theorem dX6_says_84 : decode cX6_says 84 = .ok (.if_icmp .eq 12, 3) := dk_159 0 12 (dk_at dksX6_says_3 13 rfl rfl)
theorem dX6_says_87 : decode cX6_says 87 = .ok (.aload_n 0, 1) := dk_42 (dk_at dksX6_says_3 16 rfl rfl)
theorem dX6_says_88 : decode cX6_says 88 = .ok (.iconst 3, 1) := dk_6 (dk_at dksX6_says_3 17 rfl rfl)
theorem dX6_says_89 : decode cX6_says 89 = .ok (.aload_n 0, 1) := dk_42 (dk_at dksX6_says_3 18 rfl rfl)
theorem dX6_says_90 : decode cX6_says 90 = .ok (.getfield 23, 3) := dk_180 0 23 (dk_at dksX6_says_3 19 rfl rfl)
theorem dX6_says_93 : decode cX6_says 93 = .ok (.invokevirtual 279, 3) := dk_182 1 23 (dk_at dksX6_says_4 0 rfl rfl)
theorem dX6_says_96 : decode cX6_says 96 = .ok (.aload_n 0, 1) := dk_42 (dk_at dksX6_says_4 3 rfl rfl)
theorem dX6_says_97 : decode cX6_says 97 = .ok (.iconst 0, 1) := dk_3 (dk_at dksX6_says_4 4 rfl rfl)
theorem dX6_says_98 : decode cX6_says 98 = .ok (.bipush 47, 2) := dk_16 47 (dk_at dksX6_says_4 5 rfl rfl)
theorem dX6_says_100 : decode cX6_says 100 = .ok (.invokevirtual 385, 3) := dk_182 1 129 (dk_at dksX6_says_4 7 rfl rfl)
theorem dX6_says_103 : decode cX6_says 103 = .ok (.istore_n 2, 1) := dk_61 (dk_at dksX6_says_4 10 rfl rfl)
theorem dX6_says_104 : decode cX6_says 104 = .ok (.sipush 384, 3) := dk_17 1 128 (dk_at dksX6_says_4 11 rfl rfl)
theorem dX6_says_107 : decode cX6_says 107 = .ok (.aload_n 0, 1) := dk_42 (dk_at dksX6_says_4 14 rfl rfl)
theorem dX6_says_108 : decode cX6_says 108 = .ok (.getfield 137, 3) := dk_180 0 137 (dk_at dksX6_says_4 15 rfl rfl)
theorem dX6_says_111 : decode cX6_says 111 = .ok (.imul, 1) := dk_104 (dk_at dksX6_says_4 18 rfl rfl)
theorem dX6_says_112 : decode cX6_says 112 = .ok (.bipush 48, 2) := dk_16 48 (dk_at dksX6_says_4 19 rfl rfl)
theorem dX6_says_114 : decode cX6_says 114 = .ok (.iload_n 1, 1) := dk_27 (dk_at dksX6_says_4 21 rfl rfl)
theorem dX6_says_115 : decode cX6_says 115 = .ok (.imul, 1) := dk_104 (dk_at dksX6_says_4 22 rfl rfl)
theorem dX6_says_116 : decode cX6_says 116 = .ok (.iadd, 1) := dk_96 (dk_at dksX6_says_4 23 rfl rfl)
theorem dX6_says_117 : decode cX6_says 117 = .ok (.iload_n 2, 1) := dk_28 (dk_at dksX6_says_5 0 rfl rfl)
theorem dX6_says_118 : decode cX6_says 118 = .ok (.iadd, 1) := dk_96 (dk_at dksX6_says_5 1 rfl rfl)
theorem dX6_says_119 : decode cX6_says 119 = .ok (.istore_n 3, 1) := dk_62 (dk_at dksX6_says_5 2 rfl rfl)
theorem dX6_says_120 : decode cX6_says 120 = .ok (.aload_n 0, 1) := dk_42 (dk_at dksX6_says_5 3 rfl rfl)
theorem dX6_says_121 : decode cX6_says 121 = .ok (.invokevirtual 417, 3) := dk_182 1 161 (dk_at dksX6_says_5 4 rfl rfl)
theorem dX6_says_124 : decode cX6_says 124 = .ok (.istore 4, 2) := dk_54 4 (dk_at dksX6_says_5 7 rfl rfl)
theorem dX6_says_126 : decode cX6_says 126 = .ok (.aload_n 0, 1) := dk_42 (dk_at dksX6_says_5 9 rfl rfl)
theorem dX6_says_127 : decode cX6_says 127 = .ok (.ldc2_w 311, 3) := dk_20 1 55 (dk_at dksX6_says_5 10 rfl rfl)
theorem dX6_says_130 : decode cX6_says 130 = .ok (.invokevirtual 406, 3) := dk_182 1 150 (dk_at dksX6_says_5 13 rfl rfl)
theorem dX6_says_133 : decode cX6_says 133 = .ok (.aload_n 0, 1) := dk_42 (dk_at dksX6_says_5 16 rfl rfl)
theorem dX6_says_134 : decode cX6_says 134 = .ok (.iconst 0, 1) := dk_3 (dk_at dksX6_says_5 17 rfl rfl)
theorem dX6_says_135 : decode cX6_says 135 = .ok (.iconst 1, 1) := dk_4 (dk_at dksX6_says_5 18 rfl rfl)
theorem dX6_says_136 : decode cX6_says 136 = .ok (.invokevirtual 385, 3) := dk_182 1 129 (dk_at dksX6_says_5 19 rfl rfl)
theorem dX6_says_139 : decode cX6_says 139 = .ok (.istore 5, 2) := dk_54 5 (dk_at dksX6_says_5 22 rfl rfl)
theorem dX6_says_141 : decode cX6_says 141 = .ok (.aload_n 0, 1) := dk_42 (dk_at dksX6_says_6 0 rfl rfl)
theorem dX6_says_142 : decode cX6_says 142 = .ok (.getfield 36, 3) := dk_180 0 36 (dk_at dksX6_says_6 1 rfl rfl)
theorem dX6_says_145 : decode cX6_says 145 = .ok (.ifCond .le 4, 3) := dk_158 0 4 (dk_at dksX6_says_6 4 rfl rfl)
theorem dX6_says_148 : decode cX6_says 148 = .ok (.return_, 1) := dk_177 (dk_at dksX6_says_6 7 rfl rfl)
theorem dX6_says_149 : decode cX6_says 149 = .ok (.aload_n 0, 1) := dk_42 (dk_at dksX6_says_6 8 rfl rfl)
theorem dX6_says_150 : decode cX6_says 150 = .ok (.getfield 91, 3) := dk_180 0 91 (dk_at dksX6_says_6 9 rfl rfl)
theorem dX6_says_153 : decode cX6_says 153 = .ok (.iload_n 3, 1) := dk_29 (dk_at dksX6_says_6 12 rfl rfl)
theorem dX6_says_154 : decode cX6_says 154 = .ok (.iload 4, 2) := dk_21 4 (dk_at dksX6_says_6 13 rfl rfl)
theorem dX6_says_156 : decode cX6_says 156 = .ok (.iastore, 1) := dk_79 (dk_at dksX6_says_6 15 rfl rfl)
theorem dX6_says_157 : decode cX6_says 157 = .ok (.aload_n 0, 1) := dk_42 (dk_at dksX6_says_6 16 rfl rfl)
theorem dX6_says_158 : decode cX6_says 158 = .ok (.getfield 94, 3) := dk_180 0 94 (dk_at dksX6_says_6 17 rfl rfl)
theorem dX6_says_161 : decode cX6_says 161 = .ok (.iload_n 3, 1) := dk_29 (dk_at dksX6_says_6 20 rfl rfl)
theorem dX6_says_162 : decode cX6_says 162 = .ok (.iload 5, 2) := dk_21 5 (dk_at dksX6_says_6 21 rfl rfl)
theorem dX6_says_164 : decode cX6_says 164 = .ok (.iconst 1, 1) := dk_4 (dk_at dksX6_says_6 23 rfl rfl)
theorem dX6_says_165 : decode cX6_says 165 = .ok (.if_icmp .ne 7, 3) := dk_160 0 7 (dk_at dksX6_says_7 0 rfl rfl)
theorem dX6_says_168 : decode cX6_says 168 = .ok (.iconst 1, 1) := dk_4 (dk_at dksX6_says_7 3 rfl rfl)
theorem dX6_says_169 : decode cX6_says 169 = .ok (.goto 4, 3) := dk_167 0 4 (dk_at dksX6_says_7 4 rfl rfl)
theorem dX6_says_172 : decode cX6_says 172 = .ok (.iconst 0, 1) := dk_3 (dk_at dksX6_says_7 7 rfl rfl)
theorem dX6_says_173 : decode cX6_says 173 = .ok (.bastore, 1) := dk_84 (dk_at dksX6_says_7 8 rfl rfl)
theorem dX6_says_174 : decode cX6_says 174 = .ok (.aload_n 0, 1) := dk_42 (dk_at dksX6_says_7 9 rfl rfl)
theorem dX6_says_175 : decode cX6_says 175 = .ok (.getfield 88, 3) := dk_180 0 88 (dk_at dksX6_says_7 10 rfl rfl)
theorem dX6_says_178 : decode cX6_says 178 = .ok (.aload_n 0, 1) := dk_42 (dk_at dksX6_says_7 13 rfl rfl)
theorem dX6_says_179 : decode cX6_says 179 = .ok (.getfield 137, 3) := dk_180 0 137 (dk_at dksX6_says_7 14 rfl rfl)
theorem dX6_says_182 : decode cX6_says 182 = .ok (.dup2, 1) := dk_92 (dk_at dksX6_says_7 17 rfl rfl)
theorem dX6_says_183 : decode cX6_says 183 = .ok (.iaload, 1) := dk_46 (dk_at dksX6_says_7 18 rfl rfl)
theorem dX6_says_184 : decode cX6_says 184 = .ok (.iconst 1, 1) := dk_4 (dk_at dksX6_says_7 19 rfl rfl)
theorem dX6_says_185 : decode cX6_says 185 = .ok (.iadd, 1) := dk_96 (dk_at dksX6_says_7 20 rfl rfl)
theorem dX6_says_186 : decode cX6_says 186 = .ok (.iastore, 1) := dk_79 (dk_at dksX6_says_7 21 rfl rfl)
theorem dX6_says_187 : decode cX6_says 187 = .ok (.return_, 1) := dk_177 (dk_at dksX6_says_7 22 rfl rfl)
abbrev cX6_asked : ByteArray := prog_29_method_31_code
def yX6_asked : MethodName := ⟨RX6, "asked", "()I"⟩
def dkwX6_asked_4 : List UInt8 := [158, 0, 7, 3, 167, 0, 4, 27, 172]
abbrev dktX6_asked_4 : List UInt8 := dkwX6_asked_4 ++ []
def dkwX6_asked_3 : List UInt8 := [42, 6, 42, 180, 0, 23, 182, 1, 23, 42, 180, 0, 36, 154, 0, 7, 42, 182, 1, 30, 42, 180, 0, 36]
abbrev dktX6_asked_3 : List UInt8 := dkwX6_asked_3 ++ dktX6_asked_4
def dkwX6_asked_2 : List UInt8 := [167, 0, 11, 42, 42, 180, 0, 32, 182, 1, 125, 60, 42, 180, 0, 36, 154, 0, 17, 27, 2, 160, 0, 12]
abbrev dktX6_asked_2 : List UInt8 := dkwX6_asked_2 ++ dktX6_asked_3
def dkwX6_asked_1 : List UInt8 := [182, 1, 122, 153, 0, 12, 42, 4, 42, 180, 0, 23, 182, 1, 23, 42, 180, 0, 36, 158, 0, 7, 3]
abbrev dktX6_asked_1 : List UInt8 := dkwX6_asked_1 ++ dktX6_asked_2
def dkwX6_asked_0 : List UInt8 := [42, 180, 0, 36, 158, 0, 5, 3, 172, 42, 180, 0, 20, 4, 160, 0, 14, 42, 42, 180, 0, 32]
abbrev dktX6_asked_0 : List UInt8 := dkwX6_asked_0 ++ dktX6_asked_1
theorem dksX6_asked_0 : cX6_asked.data.toList.drop 0 = dktX6_asked_0 := by decide +kernel
theorem dksX6_asked_1 : cX6_asked.data.toList.drop 22 = dktX6_asked_1 := dk_seg dksX6_asked_0 22 rfl rfl
theorem dksX6_asked_2 : cX6_asked.data.toList.drop 45 = dktX6_asked_2 := dk_seg dksX6_asked_1 23 rfl rfl
theorem dksX6_asked_3 : cX6_asked.data.toList.drop 69 = dktX6_asked_3 := dk_seg dksX6_asked_2 24 rfl rfl
theorem dksX6_asked_4 : cX6_asked.data.toList.drop 93 = dktX6_asked_4 := dk_seg dksX6_asked_3 24 rfl rfl
theorem dX6_asked_0 : decode cX6_asked 0 = .ok (.aload_n 0, 1) := dk_42 (dk_at dksX6_asked_0 0 rfl rfl)
theorem dX6_asked_1 : decode cX6_asked 1 = .ok (.getfield 36, 3) := dk_180 0 36 (dk_at dksX6_asked_0 1 rfl rfl)
theorem dX6_asked_4 : decode cX6_asked 4 = .ok (.ifCond .le 5, 3) := dk_158 0 5 (dk_at dksX6_asked_0 4 rfl rfl)
theorem dX6_asked_7 : decode cX6_asked 7 = .ok (.iconst 0, 1) := dk_3 (dk_at dksX6_asked_0 7 rfl rfl)
theorem dX6_asked_8 : decode cX6_asked 8 = .ok (.ireturn, 1) := dk_172 (dk_at dksX6_asked_0 8 rfl rfl)
theorem dX6_asked_9 : decode cX6_asked 9 = .ok (.aload_n 0, 1) := dk_42 (dk_at dksX6_asked_0 9 rfl rfl)
theorem dX6_asked_10 : decode cX6_asked 10 = .ok (.getfield 20, 3) := dk_180 0 20 (dk_at dksX6_asked_0 10 rfl rfl)
theorem dX6_asked_13 : decode cX6_asked 13 = .ok (.iconst 1, 1) := dk_4 (dk_at dksX6_asked_0 13 rfl rfl)
theorem dX6_asked_14 : decode cX6_asked 14 = .ok (.if_icmp .ne 14, 3) := dk_160 0 14 (dk_at dksX6_asked_0 14 rfl rfl)
theorem dX6_asked_17 : decode cX6_asked 17 = .ok (.aload_n 0, 1) := dk_42 (dk_at dksX6_asked_0 17 rfl rfl)
theorem dX6_asked_18 : decode cX6_asked 18 = .ok (.aload_n 0, 1) := dk_42 (dk_at dksX6_asked_0 18 rfl rfl)
theorem dX6_asked_19 : decode cX6_asked 19 = .ok (.getfield 32, 3) := dk_180 0 32 (dk_at dksX6_asked_0 19 rfl rfl)
theorem dX6_asked_22 : decode cX6_asked 22 = .ok (.invokevirtual 378, 3) := dk_182 1 122 (dk_at dksX6_asked_1 0 rfl rfl)
theorem dX6_asked_25 : decode cX6_asked 25 = .ok (.ifCond .eq 12, 3) := dk_153 0 12 (dk_at dksX6_asked_1 3 rfl rfl)
theorem dX6_asked_28 : decode cX6_asked 28 = .ok (.aload_n 0, 1) := dk_42 (dk_at dksX6_asked_1 6 rfl rfl)
theorem dX6_asked_29 : decode cX6_asked 29 = .ok (.iconst 1, 1) := dk_4 (dk_at dksX6_asked_1 7 rfl rfl)
theorem dX6_asked_30 : decode cX6_asked 30 = .ok (.aload_n 0, 1) := dk_42 (dk_at dksX6_asked_1 8 rfl rfl)
theorem dX6_asked_31 : decode cX6_asked 31 = .ok (.getfield 23, 3) := dk_180 0 23 (dk_at dksX6_asked_1 9 rfl rfl)
theorem dX6_asked_34 : decode cX6_asked 34 = .ok (.invokevirtual 279, 3) := dk_182 1 23 (dk_at dksX6_asked_1 12 rfl rfl)
theorem dX6_asked_37 : decode cX6_asked 37 = .ok (.aload_n 0, 1) := dk_42 (dk_at dksX6_asked_1 15 rfl rfl)
theorem dX6_asked_38 : decode cX6_asked 38 = .ok (.getfield 36, 3) := dk_180 0 36 (dk_at dksX6_asked_1 16 rfl rfl)
theorem dX6_asked_41 : decode cX6_asked 41 = .ok (.ifCond .le 7, 3) := dk_158 0 7 (dk_at dksX6_asked_1 19 rfl rfl)
theorem dX6_asked_44 : decode cX6_asked 44 = .ok (.iconst 0, 1) := dk_3 (dk_at dksX6_asked_1 22 rfl rfl)
theorem dX6_asked_45 : decode cX6_asked 45 = .ok (.goto 11, 3) := dk_167 0 11 (dk_at dksX6_asked_2 0 rfl rfl)
theorem dX6_asked_48 : decode cX6_asked 48 = .ok (.aload_n 0, 1) := dk_42 (dk_at dksX6_asked_2 3 rfl rfl)
theorem dX6_asked_49 : decode cX6_asked 49 = .ok (.aload_n 0, 1) := dk_42 (dk_at dksX6_asked_2 4 rfl rfl)
theorem dX6_asked_50 : decode cX6_asked 50 = .ok (.getfield 32, 3) := dk_180 0 32 (dk_at dksX6_asked_2 5 rfl rfl)
theorem dX6_asked_53 : decode cX6_asked 53 = .ok (.invokevirtual 381, 3) := dk_182 1 125 (dk_at dksX6_asked_2 8 rfl rfl)
theorem dX6_asked_56 : decode cX6_asked 56 = .ok (.istore_n 1, 1) := dk_60 (dk_at dksX6_asked_2 11 rfl rfl)
theorem dX6_asked_57 : decode cX6_asked 57 = .ok (.aload_n 0, 1) := dk_42 (dk_at dksX6_asked_2 12 rfl rfl)
theorem dX6_asked_58 : decode cX6_asked 58 = .ok (.getfield 36, 3) := dk_180 0 36 (dk_at dksX6_asked_2 13 rfl rfl)
theorem dX6_asked_61 : decode cX6_asked 61 = .ok (.ifCond .ne 17, 3) := dk_154 0 17 (dk_at dksX6_asked_2 16 rfl rfl)
theorem dX6_asked_64 : decode cX6_asked 64 = .ok (.iload_n 1, 1) := dk_27 (dk_at dksX6_asked_2 19 rfl rfl)
theorem dX6_asked_65 : decode cX6_asked 65 = .ok (.iconst (-1), 1) := dk_2 (dk_at dksX6_asked_2 20 rfl rfl)
theorem dX6_asked_66 : decode cX6_asked 66 = .ok (.if_icmp .ne 12, 3) := dk_160 0 12 (dk_at dksX6_asked_2 21 rfl rfl)
theorem dX6_asked_69 : decode cX6_asked 69 = .ok (.aload_n 0, 1) := dk_42 (dk_at dksX6_asked_3 0 rfl rfl)
theorem dX6_asked_70 : decode cX6_asked 70 = .ok (.iconst 3, 1) := dk_6 (dk_at dksX6_asked_3 1 rfl rfl)
theorem dX6_asked_71 : decode cX6_asked 71 = .ok (.aload_n 0, 1) := dk_42 (dk_at dksX6_asked_3 2 rfl rfl)
theorem dX6_asked_72 : decode cX6_asked 72 = .ok (.getfield 23, 3) := dk_180 0 23 (dk_at dksX6_asked_3 3 rfl rfl)
theorem dX6_asked_75 : decode cX6_asked 75 = .ok (.invokevirtual 279, 3) := dk_182 1 23 (dk_at dksX6_asked_3 6 rfl rfl)
theorem dX6_asked_78 : decode cX6_asked 78 = .ok (.aload_n 0, 1) := dk_42 (dk_at dksX6_asked_3 9 rfl rfl)
theorem dX6_asked_79 : decode cX6_asked 79 = .ok (.getfield 36, 3) := dk_180 0 36 (dk_at dksX6_asked_3 10 rfl rfl)
theorem dX6_asked_82 : decode cX6_asked 82 = .ok (.ifCond .ne 7, 3) := dk_154 0 7 (dk_at dksX6_asked_3 13 rfl rfl)
theorem dX6_asked_85 : decode cX6_asked 85 = .ok (.aload_n 0, 1) := dk_42 (dk_at dksX6_asked_3 16 rfl rfl)
theorem dX6_asked_86 : decode cX6_asked 86 = .ok (.invokevirtual 286, 3) := dk_182 1 30 (dk_at dksX6_asked_3 17 rfl rfl)
theorem dX6_asked_89 : decode cX6_asked 89 = .ok (.aload_n 0, 1) := dk_42 (dk_at dksX6_asked_3 20 rfl rfl)
theorem dX6_asked_90 : decode cX6_asked 90 = .ok (.getfield 36, 3) := dk_180 0 36 (dk_at dksX6_asked_3 21 rfl rfl)
theorem dX6_asked_93 : decode cX6_asked 93 = .ok (.ifCond .le 7, 3) := dk_158 0 7 (dk_at dksX6_asked_4 0 rfl rfl)
theorem dX6_asked_96 : decode cX6_asked 96 = .ok (.iconst 0, 1) := dk_3 (dk_at dksX6_asked_4 3 rfl rfl)
theorem dX6_asked_97 : decode cX6_asked 97 = .ok (.goto 4, 3) := dk_167 0 4 (dk_at dksX6_asked_4 4 rfl rfl)
theorem dX6_asked_100 : decode cX6_asked 100 = .ok (.iload_n 1, 1) := dk_27 (dk_at dksX6_asked_4 7 rfl rfl)
theorem dX6_asked_101 : decode cX6_asked 101 = .ok (.ireturn, 1) := dk_172 (dk_at dksX6_asked_4 8 rfl rfl)
abbrev cX6_cellHere : ByteArray := prog_29_method_35_code
def yX6_cellHere : MethodName := ⟨RX6, "cellHere", "()I"⟩
def dkwX6_cellHere_2 : List UInt8 := [180, 0, 137, 46, 28, 104, 27, 96, 172]
abbrev dktX6_cellHere_2 : List UInt8 := dkwX6_cellHere_2 ++ []
def dkwX6_cellHere_1 : List UInt8 := [42, 3, 42, 180, 0, 54, 42, 180, 0, 137, 46, 4, 100, 182, 1, 129, 61, 42, 180, 0, 51, 42]
abbrev dktX6_cellHere_1 : List UInt8 := dkwX6_cellHere_1 ++ dktX6_cellHere_2
def dkwX6_cellHere_0 : List UInt8 := [42, 20, 1, 53, 182, 1, 150, 42, 3, 42, 180, 0, 51, 42, 180, 0, 137, 46, 4, 100, 182, 1, 129, 60]
abbrev dktX6_cellHere_0 : List UInt8 := dkwX6_cellHere_0 ++ dktX6_cellHere_1
theorem dksX6_cellHere_0 : cX6_cellHere.data.toList.drop 0 = dktX6_cellHere_0 := by decide +kernel
theorem dksX6_cellHere_1 : cX6_cellHere.data.toList.drop 24 = dktX6_cellHere_1 := dk_seg dksX6_cellHere_0 24 rfl rfl
theorem dksX6_cellHere_2 : cX6_cellHere.data.toList.drop 46 = dktX6_cellHere_2 := dk_seg dksX6_cellHere_1 22 rfl rfl
theorem dX6_cellHere_0 : decode cX6_cellHere 0 = .ok (.aload_n 0, 1) := dk_42 (dk_at dksX6_cellHere_0 0 rfl rfl)
theorem dX6_cellHere_1 : decode cX6_cellHere 1 = .ok (.ldc2_w 309, 3) := dk_20 1 53 (dk_at dksX6_cellHere_0 1 rfl rfl)
theorem dX6_cellHere_4 : decode cX6_cellHere 4 = .ok (.invokevirtual 406, 3) := dk_182 1 150 (dk_at dksX6_cellHere_0 4 rfl rfl)
theorem dX6_cellHere_7 : decode cX6_cellHere 7 = .ok (.aload_n 0, 1) := dk_42 (dk_at dksX6_cellHere_0 7 rfl rfl)
theorem dX6_cellHere_8 : decode cX6_cellHere 8 = .ok (.iconst 0, 1) := dk_3 (dk_at dksX6_cellHere_0 8 rfl rfl)
theorem dX6_cellHere_9 : decode cX6_cellHere 9 = .ok (.aload_n 0, 1) := dk_42 (dk_at dksX6_cellHere_0 9 rfl rfl)
theorem dX6_cellHere_10 : decode cX6_cellHere 10 = .ok (.getfield 51, 3) := dk_180 0 51 (dk_at dksX6_cellHere_0 10 rfl rfl)
theorem dX6_cellHere_13 : decode cX6_cellHere 13 = .ok (.aload_n 0, 1) := dk_42 (dk_at dksX6_cellHere_0 13 rfl rfl)
theorem dX6_cellHere_14 : decode cX6_cellHere 14 = .ok (.getfield 137, 3) := dk_180 0 137 (dk_at dksX6_cellHere_0 14 rfl rfl)
theorem dX6_cellHere_17 : decode cX6_cellHere 17 = .ok (.iaload, 1) := dk_46 (dk_at dksX6_cellHere_0 17 rfl rfl)
theorem dX6_cellHere_18 : decode cX6_cellHere 18 = .ok (.iconst 1, 1) := dk_4 (dk_at dksX6_cellHere_0 18 rfl rfl)
theorem dX6_cellHere_19 : decode cX6_cellHere 19 = .ok (.isub, 1) := dk_100 (dk_at dksX6_cellHere_0 19 rfl rfl)
theorem dX6_cellHere_20 : decode cX6_cellHere 20 = .ok (.invokevirtual 385, 3) := dk_182 1 129 (dk_at dksX6_cellHere_0 20 rfl rfl)
theorem dX6_cellHere_23 : decode cX6_cellHere 23 = .ok (.istore_n 1, 1) := dk_60 (dk_at dksX6_cellHere_0 23 rfl rfl)
theorem dX6_cellHere_24 : decode cX6_cellHere 24 = .ok (.aload_n 0, 1) := dk_42 (dk_at dksX6_cellHere_1 0 rfl rfl)
theorem dX6_cellHere_25 : decode cX6_cellHere 25 = .ok (.iconst 0, 1) := dk_3 (dk_at dksX6_cellHere_1 1 rfl rfl)
theorem dX6_cellHere_26 : decode cX6_cellHere 26 = .ok (.aload_n 0, 1) := dk_42 (dk_at dksX6_cellHere_1 2 rfl rfl)
theorem dX6_cellHere_27 : decode cX6_cellHere 27 = .ok (.getfield 54, 3) := dk_180 0 54 (dk_at dksX6_cellHere_1 3 rfl rfl)
theorem dX6_cellHere_30 : decode cX6_cellHere 30 = .ok (.aload_n 0, 1) := dk_42 (dk_at dksX6_cellHere_1 6 rfl rfl)
theorem dX6_cellHere_31 : decode cX6_cellHere 31 = .ok (.getfield 137, 3) := dk_180 0 137 (dk_at dksX6_cellHere_1 7 rfl rfl)
theorem dX6_cellHere_34 : decode cX6_cellHere 34 = .ok (.iaload, 1) := dk_46 (dk_at dksX6_cellHere_1 10 rfl rfl)
theorem dX6_cellHere_35 : decode cX6_cellHere 35 = .ok (.iconst 1, 1) := dk_4 (dk_at dksX6_cellHere_1 11 rfl rfl)
theorem dX6_cellHere_36 : decode cX6_cellHere 36 = .ok (.isub, 1) := dk_100 (dk_at dksX6_cellHere_1 12 rfl rfl)
theorem dX6_cellHere_37 : decode cX6_cellHere 37 = .ok (.invokevirtual 385, 3) := dk_182 1 129 (dk_at dksX6_cellHere_1 13 rfl rfl)
theorem dX6_cellHere_40 : decode cX6_cellHere 40 = .ok (.istore_n 2, 1) := dk_61 (dk_at dksX6_cellHere_1 16 rfl rfl)
theorem dX6_cellHere_41 : decode cX6_cellHere 41 = .ok (.aload_n 0, 1) := dk_42 (dk_at dksX6_cellHere_1 17 rfl rfl)
theorem dX6_cellHere_42 : decode cX6_cellHere 42 = .ok (.getfield 51, 3) := dk_180 0 51 (dk_at dksX6_cellHere_1 18 rfl rfl)
theorem dX6_cellHere_45 : decode cX6_cellHere 45 = .ok (.aload_n 0, 1) := dk_42 (dk_at dksX6_cellHere_1 21 rfl rfl)
theorem dX6_cellHere_46 : decode cX6_cellHere 46 = .ok (.getfield 137, 3) := dk_180 0 137 (dk_at dksX6_cellHere_2 0 rfl rfl)
theorem dX6_cellHere_49 : decode cX6_cellHere 49 = .ok (.iaload, 1) := dk_46 (dk_at dksX6_cellHere_2 3 rfl rfl)
theorem dX6_cellHere_50 : decode cX6_cellHere 50 = .ok (.iload_n 2, 1) := dk_28 (dk_at dksX6_cellHere_2 4 rfl rfl)
theorem dX6_cellHere_51 : decode cX6_cellHere 51 = .ok (.imul, 1) := dk_104 (dk_at dksX6_cellHere_2 5 rfl rfl)
theorem dX6_cellHere_52 : decode cX6_cellHere 52 = .ok (.iload_n 1, 1) := dk_27 (dk_at dksX6_cellHere_2 6 rfl rfl)
theorem dX6_cellHere_53 : decode cX6_cellHere 53 = .ok (.iadd, 1) := dk_96 (dk_at dksX6_cellHere_2 7 rfl rfl)
theorem dX6_cellHere_54 : decode cX6_cellHere 54 = .ok (.ireturn, 1) := dk_172 (dk_at dksX6_cellHere_2 8 rfl rfl)
abbrev cX6_book : ByteArray := prog_29_method_37_code
def yX6_book : MethodName := ⟨RX6, "book", "()V"⟩
def dkwX6_book_5 : List UInt8 := [42, 180, 0, 98, 42, 180, 0, 137, 92, 46, 4, 96, 79, 177]
abbrev dktX6_book_5 : List UInt8 := dkwX6_book_5 ++ []
def dkwX6_book_4 : List UInt8 := [180, 0, 110, 27, 42, 42, 180, 0, 107, 27, 46, 16, 47, 182, 1, 129, 79, 42, 180, 0, 36, 154, 0, 16]
abbrev dktX6_book_4 : List UInt8 := dkwX6_book_4 ++ dktX6_book_5
def dkwX6_book_3 : List UInt8 := [182, 1, 150, 42, 180, 0, 107, 27, 42, 3, 16, 47, 182, 1, 129, 79, 42, 20, 1, 61, 182, 1, 150, 42]
abbrev dktX6_book_3 : List UInt8 := dkwX6_book_3 ++ dktX6_book_4
def dkwX6_book_2 : List UInt8 := [180, 0, 101, 27, 42, 182, 1, 157, 79, 42, 180, 0, 104, 27, 42, 182, 1, 161, 79, 42, 20, 1, 59]
abbrev dktX6_book_2 : List UInt8 := dkwX6_book_2 ++ dktX6_book_3
def dkwX6_book_1 : List UInt8 := [154, 0, 4, 177, 16, 12, 42, 180, 0, 137, 104, 42, 180, 0, 98, 42, 180, 0, 137, 46, 96, 60, 42]
abbrev dktX6_book_1 : List UInt8 := dkwX6_book_1 ++ dktX6_book_2
def dkwX6_book_0 : List UInt8 := [42, 42, 180, 0, 98, 42, 180, 0, 137, 46, 16, 12, 160, 0, 7, 4, 167, 0, 4, 3, 182, 1, 139]
abbrev dktX6_book_0 : List UInt8 := dkwX6_book_0 ++ dktX6_book_1
theorem dksX6_book_0 : cX6_book.data.toList.drop 0 = dktX6_book_0 := by decide +kernel
theorem dksX6_book_1 : cX6_book.data.toList.drop 23 = dktX6_book_1 := dk_seg dksX6_book_0 23 rfl rfl
theorem dksX6_book_2 : cX6_book.data.toList.drop 46 = dktX6_book_2 := dk_seg dksX6_book_1 23 rfl rfl
theorem dksX6_book_3 : cX6_book.data.toList.drop 69 = dktX6_book_3 := dk_seg dksX6_book_2 23 rfl rfl
theorem dksX6_book_4 : cX6_book.data.toList.drop 93 = dktX6_book_4 := dk_seg dksX6_book_3 24 rfl rfl
theorem dksX6_book_5 : cX6_book.data.toList.drop 117 = dktX6_book_5 := dk_seg dksX6_book_4 24 rfl rfl
theorem dX6_book_0 : decode cX6_book 0 = .ok (.aload_n 0, 1) := dk_42 (dk_at dksX6_book_0 0 rfl rfl)
theorem dX6_book_1 : decode cX6_book 1 = .ok (.aload_n 0, 1) := dk_42 (dk_at dksX6_book_0 1 rfl rfl)
theorem dX6_book_2 : decode cX6_book 2 = .ok (.getfield 98, 3) := dk_180 0 98 (dk_at dksX6_book_0 2 rfl rfl)
theorem dX6_book_5 : decode cX6_book 5 = .ok (.aload_n 0, 1) := dk_42 (dk_at dksX6_book_0 5 rfl rfl)
theorem dX6_book_6 : decode cX6_book 6 = .ok (.getfield 137, 3) := dk_180 0 137 (dk_at dksX6_book_0 6 rfl rfl)
theorem dX6_book_9 : decode cX6_book 9 = .ok (.iaload, 1) := dk_46 (dk_at dksX6_book_0 9 rfl rfl)
theorem dX6_book_10 : decode cX6_book 10 = .ok (.bipush 12, 2) := dk_16 12 (dk_at dksX6_book_0 10 rfl rfl)
theorem dX6_book_12 : decode cX6_book 12 = .ok (.if_icmp .ne 7, 3) := dk_160 0 7 (dk_at dksX6_book_0 12 rfl rfl)
theorem dX6_book_15 : decode cX6_book 15 = .ok (.iconst 1, 1) := dk_4 (dk_at dksX6_book_0 15 rfl rfl)
theorem dX6_book_16 : decode cX6_book 16 = .ok (.goto 4, 3) := dk_167 0 4 (dk_at dksX6_book_0 16 rfl rfl)
theorem dX6_book_19 : decode cX6_book 19 = .ok (.iconst 0, 1) := dk_3 (dk_at dksX6_book_0 19 rfl rfl)
theorem dX6_book_20 : decode cX6_book 20 = .ok (.invokevirtual 395, 3) := dk_182 1 139 (dk_at dksX6_book_0 20 rfl rfl)
theorem dX6_book_23 : decode cX6_book 23 = .ok (.ifCond .ne 4, 3) := dk_154 0 4 (dk_at dksX6_book_1 0 rfl rfl)
theorem dX6_book_26 : decode cX6_book 26 = .ok (.return_, 1) := dk_177 (dk_at dksX6_book_1 3 rfl rfl)
theorem dX6_book_27 : decode cX6_book 27 = .ok (.bipush 12, 2) := dk_16 12 (dk_at dksX6_book_1 4 rfl rfl)
theorem dX6_book_29 : decode cX6_book 29 = .ok (.aload_n 0, 1) := dk_42 (dk_at dksX6_book_1 6 rfl rfl)
theorem dX6_book_30 : decode cX6_book 30 = .ok (.getfield 137, 3) := dk_180 0 137 (dk_at dksX6_book_1 7 rfl rfl)
theorem dX6_book_33 : decode cX6_book 33 = .ok (.imul, 1) := dk_104 (dk_at dksX6_book_1 10 rfl rfl)
theorem dX6_book_34 : decode cX6_book 34 = .ok (.aload_n 0, 1) := dk_42 (dk_at dksX6_book_1 11 rfl rfl)
theorem dX6_book_35 : decode cX6_book 35 = .ok (.getfield 98, 3) := dk_180 0 98 (dk_at dksX6_book_1 12 rfl rfl)
theorem dX6_book_38 : decode cX6_book 38 = .ok (.aload_n 0, 1) := dk_42 (dk_at dksX6_book_1 15 rfl rfl)
theorem dX6_book_39 : decode cX6_book 39 = .ok (.getfield 137, 3) := dk_180 0 137 (dk_at dksX6_book_1 16 rfl rfl)
theorem dX6_book_42 : decode cX6_book 42 = .ok (.iaload, 1) := dk_46 (dk_at dksX6_book_1 19 rfl rfl)
theorem dX6_book_43 : decode cX6_book 43 = .ok (.iadd, 1) := dk_96 (dk_at dksX6_book_1 20 rfl rfl)
theorem dX6_book_44 : decode cX6_book 44 = .ok (.istore_n 1, 1) := dk_60 (dk_at dksX6_book_1 21 rfl rfl)
theorem dX6_book_45 : decode cX6_book 45 = .ok (.aload_n 0, 1) := dk_42 (dk_at dksX6_book_1 22 rfl rfl)
theorem dX6_book_46 : decode cX6_book 46 = .ok (.getfield 101, 3) := dk_180 0 101 (dk_at dksX6_book_2 0 rfl rfl)
theorem dX6_book_49 : decode cX6_book 49 = .ok (.iload_n 1, 1) := dk_27 (dk_at dksX6_book_2 3 rfl rfl)
theorem dX6_book_50 : decode cX6_book 50 = .ok (.aload_n 0, 1) := dk_42 (dk_at dksX6_book_2 4 rfl rfl)
theorem dX6_book_51 : decode cX6_book 51 = .ok (.invokevirtual 413, 3) := dk_182 1 157 (dk_at dksX6_book_2 5 rfl rfl)
theorem dX6_book_54 : decode cX6_book 54 = .ok (.iastore, 1) := dk_79 (dk_at dksX6_book_2 8 rfl rfl)
theorem dX6_book_55 : decode cX6_book 55 = .ok (.aload_n 0, 1) := dk_42 (dk_at dksX6_book_2 9 rfl rfl)
theorem dX6_book_56 : decode cX6_book 56 = .ok (.getfield 104, 3) := dk_180 0 104 (dk_at dksX6_book_2 10 rfl rfl)
theorem dX6_book_59 : decode cX6_book 59 = .ok (.iload_n 1, 1) := dk_27 (dk_at dksX6_book_2 13 rfl rfl)
theorem dX6_book_60 : decode cX6_book 60 = .ok (.aload_n 0, 1) := dk_42 (dk_at dksX6_book_2 14 rfl rfl)
theorem dX6_book_61 : decode cX6_book 61 = .ok (.invokevirtual 417, 3) := dk_182 1 161 (dk_at dksX6_book_2 15 rfl rfl)
theorem dX6_book_64 : decode cX6_book 64 = .ok (.iastore, 1) := dk_79 (dk_at dksX6_book_2 18 rfl rfl)
theorem dX6_book_65 : decode cX6_book 65 = .ok (.aload_n 0, 1) := dk_42 (dk_at dksX6_book_2 19 rfl rfl)
theorem dX6_book_66 : decode cX6_book 66 = .ok (.ldc2_w 315, 3) := dk_20 1 59 (dk_at dksX6_book_2 20 rfl rfl)
theorem dX6_book_69 : decode cX6_book 69 = .ok (.invokevirtual 406, 3) := dk_182 1 150 (dk_at dksX6_book_3 0 rfl rfl)
theorem dX6_book_72 : decode cX6_book 72 = .ok (.aload_n 0, 1) := dk_42 (dk_at dksX6_book_3 3 rfl rfl)
theorem dX6_book_73 : decode cX6_book 73 = .ok (.getfield 107, 3) := dk_180 0 107 (dk_at dksX6_book_3 4 rfl rfl)
theorem dX6_book_76 : decode cX6_book 76 = .ok (.iload_n 1, 1) := dk_27 (dk_at dksX6_book_3 7 rfl rfl)
theorem dX6_book_77 : decode cX6_book 77 = .ok (.aload_n 0, 1) := dk_42 (dk_at dksX6_book_3 8 rfl rfl)
theorem dX6_book_78 : decode cX6_book 78 = .ok (.iconst 0, 1) := dk_3 (dk_at dksX6_book_3 9 rfl rfl)
theorem dX6_book_79 : decode cX6_book 79 = .ok (.bipush 47, 2) := dk_16 47 (dk_at dksX6_book_3 10 rfl rfl)
theorem dX6_book_81 : decode cX6_book 81 = .ok (.invokevirtual 385, 3) := dk_182 1 129 (dk_at dksX6_book_3 12 rfl rfl)
theorem dX6_book_84 : decode cX6_book 84 = .ok (.iastore, 1) := dk_79 (dk_at dksX6_book_3 15 rfl rfl)
theorem dX6_book_85 : decode cX6_book 85 = .ok (.aload_n 0, 1) := dk_42 (dk_at dksX6_book_3 16 rfl rfl)
theorem dX6_book_86 : decode cX6_book 86 = .ok (.ldc2_w 317, 3) := dk_20 1 61 (dk_at dksX6_book_3 17 rfl rfl)
theorem dX6_book_89 : decode cX6_book 89 = .ok (.invokevirtual 406, 3) := dk_182 1 150 (dk_at dksX6_book_3 20 rfl rfl)
theorem dX6_book_92 : decode cX6_book 92 = .ok (.aload_n 0, 1) := dk_42 (dk_at dksX6_book_3 23 rfl rfl)
theorem dX6_book_93 : decode cX6_book 93 = .ok (.getfield 110, 3) := dk_180 0 110 (dk_at dksX6_book_4 0 rfl rfl)
theorem dX6_book_96 : decode cX6_book 96 = .ok (.iload_n 1, 1) := dk_27 (dk_at dksX6_book_4 3 rfl rfl)
theorem dX6_book_97 : decode cX6_book 97 = .ok (.aload_n 0, 1) := dk_42 (dk_at dksX6_book_4 4 rfl rfl)
theorem dX6_book_98 : decode cX6_book 98 = .ok (.aload_n 0, 1) := dk_42 (dk_at dksX6_book_4 5 rfl rfl)
theorem dX6_book_99 : decode cX6_book 99 = .ok (.getfield 107, 3) := dk_180 0 107 (dk_at dksX6_book_4 6 rfl rfl)
theorem dX6_book_102 : decode cX6_book 102 = .ok (.iload_n 1, 1) := dk_27 (dk_at dksX6_book_4 9 rfl rfl)
theorem dX6_book_103 : decode cX6_book 103 = .ok (.iaload, 1) := dk_46 (dk_at dksX6_book_4 10 rfl rfl)
theorem dX6_book_104 : decode cX6_book 104 = .ok (.bipush 47, 2) := dk_16 47 (dk_at dksX6_book_4 11 rfl rfl)
theorem dX6_book_106 : decode cX6_book 106 = .ok (.invokevirtual 385, 3) := dk_182 1 129 (dk_at dksX6_book_4 13 rfl rfl)
theorem dX6_book_109 : decode cX6_book 109 = .ok (.iastore, 1) := dk_79 (dk_at dksX6_book_4 16 rfl rfl)
theorem dX6_book_110 : decode cX6_book 110 = .ok (.aload_n 0, 1) := dk_42 (dk_at dksX6_book_4 17 rfl rfl)
theorem dX6_book_111 : decode cX6_book 111 = .ok (.getfield 36, 3) := dk_180 0 36 (dk_at dksX6_book_4 18 rfl rfl)
theorem dX6_book_114 : decode cX6_book 114 = .ok (.ifCond .ne 16, 3) := dk_154 0 16 (dk_at dksX6_book_4 21 rfl rfl)
theorem dX6_book_117 : decode cX6_book 117 = .ok (.aload_n 0, 1) := dk_42 (dk_at dksX6_book_5 0 rfl rfl)
theorem dX6_book_118 : decode cX6_book 118 = .ok (.getfield 98, 3) := dk_180 0 98 (dk_at dksX6_book_5 1 rfl rfl)
theorem dX6_book_121 : decode cX6_book 121 = .ok (.aload_n 0, 1) := dk_42 (dk_at dksX6_book_5 4 rfl rfl)
theorem dX6_book_122 : decode cX6_book 122 = .ok (.getfield 137, 3) := dk_180 0 137 (dk_at dksX6_book_5 5 rfl rfl)
theorem dX6_book_125 : decode cX6_book 125 = .ok (.dup2, 1) := dk_92 (dk_at dksX6_book_5 8 rfl rfl)
theorem dX6_book_126 : decode cX6_book 126 = .ok (.iaload, 1) := dk_46 (dk_at dksX6_book_5 9 rfl rfl)
theorem dX6_book_127 : decode cX6_book 127 = .ok (.iconst 1, 1) := dk_4 (dk_at dksX6_book_5 10 rfl rfl)
theorem dX6_book_128 : decode cX6_book 128 = .ok (.iadd, 1) := dk_96 (dk_at dksX6_book_5 11 rfl rfl)
theorem dX6_book_129 : decode cX6_book 129 = .ok (.iastore, 1) := dk_79 (dk_at dksX6_book_5 12 rfl rfl)
theorem dX6_book_130 : decode cX6_book 130 = .ok (.return_, 1) := dk_177 (dk_at dksX6_book_5 13 rfl rfl)
abbrev cX6_seen : ByteArray := prog_29_method_38_code
def yX6_seen : MethodName := ⟨RX6, "seen", "()V"⟩
def dkwX6_seen_4 : List UInt8 := [154, 0, 16, 42, 180, 0, 113, 42, 180, 0, 137, 92, 46, 4, 96, 79, 177]
abbrev dktX6_seen_4 : List UInt8 := dkwX6_seen_4 ++ []
def dkwX6_seen_3 : List UInt8 := [20, 1, 65, 182, 1, 150, 42, 180, 0, 122, 27, 42, 3, 16, 47, 182, 1, 129, 79, 42, 180, 0, 36]
abbrev dktX6_seen_3 : List UInt8 := dkwX6_seen_3 ++ dktX6_seen_4
def dkwX6_seen_2 : List UInt8 := [180, 0, 116, 27, 42, 3, 6, 182, 1, 129, 79, 42, 180, 0, 119, 27, 42, 182, 1, 161, 79, 42]
abbrev dktX6_seen_2 : List UInt8 := dkwX6_seen_2 ++ dktX6_seen_3
def dkwX6_seen_1 : List UInt8 := [154, 0, 4, 177, 16, 40, 42, 180, 0, 137, 104, 42, 180, 0, 113, 42, 180, 0, 137, 46, 96, 60, 42]
abbrev dktX6_seen_1 : List UInt8 := dkwX6_seen_1 ++ dktX6_seen_2
def dkwX6_seen_0 : List UInt8 := [42, 42, 180, 0, 113, 42, 180, 0, 137, 46, 16, 40, 160, 0, 7, 4, 167, 0, 4, 3, 182, 1, 139]
abbrev dktX6_seen_0 : List UInt8 := dkwX6_seen_0 ++ dktX6_seen_1
theorem dksX6_seen_0 : cX6_seen.data.toList.drop 0 = dktX6_seen_0 := by decide +kernel
theorem dksX6_seen_1 : cX6_seen.data.toList.drop 23 = dktX6_seen_1 := dk_seg dksX6_seen_0 23 rfl rfl
theorem dksX6_seen_2 : cX6_seen.data.toList.drop 46 = dktX6_seen_2 := dk_seg dksX6_seen_1 23 rfl rfl
theorem dksX6_seen_3 : cX6_seen.data.toList.drop 68 = dktX6_seen_3 := dk_seg dksX6_seen_2 22 rfl rfl
theorem dksX6_seen_4 : cX6_seen.data.toList.drop 91 = dktX6_seen_4 := dk_seg dksX6_seen_3 23 rfl rfl
theorem dX6_seen_0 : decode cX6_seen 0 = .ok (.aload_n 0, 1) := dk_42 (dk_at dksX6_seen_0 0 rfl rfl)
theorem dX6_seen_1 : decode cX6_seen 1 = .ok (.aload_n 0, 1) := dk_42 (dk_at dksX6_seen_0 1 rfl rfl)
theorem dX6_seen_2 : decode cX6_seen 2 = .ok (.getfield 113, 3) := dk_180 0 113 (dk_at dksX6_seen_0 2 rfl rfl)
theorem dX6_seen_5 : decode cX6_seen 5 = .ok (.aload_n 0, 1) := dk_42 (dk_at dksX6_seen_0 5 rfl rfl)
theorem dX6_seen_6 : decode cX6_seen 6 = .ok (.getfield 137, 3) := dk_180 0 137 (dk_at dksX6_seen_0 6 rfl rfl)
theorem dX6_seen_9 : decode cX6_seen 9 = .ok (.iaload, 1) := dk_46 (dk_at dksX6_seen_0 9 rfl rfl)
theorem dX6_seen_10 : decode cX6_seen 10 = .ok (.bipush 40, 2) := dk_16 40 (dk_at dksX6_seen_0 10 rfl rfl)
theorem dX6_seen_12 : decode cX6_seen 12 = .ok (.if_icmp .ne 7, 3) := dk_160 0 7 (dk_at dksX6_seen_0 12 rfl rfl)
theorem dX6_seen_15 : decode cX6_seen 15 = .ok (.iconst 1, 1) := dk_4 (dk_at dksX6_seen_0 15 rfl rfl)
theorem dX6_seen_16 : decode cX6_seen 16 = .ok (.goto 4, 3) := dk_167 0 4 (dk_at dksX6_seen_0 16 rfl rfl)
theorem dX6_seen_19 : decode cX6_seen 19 = .ok (.iconst 0, 1) := dk_3 (dk_at dksX6_seen_0 19 rfl rfl)
theorem dX6_seen_20 : decode cX6_seen 20 = .ok (.invokevirtual 395, 3) := dk_182 1 139 (dk_at dksX6_seen_0 20 rfl rfl)
theorem dX6_seen_23 : decode cX6_seen 23 = .ok (.ifCond .ne 4, 3) := dk_154 0 4 (dk_at dksX6_seen_1 0 rfl rfl)
theorem dX6_seen_26 : decode cX6_seen 26 = .ok (.return_, 1) := dk_177 (dk_at dksX6_seen_1 3 rfl rfl)
theorem dX6_seen_27 : decode cX6_seen 27 = .ok (.bipush 40, 2) := dk_16 40 (dk_at dksX6_seen_1 4 rfl rfl)
theorem dX6_seen_29 : decode cX6_seen 29 = .ok (.aload_n 0, 1) := dk_42 (dk_at dksX6_seen_1 6 rfl rfl)
theorem dX6_seen_30 : decode cX6_seen 30 = .ok (.getfield 137, 3) := dk_180 0 137 (dk_at dksX6_seen_1 7 rfl rfl)
theorem dX6_seen_33 : decode cX6_seen 33 = .ok (.imul, 1) := dk_104 (dk_at dksX6_seen_1 10 rfl rfl)
theorem dX6_seen_34 : decode cX6_seen 34 = .ok (.aload_n 0, 1) := dk_42 (dk_at dksX6_seen_1 11 rfl rfl)
theorem dX6_seen_35 : decode cX6_seen 35 = .ok (.getfield 113, 3) := dk_180 0 113 (dk_at dksX6_seen_1 12 rfl rfl)
theorem dX6_seen_38 : decode cX6_seen 38 = .ok (.aload_n 0, 1) := dk_42 (dk_at dksX6_seen_1 15 rfl rfl)
theorem dX6_seen_39 : decode cX6_seen 39 = .ok (.getfield 137, 3) := dk_180 0 137 (dk_at dksX6_seen_1 16 rfl rfl)
theorem dX6_seen_42 : decode cX6_seen 42 = .ok (.iaload, 1) := dk_46 (dk_at dksX6_seen_1 19 rfl rfl)
theorem dX6_seen_43 : decode cX6_seen 43 = .ok (.iadd, 1) := dk_96 (dk_at dksX6_seen_1 20 rfl rfl)
theorem dX6_seen_44 : decode cX6_seen 44 = .ok (.istore_n 1, 1) := dk_60 (dk_at dksX6_seen_1 21 rfl rfl)
theorem dX6_seen_45 : decode cX6_seen 45 = .ok (.aload_n 0, 1) := dk_42 (dk_at dksX6_seen_1 22 rfl rfl)
theorem dX6_seen_46 : decode cX6_seen 46 = .ok (.getfield 116, 3) := dk_180 0 116 (dk_at dksX6_seen_2 0 rfl rfl)
theorem dX6_seen_49 : decode cX6_seen 49 = .ok (.iload_n 1, 1) := dk_27 (dk_at dksX6_seen_2 3 rfl rfl)
theorem dX6_seen_50 : decode cX6_seen 50 = .ok (.aload_n 0, 1) := dk_42 (dk_at dksX6_seen_2 4 rfl rfl)
theorem dX6_seen_51 : decode cX6_seen 51 = .ok (.iconst 0, 1) := dk_3 (dk_at dksX6_seen_2 5 rfl rfl)
theorem dX6_seen_52 : decode cX6_seen 52 = .ok (.iconst 3, 1) := dk_6 (dk_at dksX6_seen_2 6 rfl rfl)
theorem dX6_seen_53 : decode cX6_seen 53 = .ok (.invokevirtual 385, 3) := dk_182 1 129 (dk_at dksX6_seen_2 7 rfl rfl)
theorem dX6_seen_56 : decode cX6_seen 56 = .ok (.iastore, 1) := dk_79 (dk_at dksX6_seen_2 10 rfl rfl)
theorem dX6_seen_57 : decode cX6_seen 57 = .ok (.aload_n 0, 1) := dk_42 (dk_at dksX6_seen_2 11 rfl rfl)
theorem dX6_seen_58 : decode cX6_seen 58 = .ok (.getfield 119, 3) := dk_180 0 119 (dk_at dksX6_seen_2 12 rfl rfl)
theorem dX6_seen_61 : decode cX6_seen 61 = .ok (.iload_n 1, 1) := dk_27 (dk_at dksX6_seen_2 15 rfl rfl)
theorem dX6_seen_62 : decode cX6_seen 62 = .ok (.aload_n 0, 1) := dk_42 (dk_at dksX6_seen_2 16 rfl rfl)
theorem dX6_seen_63 : decode cX6_seen 63 = .ok (.invokevirtual 417, 3) := dk_182 1 161 (dk_at dksX6_seen_2 17 rfl rfl)
theorem dX6_seen_66 : decode cX6_seen 66 = .ok (.iastore, 1) := dk_79 (dk_at dksX6_seen_2 20 rfl rfl)
theorem dX6_seen_67 : decode cX6_seen 67 = .ok (.aload_n 0, 1) := dk_42 (dk_at dksX6_seen_2 21 rfl rfl)
theorem dX6_seen_68 : decode cX6_seen 68 = .ok (.ldc2_w 321, 3) := dk_20 1 65 (dk_at dksX6_seen_3 0 rfl rfl)
theorem dX6_seen_71 : decode cX6_seen 71 = .ok (.invokevirtual 406, 3) := dk_182 1 150 (dk_at dksX6_seen_3 3 rfl rfl)
theorem dX6_seen_74 : decode cX6_seen 74 = .ok (.aload_n 0, 1) := dk_42 (dk_at dksX6_seen_3 6 rfl rfl)
theorem dX6_seen_75 : decode cX6_seen 75 = .ok (.getfield 122, 3) := dk_180 0 122 (dk_at dksX6_seen_3 7 rfl rfl)
theorem dX6_seen_78 : decode cX6_seen 78 = .ok (.iload_n 1, 1) := dk_27 (dk_at dksX6_seen_3 10 rfl rfl)
theorem dX6_seen_79 : decode cX6_seen 79 = .ok (.aload_n 0, 1) := dk_42 (dk_at dksX6_seen_3 11 rfl rfl)
theorem dX6_seen_80 : decode cX6_seen 80 = .ok (.iconst 0, 1) := dk_3 (dk_at dksX6_seen_3 12 rfl rfl)
theorem dX6_seen_81 : decode cX6_seen 81 = .ok (.bipush 47, 2) := dk_16 47 (dk_at dksX6_seen_3 13 rfl rfl)
theorem dX6_seen_83 : decode cX6_seen 83 = .ok (.invokevirtual 385, 3) := dk_182 1 129 (dk_at dksX6_seen_3 15 rfl rfl)
theorem dX6_seen_86 : decode cX6_seen 86 = .ok (.iastore, 1) := dk_79 (dk_at dksX6_seen_3 18 rfl rfl)
theorem dX6_seen_87 : decode cX6_seen 87 = .ok (.aload_n 0, 1) := dk_42 (dk_at dksX6_seen_3 19 rfl rfl)
theorem dX6_seen_88 : decode cX6_seen 88 = .ok (.getfield 36, 3) := dk_180 0 36 (dk_at dksX6_seen_3 20 rfl rfl)
theorem dX6_seen_91 : decode cX6_seen 91 = .ok (.ifCond .ne 16, 3) := dk_154 0 16 (dk_at dksX6_seen_4 0 rfl rfl)
theorem dX6_seen_94 : decode cX6_seen 94 = .ok (.aload_n 0, 1) := dk_42 (dk_at dksX6_seen_4 3 rfl rfl)
theorem dX6_seen_95 : decode cX6_seen 95 = .ok (.getfield 113, 3) := dk_180 0 113 (dk_at dksX6_seen_4 4 rfl rfl)
theorem dX6_seen_98 : decode cX6_seen 98 = .ok (.aload_n 0, 1) := dk_42 (dk_at dksX6_seen_4 7 rfl rfl)
theorem dX6_seen_99 : decode cX6_seen 99 = .ok (.getfield 137, 3) := dk_180 0 137 (dk_at dksX6_seen_4 8 rfl rfl)
theorem dX6_seen_102 : decode cX6_seen 102 = .ok (.dup2, 1) := dk_92 (dk_at dksX6_seen_4 11 rfl rfl)
theorem dX6_seen_103 : decode cX6_seen 103 = .ok (.iaload, 1) := dk_46 (dk_at dksX6_seen_4 12 rfl rfl)
theorem dX6_seen_104 : decode cX6_seen 104 = .ok (.iconst 1, 1) := dk_4 (dk_at dksX6_seen_4 13 rfl rfl)
theorem dX6_seen_105 : decode cX6_seen 105 = .ok (.iadd, 1) := dk_96 (dk_at dksX6_seen_4 14 rfl rfl)
theorem dX6_seen_106 : decode cX6_seen 106 = .ok (.iastore, 1) := dk_79 (dk_at dksX6_seen_4 15 rfl rfl)
theorem dX6_seen_107 : decode cX6_seen 107 = .ok (.return_, 1) := dk_177 (dk_at dksX6_seen_4 16 rfl rfl)
abbrev cX6_lucks : ByteArray := prog_29_method_39_code
def yX6_lucks : MethodName := ⟨RX6, "lucks", "()V"⟩
def dkwX6_lucks_1 : List UInt8 := [79, 177]
abbrev dktX6_lucks_1 : List UInt8 := dkwX6_lucks_1 ++ []
def dkwX6_lucks_0 : List UInt8 := [42, 3, 182, 1, 139, 154, 0, 4, 177, 42, 180, 0, 125, 42, 180, 0, 137, 42, 3, 16, 100, 182, 1, 129]
abbrev dktX6_lucks_0 : List UInt8 := dkwX6_lucks_0 ++ dktX6_lucks_1
theorem dksX6_lucks_0 : cX6_lucks.data.toList.drop 0 = dktX6_lucks_0 := by decide +kernel
theorem dksX6_lucks_1 : cX6_lucks.data.toList.drop 24 = dktX6_lucks_1 := dk_seg dksX6_lucks_0 24 rfl rfl
theorem dX6_lucks_0 : decode cX6_lucks 0 = .ok (.aload_n 0, 1) := dk_42 (dk_at dksX6_lucks_0 0 rfl rfl)
theorem dX6_lucks_1 : decode cX6_lucks 1 = .ok (.iconst 0, 1) := dk_3 (dk_at dksX6_lucks_0 1 rfl rfl)
theorem dX6_lucks_2 : decode cX6_lucks 2 = .ok (.invokevirtual 395, 3) := dk_182 1 139 (dk_at dksX6_lucks_0 2 rfl rfl)
theorem dX6_lucks_5 : decode cX6_lucks 5 = .ok (.ifCond .ne 4, 3) := dk_154 0 4 (dk_at dksX6_lucks_0 5 rfl rfl)
theorem dX6_lucks_8 : decode cX6_lucks 8 = .ok (.return_, 1) := dk_177 (dk_at dksX6_lucks_0 8 rfl rfl)
theorem dX6_lucks_9 : decode cX6_lucks 9 = .ok (.aload_n 0, 1) := dk_42 (dk_at dksX6_lucks_0 9 rfl rfl)
theorem dX6_lucks_10 : decode cX6_lucks 10 = .ok (.getfield 125, 3) := dk_180 0 125 (dk_at dksX6_lucks_0 10 rfl rfl)
theorem dX6_lucks_13 : decode cX6_lucks 13 = .ok (.aload_n 0, 1) := dk_42 (dk_at dksX6_lucks_0 13 rfl rfl)
theorem dX6_lucks_14 : decode cX6_lucks 14 = .ok (.getfield 137, 3) := dk_180 0 137 (dk_at dksX6_lucks_0 14 rfl rfl)
theorem dX6_lucks_17 : decode cX6_lucks 17 = .ok (.aload_n 0, 1) := dk_42 (dk_at dksX6_lucks_0 17 rfl rfl)
theorem dX6_lucks_18 : decode cX6_lucks 18 = .ok (.iconst 0, 1) := dk_3 (dk_at dksX6_lucks_0 18 rfl rfl)
theorem dX6_lucks_19 : decode cX6_lucks 19 = .ok (.bipush 100, 2) := dk_16 100 (dk_at dksX6_lucks_0 19 rfl rfl)
theorem dX6_lucks_21 : decode cX6_lucks 21 = .ok (.invokevirtual 385, 3) := dk_182 1 129 (dk_at dksX6_lucks_0 21 rfl rfl)
theorem dX6_lucks_24 : decode cX6_lucks 24 = .ok (.iastore, 1) := dk_79 (dk_at dksX6_lucks_1 0 rfl rfl)
theorem dX6_lucks_25 : decode cX6_lucks 25 = .ok (.return_, 1) := dk_177 (dk_at dksX6_lucks_1 1 rfl rfl)
abbrev cX6_lays : ByteArray := prog_29_method_58_code
def yX6_lays : MethodName := ⟨RX6, "lays", "()V"⟩
def dkwX6_lays_1 : List UInt8 := [180, 0, 183, 27, 42, 4, 27, 42, 180, 0, 180, 27, 46, 182, 1, 226, 79, 132, 1, 1, 167, 255, 214, 177]
abbrev dktX6_lays_1 : List UInt8 := dkwX6_lays_1 ++ []
def dkwX6_lays_0 : List UInt8 := [3, 60, 27, 42, 182, 1, 223, 162, 0, 40, 42, 180, 0, 180, 27, 42, 3, 27, 3, 182, 1, 226, 79, 42]
abbrev dktX6_lays_0 : List UInt8 := dkwX6_lays_0 ++ dktX6_lays_1
theorem dksX6_lays_0 : cX6_lays.data.toList.drop 0 = dktX6_lays_0 := by decide +kernel
theorem dksX6_lays_1 : cX6_lays.data.toList.drop 24 = dktX6_lays_1 := dk_seg dksX6_lays_0 24 rfl rfl
theorem dX6_lays_0 : decode cX6_lays 0 = .ok (.iconst 0, 1) := dk_3 (dk_at dksX6_lays_0 0 rfl rfl)
theorem dX6_lays_1 : decode cX6_lays 1 = .ok (.istore_n 1, 1) := dk_60 (dk_at dksX6_lays_0 1 rfl rfl)
theorem dX6_lays_2 : decode cX6_lays 2 = .ok (.iload_n 1, 1) := dk_27 (dk_at dksX6_lays_0 2 rfl rfl)
theorem dX6_lays_3 : decode cX6_lays 3 = .ok (.aload_n 0, 1) := dk_42 (dk_at dksX6_lays_0 3 rfl rfl)
theorem dX6_lays_4 : decode cX6_lays 4 = .ok (.invokevirtual 479, 3) := dk_182 1 223 (dk_at dksX6_lays_0 4 rfl rfl)
theorem dX6_lays_7 : decode cX6_lays 7 = .ok (.if_icmp .ge 40, 3) := dk_162 0 40 (dk_at dksX6_lays_0 7 rfl rfl)
theorem dX6_lays_10 : decode cX6_lays 10 = .ok (.aload_n 0, 1) := dk_42 (dk_at dksX6_lays_0 10 rfl rfl)
theorem dX6_lays_11 : decode cX6_lays 11 = .ok (.getfield 180, 3) := dk_180 0 180 (dk_at dksX6_lays_0 11 rfl rfl)
theorem dX6_lays_14 : decode cX6_lays 14 = .ok (.iload_n 1, 1) := dk_27 (dk_at dksX6_lays_0 14 rfl rfl)
theorem dX6_lays_15 : decode cX6_lays 15 = .ok (.aload_n 0, 1) := dk_42 (dk_at dksX6_lays_0 15 rfl rfl)
theorem dX6_lays_16 : decode cX6_lays 16 = .ok (.iconst 0, 1) := dk_3 (dk_at dksX6_lays_0 16 rfl rfl)
theorem dX6_lays_17 : decode cX6_lays 17 = .ok (.iload_n 1, 1) := dk_27 (dk_at dksX6_lays_0 17 rfl rfl)
theorem dX6_lays_18 : decode cX6_lays 18 = .ok (.iconst 0, 1) := dk_3 (dk_at dksX6_lays_0 18 rfl rfl)
theorem dX6_lays_19 : decode cX6_lays 19 = .ok (.invokevirtual 482, 3) := dk_182 1 226 (dk_at dksX6_lays_0 19 rfl rfl)
theorem dX6_lays_22 : decode cX6_lays 22 = .ok (.iastore, 1) := dk_79 (dk_at dksX6_lays_0 22 rfl rfl)
theorem dX6_lays_23 : decode cX6_lays 23 = .ok (.aload_n 0, 1) := dk_42 (dk_at dksX6_lays_0 23 rfl rfl)
theorem dX6_lays_24 : decode cX6_lays 24 = .ok (.getfield 183, 3) := dk_180 0 183 (dk_at dksX6_lays_1 0 rfl rfl)
theorem dX6_lays_27 : decode cX6_lays 27 = .ok (.iload_n 1, 1) := dk_27 (dk_at dksX6_lays_1 3 rfl rfl)
theorem dX6_lays_28 : decode cX6_lays 28 = .ok (.aload_n 0, 1) := dk_42 (dk_at dksX6_lays_1 4 rfl rfl)
theorem dX6_lays_29 : decode cX6_lays 29 = .ok (.iconst 1, 1) := dk_4 (dk_at dksX6_lays_1 5 rfl rfl)
theorem dX6_lays_30 : decode cX6_lays 30 = .ok (.iload_n 1, 1) := dk_27 (dk_at dksX6_lays_1 6 rfl rfl)
theorem dX6_lays_31 : decode cX6_lays 31 = .ok (.aload_n 0, 1) := dk_42 (dk_at dksX6_lays_1 7 rfl rfl)
theorem dX6_lays_32 : decode cX6_lays 32 = .ok (.getfield 180, 3) := dk_180 0 180 (dk_at dksX6_lays_1 8 rfl rfl)
theorem dX6_lays_35 : decode cX6_lays 35 = .ok (.iload_n 1, 1) := dk_27 (dk_at dksX6_lays_1 11 rfl rfl)
theorem dX6_lays_36 : decode cX6_lays 36 = .ok (.iaload, 1) := dk_46 (dk_at dksX6_lays_1 12 rfl rfl)
theorem dX6_lays_37 : decode cX6_lays 37 = .ok (.invokevirtual 482, 3) := dk_182 1 226 (dk_at dksX6_lays_1 13 rfl rfl)
theorem dX6_lays_40 : decode cX6_lays 40 = .ok (.iastore, 1) := dk_79 (dk_at dksX6_lays_1 16 rfl rfl)
theorem dX6_lays_41 : decode cX6_lays 41 = .ok (.iinc 1 1, 3) := dk_132 1 1 (dk_at dksX6_lays_1 17 rfl rfl)
theorem dX6_lays_44 : decode cX6_lays 44 = .ok (.goto (-42), 3) := dk_167 255 214 (dk_at dksX6_lays_1 20 rfl rfl)
theorem dX6_lays_47 : decode cX6_lays 47 = .ok (.return_, 1) := dk_177 (dk_at dksX6_lays_1 23 rfl rfl)
abbrev cX6_cells : ByteArray := prog_29_method_49_code
def yX6_cells : MethodName := ⟨RX6, "cells", "()I"⟩
def dkwX6_cells_0 : List UInt8 := [42, 180, 0, 51, 42, 180, 0, 48, 46, 42, 180, 0, 54, 42, 180, 0, 48, 46, 104, 172]
abbrev dktX6_cells_0 : List UInt8 := dkwX6_cells_0 ++ []
theorem dksX6_cells_0 : cX6_cells.data.toList.drop 0 = dktX6_cells_0 := by decide +kernel
theorem dX6_cells_0 : decode cX6_cells 0 = .ok (.aload_n 0, 1) := dk_42 (dk_at dksX6_cells_0 0 rfl rfl)
theorem dX6_cells_1 : decode cX6_cells 1 = .ok (.getfield 51, 3) := dk_180 0 51 (dk_at dksX6_cells_0 1 rfl rfl)
theorem dX6_cells_4 : decode cX6_cells 4 = .ok (.aload_n 0, 1) := dk_42 (dk_at dksX6_cells_0 4 rfl rfl)
theorem dX6_cells_5 : decode cX6_cells 5 = .ok (.getfield 48, 3) := dk_180 0 48 (dk_at dksX6_cells_0 5 rfl rfl)
theorem dX6_cells_8 : decode cX6_cells 8 = .ok (.iaload, 1) := dk_46 (dk_at dksX6_cells_0 8 rfl rfl)
theorem dX6_cells_9 : decode cX6_cells 9 = .ok (.aload_n 0, 1) := dk_42 (dk_at dksX6_cells_0 9 rfl rfl)
theorem dX6_cells_10 : decode cX6_cells 10 = .ok (.getfield 54, 3) := dk_180 0 54 (dk_at dksX6_cells_0 10 rfl rfl)
theorem dX6_cells_13 : decode cX6_cells 13 = .ok (.aload_n 0, 1) := dk_42 (dk_at dksX6_cells_0 13 rfl rfl)
theorem dX6_cells_14 : decode cX6_cells 14 = .ok (.getfield 48, 3) := dk_180 0 48 (dk_at dksX6_cells_0 14 rfl rfl)
theorem dX6_cells_17 : decode cX6_cells 17 = .ok (.iaload, 1) := dk_46 (dk_at dksX6_cells_0 17 rfl rfl)
theorem dX6_cells_18 : decode cX6_cells 18 = .ok (.imul, 1) := dk_104 (dk_at dksX6_cells_0 18 rfl rfl)
theorem dX6_cells_19 : decode cX6_cells 19 = .ok (.ireturn, 1) := dk_172 (dk_at dksX6_cells_0 19 rfl rfl)
abbrev cX6_sumOf : ByteArray := prog_29_method_57_code
def yX6_sumOf : MethodName := ⟨RX6, "sumOf", "(III)I"⟩
def dkwX6_sumOf_3 : List UInt8 := [172]
abbrev dktX6_sumOf_3 : List UInt8 := dkwX6_sumOf_3 ++ []
def dkwX6_sumOf_2 : List UInt8 := [156, 0, 7, 3, 167, 0, 20, 22, 5, 20, 1, 221, 148, 158, 0, 8, 16, 99, 167, 0, 6, 22, 5, 136]
abbrev dktX6_sumOf_2 : List UInt8 := dkwX6_sumOf_2 ++ dktX6_sumOf_3
def dkwX6_sumOf_1 : List UInt8 := [180, 0, 60, 21, 4, 46, 42, 180, 0, 63, 21, 4, 46, 182, 1, 213, 55, 5, 22, 5, 9, 148]
abbrev dktX6_sumOf_1 : List UInt8 := dkwX6_sumOf_1 ++ dktX6_sumOf_2
def dkwX6_sumOf_0 : List UInt8 := [42, 27, 28, 3, 29, 182, 1, 217, 54, 4, 21, 4, 2, 160, 0, 7, 9, 167, 0, 21, 42, 42]
abbrev dktX6_sumOf_0 : List UInt8 := dkwX6_sumOf_0 ++ dktX6_sumOf_1
theorem dksX6_sumOf_0 : cX6_sumOf.data.toList.drop 0 = dktX6_sumOf_0 := by decide +kernel
theorem dksX6_sumOf_1 : cX6_sumOf.data.toList.drop 22 = dktX6_sumOf_1 := dk_seg dksX6_sumOf_0 22 rfl rfl
theorem dksX6_sumOf_2 : cX6_sumOf.data.toList.drop 44 = dktX6_sumOf_2 := dk_seg dksX6_sumOf_1 22 rfl rfl
theorem dksX6_sumOf_3 : cX6_sumOf.data.toList.drop 68 = dktX6_sumOf_3 := dk_seg dksX6_sumOf_2 24 rfl rfl
theorem dX6_sumOf_0 : decode cX6_sumOf 0 = .ok (.aload_n 0, 1) := dk_42 (dk_at dksX6_sumOf_0 0 rfl rfl)
theorem dX6_sumOf_1 : decode cX6_sumOf 1 = .ok (.iload_n 1, 1) := dk_27 (dk_at dksX6_sumOf_0 1 rfl rfl)
theorem dX6_sumOf_2 : decode cX6_sumOf 2 = .ok (.iload_n 2, 1) := dk_28 (dk_at dksX6_sumOf_0 2 rfl rfl)
theorem dX6_sumOf_3 : decode cX6_sumOf 3 = .ok (.iconst 0, 1) := dk_3 (dk_at dksX6_sumOf_0 3 rfl rfl)
theorem dX6_sumOf_4 : decode cX6_sumOf 4 = .ok (.iload_n 3, 1) := dk_29 (dk_at dksX6_sumOf_0 4 rfl rfl)
theorem dX6_sumOf_5 : decode cX6_sumOf 5 = .ok (.invokevirtual 473, 3) := dk_182 1 217 (dk_at dksX6_sumOf_0 5 rfl rfl)
theorem dX6_sumOf_8 : decode cX6_sumOf 8 = .ok (.istore 4, 2) := dk_54 4 (dk_at dksX6_sumOf_0 8 rfl rfl)
theorem dX6_sumOf_10 : decode cX6_sumOf 10 = .ok (.iload 4, 2) := dk_21 4 (dk_at dksX6_sumOf_0 10 rfl rfl)
theorem dX6_sumOf_12 : decode cX6_sumOf 12 = .ok (.iconst (-1), 1) := dk_2 (dk_at dksX6_sumOf_0 12 rfl rfl)
theorem dX6_sumOf_13 : decode cX6_sumOf 13 = .ok (.if_icmp .ne 7, 3) := dk_160 0 7 (dk_at dksX6_sumOf_0 13 rfl rfl)
theorem dX6_sumOf_16 : decode cX6_sumOf 16 = .ok (.lconst 0, 1) := dk_9 (dk_at dksX6_sumOf_0 16 rfl rfl)
theorem dX6_sumOf_17 : decode cX6_sumOf 17 = .ok (.goto 21, 3) := dk_167 0 21 (dk_at dksX6_sumOf_0 17 rfl rfl)
theorem dX6_sumOf_20 : decode cX6_sumOf 20 = .ok (.aload_n 0, 1) := dk_42 (dk_at dksX6_sumOf_0 20 rfl rfl)
theorem dX6_sumOf_21 : decode cX6_sumOf 21 = .ok (.aload_n 0, 1) := dk_42 (dk_at dksX6_sumOf_0 21 rfl rfl)
theorem dX6_sumOf_22 : decode cX6_sumOf 22 = .ok (.getfield 60, 3) := dk_180 0 60 (dk_at dksX6_sumOf_1 0 rfl rfl)
theorem dX6_sumOf_25 : decode cX6_sumOf 25 = .ok (.iload 4, 2) := dk_21 4 (dk_at dksX6_sumOf_1 3 rfl rfl)
theorem dX6_sumOf_27 : decode cX6_sumOf 27 = .ok (.iaload, 1) := dk_46 (dk_at dksX6_sumOf_1 5 rfl rfl)
theorem dX6_sumOf_28 : decode cX6_sumOf 28 = .ok (.aload_n 0, 1) := dk_42 (dk_at dksX6_sumOf_1 6 rfl rfl)
theorem dX6_sumOf_29 : decode cX6_sumOf 29 = .ok (.getfield 63, 3) := dk_180 0 63 (dk_at dksX6_sumOf_1 7 rfl rfl)
theorem dX6_sumOf_32 : decode cX6_sumOf 32 = .ok (.iload 4, 2) := dk_21 4 (dk_at dksX6_sumOf_1 10 rfl rfl)
theorem dX6_sumOf_34 : decode cX6_sumOf 34 = .ok (.iaload, 1) := dk_46 (dk_at dksX6_sumOf_1 12 rfl rfl)
theorem dX6_sumOf_35 : decode cX6_sumOf 35 = .ok (.invokevirtual 469, 3) := dk_182 1 213 (dk_at dksX6_sumOf_1 13 rfl rfl)
theorem dX6_sumOf_38 : decode cX6_sumOf 38 = .ok (.lstore 5, 2) := dk_55 5 (dk_at dksX6_sumOf_1 16 rfl rfl)
theorem dX6_sumOf_40 : decode cX6_sumOf 40 = .ok (.lload 5, 2) := dk_22 5 (dk_at dksX6_sumOf_1 18 rfl rfl)
theorem dX6_sumOf_42 : decode cX6_sumOf 42 = .ok (.lconst 0, 1) := dk_9 (dk_at dksX6_sumOf_1 20 rfl rfl)
theorem dX6_sumOf_43 : decode cX6_sumOf 43 = .ok (.lcmp, 1) := dk_148 (dk_at dksX6_sumOf_1 21 rfl rfl)
theorem dX6_sumOf_44 : decode cX6_sumOf 44 = .ok (.ifCond .ge 7, 3) := dk_156 0 7 (dk_at dksX6_sumOf_2 0 rfl rfl)
theorem dX6_sumOf_47 : decode cX6_sumOf 47 = .ok (.iconst 0, 1) := dk_3 (dk_at dksX6_sumOf_2 3 rfl rfl)
theorem dX6_sumOf_48 : decode cX6_sumOf 48 = .ok (.goto 20, 3) := dk_167 0 20 (dk_at dksX6_sumOf_2 4 rfl rfl)
theorem dX6_sumOf_51 : decode cX6_sumOf 51 = .ok (.lload 5, 2) := dk_22 5 (dk_at dksX6_sumOf_2 7 rfl rfl)
theorem dX6_sumOf_53 : decode cX6_sumOf 53 = .ok (.ldc2_w 477, 3) := dk_20 1 221 (dk_at dksX6_sumOf_2 9 rfl rfl)
theorem dX6_sumOf_56 : decode cX6_sumOf 56 = .ok (.lcmp, 1) := dk_148 (dk_at dksX6_sumOf_2 12 rfl rfl)
theorem dX6_sumOf_57 : decode cX6_sumOf 57 = .ok (.ifCond .le 8, 3) := dk_158 0 8 (dk_at dksX6_sumOf_2 13 rfl rfl)
theorem dX6_sumOf_60 : decode cX6_sumOf 60 = .ok (.bipush 99, 2) := dk_16 99 (dk_at dksX6_sumOf_2 16 rfl rfl)
theorem dX6_sumOf_62 : decode cX6_sumOf 62 = .ok (.goto 6, 3) := dk_167 0 6 (dk_at dksX6_sumOf_2 18 rfl rfl)
theorem dX6_sumOf_65 : decode cX6_sumOf 65 = .ok (.lload 5, 2) := dk_22 5 (dk_at dksX6_sumOf_2 21 rfl rfl)
theorem dX6_sumOf_67 : decode cX6_sumOf 67 = .ok (.l2i, 1) := dk_136 (dk_at dksX6_sumOf_2 23 rfl rfl)
theorem dX6_sumOf_68 : decode cX6_sumOf 68 = .ok (.ireturn, 1) := dk_172 (dk_at dksX6_sumOf_3 0 rfl rfl)
abbrev cX6_ruleOf : ByteArray := prog_29_method_56_code
def yX6_ruleOf : MethodName := ⟨RX6, "ruleOf", "(IIII)I"⟩
def dkwX6_ruleOf_4 : List UInt8 := [182, 1, 213, 10, 148, 154, 0, 6, 21, 6, 172, 132, 6, 1, 167, 255, 206, 2, 172]
abbrev dktX6_ruleOf_4 : List UInt8 := dkwX6_ruleOf_4 ++ []
def dkwX6_ruleOf_3 : List UInt8 := [27, 96, 46, 96, 162, 0, 35, 42, 42, 180, 0, 63, 21, 6, 46, 42, 180, 0, 66, 21, 6, 46]
abbrev dktX6_ruleOf_3 : List UInt8 := dkwX6_ruleOf_3 ++ dktX6_ruleOf_4
def dkwX6_ruleOf_2 : List UInt8 := [184, 1, 143, 96, 54, 5, 21, 5, 54, 6, 21, 6, 21, 5, 42, 180, 0, 57, 6, 42, 180, 0, 48, 104]
abbrev dktX6_ruleOf_2 : List UInt8 := dkwX6_ruleOf_2 ++ dktX6_ruleOf_3
def dkwX6_ruleOf_1 : List UInt8 := [180, 0, 177, 6, 29, 79, 42, 180, 0, 177, 7, 21, 4, 79, 16, 30, 42, 180, 0, 48, 104, 27]
abbrev dktX6_ruleOf_1 : List UInt8 := dkwX6_ruleOf_1 ++ dktX6_ruleOf_2
def dkwX6_ruleOf_0 : List UInt8 := [42, 180, 0, 177, 4, 42, 28, 182, 1, 207, 79, 42, 180, 0, 177, 5, 42, 28, 182, 1, 210, 79, 42]
abbrev dktX6_ruleOf_0 : List UInt8 := dkwX6_ruleOf_0 ++ dktX6_ruleOf_1
theorem dksX6_ruleOf_0 : cX6_ruleOf.data.toList.drop 0 = dktX6_ruleOf_0 := by decide +kernel
theorem dksX6_ruleOf_1 : cX6_ruleOf.data.toList.drop 23 = dktX6_ruleOf_1 := dk_seg dksX6_ruleOf_0 23 rfl rfl
theorem dksX6_ruleOf_2 : cX6_ruleOf.data.toList.drop 45 = dktX6_ruleOf_2 := dk_seg dksX6_ruleOf_1 22 rfl rfl
theorem dksX6_ruleOf_3 : cX6_ruleOf.data.toList.drop 69 = dktX6_ruleOf_3 := dk_seg dksX6_ruleOf_2 24 rfl rfl
theorem dksX6_ruleOf_4 : cX6_ruleOf.data.toList.drop 91 = dktX6_ruleOf_4 := dk_seg dksX6_ruleOf_3 22 rfl rfl
theorem dX6_ruleOf_0 : decode cX6_ruleOf 0 = .ok (.aload_n 0, 1) := dk_42 (dk_at dksX6_ruleOf_0 0 rfl rfl)
theorem dX6_ruleOf_1 : decode cX6_ruleOf 1 = .ok (.getfield 177, 3) := dk_180 0 177 (dk_at dksX6_ruleOf_0 1 rfl rfl)
theorem dX6_ruleOf_4 : decode cX6_ruleOf 4 = .ok (.iconst 1, 1) := dk_4 (dk_at dksX6_ruleOf_0 4 rfl rfl)
theorem dX6_ruleOf_5 : decode cX6_ruleOf 5 = .ok (.aload_n 0, 1) := dk_42 (dk_at dksX6_ruleOf_0 5 rfl rfl)
theorem dX6_ruleOf_6 : decode cX6_ruleOf 6 = .ok (.iload_n 2, 1) := dk_28 (dk_at dksX6_ruleOf_0 6 rfl rfl)
theorem dX6_ruleOf_7 : decode cX6_ruleOf 7 = .ok (.invokevirtual 463, 3) := dk_182 1 207 (dk_at dksX6_ruleOf_0 7 rfl rfl)
theorem dX6_ruleOf_10 : decode cX6_ruleOf 10 = .ok (.iastore, 1) := dk_79 (dk_at dksX6_ruleOf_0 10 rfl rfl)
theorem dX6_ruleOf_11 : decode cX6_ruleOf 11 = .ok (.aload_n 0, 1) := dk_42 (dk_at dksX6_ruleOf_0 11 rfl rfl)
theorem dX6_ruleOf_12 : decode cX6_ruleOf 12 = .ok (.getfield 177, 3) := dk_180 0 177 (dk_at dksX6_ruleOf_0 12 rfl rfl)
theorem dX6_ruleOf_15 : decode cX6_ruleOf 15 = .ok (.iconst 2, 1) := dk_5 (dk_at dksX6_ruleOf_0 15 rfl rfl)
theorem dX6_ruleOf_16 : decode cX6_ruleOf 16 = .ok (.aload_n 0, 1) := dk_42 (dk_at dksX6_ruleOf_0 16 rfl rfl)
theorem dX6_ruleOf_17 : decode cX6_ruleOf 17 = .ok (.iload_n 2, 1) := dk_28 (dk_at dksX6_ruleOf_0 17 rfl rfl)
theorem dX6_ruleOf_18 : decode cX6_ruleOf 18 = .ok (.invokevirtual 466, 3) := dk_182 1 210 (dk_at dksX6_ruleOf_0 18 rfl rfl)
theorem dX6_ruleOf_21 : decode cX6_ruleOf 21 = .ok (.iastore, 1) := dk_79 (dk_at dksX6_ruleOf_0 21 rfl rfl)
theorem dX6_ruleOf_22 : decode cX6_ruleOf 22 = .ok (.aload_n 0, 1) := dk_42 (dk_at dksX6_ruleOf_0 22 rfl rfl)
theorem dX6_ruleOf_23 : decode cX6_ruleOf 23 = .ok (.getfield 177, 3) := dk_180 0 177 (dk_at dksX6_ruleOf_1 0 rfl rfl)
theorem dX6_ruleOf_26 : decode cX6_ruleOf 26 = .ok (.iconst 3, 1) := dk_6 (dk_at dksX6_ruleOf_1 3 rfl rfl)
theorem dX6_ruleOf_27 : decode cX6_ruleOf 27 = .ok (.iload_n 3, 1) := dk_29 (dk_at dksX6_ruleOf_1 4 rfl rfl)
theorem dX6_ruleOf_28 : decode cX6_ruleOf 28 = .ok (.iastore, 1) := dk_79 (dk_at dksX6_ruleOf_1 5 rfl rfl)
theorem dX6_ruleOf_29 : decode cX6_ruleOf 29 = .ok (.aload_n 0, 1) := dk_42 (dk_at dksX6_ruleOf_1 6 rfl rfl)
theorem dX6_ruleOf_30 : decode cX6_ruleOf 30 = .ok (.getfield 177, 3) := dk_180 0 177 (dk_at dksX6_ruleOf_1 7 rfl rfl)
theorem dX6_ruleOf_33 : decode cX6_ruleOf 33 = .ok (.iconst 4, 1) := dk_7 (dk_at dksX6_ruleOf_1 10 rfl rfl)
theorem dX6_ruleOf_34 : decode cX6_ruleOf 34 = .ok (.iload 4, 2) := dk_21 4 (dk_at dksX6_ruleOf_1 11 rfl rfl)
theorem dX6_ruleOf_36 : decode cX6_ruleOf 36 = .ok (.iastore, 1) := dk_79 (dk_at dksX6_ruleOf_1 13 rfl rfl)
theorem dX6_ruleOf_37 : decode cX6_ruleOf 37 = .ok (.bipush 30, 2) := dk_16 30 (dk_at dksX6_ruleOf_1 14 rfl rfl)
theorem dX6_ruleOf_39 : decode cX6_ruleOf 39 = .ok (.aload_n 0, 1) := dk_42 (dk_at dksX6_ruleOf_1 16 rfl rfl)
theorem dX6_ruleOf_40 : decode cX6_ruleOf 40 = .ok (.getfield 48, 3) := dk_180 0 48 (dk_at dksX6_ruleOf_1 17 rfl rfl)
theorem dX6_ruleOf_43 : decode cX6_ruleOf 43 = .ok (.imul, 1) := dk_104 (dk_at dksX6_ruleOf_1 20 rfl rfl)
theorem dX6_ruleOf_44 : decode cX6_ruleOf 44 = .ok (.iload_n 1, 1) := dk_27 (dk_at dksX6_ruleOf_1 21 rfl rfl)
theorem dX6_ruleOf_45 : decode cX6_ruleOf 45 = .ok (.invokestatic 399, 3) := dk_184 1 143 (dk_at dksX6_ruleOf_2 0 rfl rfl)
theorem dX6_ruleOf_48 : decode cX6_ruleOf 48 = .ok (.iadd, 1) := dk_96 (dk_at dksX6_ruleOf_2 3 rfl rfl)
theorem dX6_ruleOf_49 : decode cX6_ruleOf 49 = .ok (.istore 5, 2) := dk_54 5 (dk_at dksX6_ruleOf_2 4 rfl rfl)
theorem dX6_ruleOf_51 : decode cX6_ruleOf 51 = .ok (.iload 5, 2) := dk_21 5 (dk_at dksX6_ruleOf_2 6 rfl rfl)
theorem dX6_ruleOf_53 : decode cX6_ruleOf 53 = .ok (.istore 6, 2) := dk_54 6 (dk_at dksX6_ruleOf_2 8 rfl rfl)
theorem dX6_ruleOf_55 : decode cX6_ruleOf 55 = .ok (.iload 6, 2) := dk_21 6 (dk_at dksX6_ruleOf_2 10 rfl rfl)
theorem dX6_ruleOf_57 : decode cX6_ruleOf 57 = .ok (.iload 5, 2) := dk_21 5 (dk_at dksX6_ruleOf_2 12 rfl rfl)
theorem dX6_ruleOf_59 : decode cX6_ruleOf 59 = .ok (.aload_n 0, 1) := dk_42 (dk_at dksX6_ruleOf_2 14 rfl rfl)
theorem dX6_ruleOf_60 : decode cX6_ruleOf 60 = .ok (.getfield 57, 3) := dk_180 0 57 (dk_at dksX6_ruleOf_2 15 rfl rfl)
theorem dX6_ruleOf_63 : decode cX6_ruleOf 63 = .ok (.iconst 3, 1) := dk_6 (dk_at dksX6_ruleOf_2 18 rfl rfl)
theorem dX6_ruleOf_64 : decode cX6_ruleOf 64 = .ok (.aload_n 0, 1) := dk_42 (dk_at dksX6_ruleOf_2 19 rfl rfl)
theorem dX6_ruleOf_65 : decode cX6_ruleOf 65 = .ok (.getfield 48, 3) := dk_180 0 48 (dk_at dksX6_ruleOf_2 20 rfl rfl)
theorem dX6_ruleOf_68 : decode cX6_ruleOf 68 = .ok (.imul, 1) := dk_104 (dk_at dksX6_ruleOf_2 23 rfl rfl)
theorem dX6_ruleOf_69 : decode cX6_ruleOf 69 = .ok (.iload_n 1, 1) := dk_27 (dk_at dksX6_ruleOf_3 0 rfl rfl)
theorem dX6_ruleOf_70 : decode cX6_ruleOf 70 = .ok (.iadd, 1) := dk_96 (dk_at dksX6_ruleOf_3 1 rfl rfl)
theorem dX6_ruleOf_71 : decode cX6_ruleOf 71 = .ok (.iaload, 1) := dk_46 (dk_at dksX6_ruleOf_3 2 rfl rfl)
theorem dX6_ruleOf_72 : decode cX6_ruleOf 72 = .ok (.iadd, 1) := dk_96 (dk_at dksX6_ruleOf_3 3 rfl rfl)
theorem dX6_ruleOf_73 : decode cX6_ruleOf 73 = .ok (.if_icmp .ge 35, 3) := dk_162 0 35 (dk_at dksX6_ruleOf_3 4 rfl rfl)
theorem dX6_ruleOf_76 : decode cX6_ruleOf 76 = .ok (.aload_n 0, 1) := dk_42 (dk_at dksX6_ruleOf_3 7 rfl rfl)
theorem dX6_ruleOf_77 : decode cX6_ruleOf 77 = .ok (.aload_n 0, 1) := dk_42 (dk_at dksX6_ruleOf_3 8 rfl rfl)
theorem dX6_ruleOf_78 : decode cX6_ruleOf 78 = .ok (.getfield 63, 3) := dk_180 0 63 (dk_at dksX6_ruleOf_3 9 rfl rfl)
theorem dX6_ruleOf_81 : decode cX6_ruleOf 81 = .ok (.iload 6, 2) := dk_21 6 (dk_at dksX6_ruleOf_3 12 rfl rfl)
theorem dX6_ruleOf_83 : decode cX6_ruleOf 83 = .ok (.iaload, 1) := dk_46 (dk_at dksX6_ruleOf_3 14 rfl rfl)
theorem dX6_ruleOf_84 : decode cX6_ruleOf 84 = .ok (.aload_n 0, 1) := dk_42 (dk_at dksX6_ruleOf_3 15 rfl rfl)
theorem dX6_ruleOf_85 : decode cX6_ruleOf 85 = .ok (.getfield 66, 3) := dk_180 0 66 (dk_at dksX6_ruleOf_3 16 rfl rfl)
theorem dX6_ruleOf_88 : decode cX6_ruleOf 88 = .ok (.iload 6, 2) := dk_21 6 (dk_at dksX6_ruleOf_3 19 rfl rfl)
theorem dX6_ruleOf_90 : decode cX6_ruleOf 90 = .ok (.iaload, 1) := dk_46 (dk_at dksX6_ruleOf_3 21 rfl rfl)
theorem dX6_ruleOf_91 : decode cX6_ruleOf 91 = .ok (.invokevirtual 469, 3) := dk_182 1 213 (dk_at dksX6_ruleOf_4 0 rfl rfl)
theorem dX6_ruleOf_94 : decode cX6_ruleOf 94 = .ok (.lconst 1, 1) := dk_10 (dk_at dksX6_ruleOf_4 3 rfl rfl)
theorem dX6_ruleOf_95 : decode cX6_ruleOf 95 = .ok (.lcmp, 1) := dk_148 (dk_at dksX6_ruleOf_4 4 rfl rfl)
theorem dX6_ruleOf_96 : decode cX6_ruleOf 96 = .ok (.ifCond .ne 6, 3) := dk_154 0 6 (dk_at dksX6_ruleOf_4 5 rfl rfl)
theorem dX6_ruleOf_99 : decode cX6_ruleOf 99 = .ok (.iload 6, 2) := dk_21 6 (dk_at dksX6_ruleOf_4 8 rfl rfl)
theorem dX6_ruleOf_101 : decode cX6_ruleOf 101 = .ok (.ireturn, 1) := dk_172 (dk_at dksX6_ruleOf_4 10 rfl rfl)
theorem dX6_ruleOf_102 : decode cX6_ruleOf 102 = .ok (.iinc 6 1, 3) := dk_132 6 1 (dk_at dksX6_ruleOf_4 11 rfl rfl)
theorem dX6_ruleOf_105 : decode cX6_ruleOf 105 = .ok (.goto (-50), 3) := dk_167 255 206 (dk_at dksX6_ruleOf_4 14 rfl rfl)
theorem dX6_ruleOf_108 : decode cX6_ruleOf 108 = .ok (.iconst (-1), 1) := dk_2 (dk_at dksX6_ruleOf_4 17 rfl rfl)
theorem dX6_ruleOf_109 : decode cX6_ruleOf 109 = .ok (.ireturn, 1) := dk_172 (dk_at dksX6_ruleOf_4 18 rfl rfl)
abbrev cX6_columnOf : ByteArray := prog_29_method_50_code
def yX6_columnOf : MethodName := ⟨RX6, "columnOf", "(I)I"⟩
def dkwX6_columnOf_0 : List UInt8 := [27, 42, 180, 0, 51, 42, 180, 0, 48, 46, 112, 172]
abbrev dktX6_columnOf_0 : List UInt8 := dkwX6_columnOf_0 ++ []
theorem dksX6_columnOf_0 : cX6_columnOf.data.toList.drop 0 = dktX6_columnOf_0 := by decide +kernel
theorem dX6_columnOf_0 : decode cX6_columnOf 0 = .ok (.iload_n 1, 1) := dk_27 (dk_at dksX6_columnOf_0 0 rfl rfl)
theorem dX6_columnOf_1 : decode cX6_columnOf 1 = .ok (.aload_n 0, 1) := dk_42 (dk_at dksX6_columnOf_0 1 rfl rfl)
theorem dX6_columnOf_2 : decode cX6_columnOf 2 = .ok (.getfield 51, 3) := dk_180 0 51 (dk_at dksX6_columnOf_0 2 rfl rfl)
theorem dX6_columnOf_5 : decode cX6_columnOf 5 = .ok (.aload_n 0, 1) := dk_42 (dk_at dksX6_columnOf_0 5 rfl rfl)
theorem dX6_columnOf_6 : decode cX6_columnOf 6 = .ok (.getfield 48, 3) := dk_180 0 48 (dk_at dksX6_columnOf_0 6 rfl rfl)
theorem dX6_columnOf_9 : decode cX6_columnOf 9 = .ok (.iaload, 1) := dk_46 (dk_at dksX6_columnOf_0 9 rfl rfl)
theorem dX6_columnOf_10 : decode cX6_columnOf 10 = .ok (.irem, 1) := dk_112 (dk_at dksX6_columnOf_0 10 rfl rfl)
theorem dX6_columnOf_11 : decode cX6_columnOf 11 = .ok (.ireturn, 1) := dk_172 (dk_at dksX6_columnOf_0 11 rfl rfl)
abbrev cX6_rowOf : ByteArray := prog_29_method_51_code
def yX6_rowOf : MethodName := ⟨RX6, "rowOf", "(I)I"⟩
def dkwX6_rowOf_0 : List UInt8 := [27, 42, 180, 0, 51, 42, 180, 0, 48, 46, 108, 172]
abbrev dktX6_rowOf_0 : List UInt8 := dkwX6_rowOf_0 ++ []
theorem dksX6_rowOf_0 : cX6_rowOf.data.toList.drop 0 = dktX6_rowOf_0 := by decide +kernel
theorem dX6_rowOf_0 : decode cX6_rowOf 0 = .ok (.iload_n 1, 1) := dk_27 (dk_at dksX6_rowOf_0 0 rfl rfl)
theorem dX6_rowOf_1 : decode cX6_rowOf 1 = .ok (.aload_n 0, 1) := dk_42 (dk_at dksX6_rowOf_0 1 rfl rfl)
theorem dX6_rowOf_2 : decode cX6_rowOf 2 = .ok (.getfield 51, 3) := dk_180 0 51 (dk_at dksX6_rowOf_0 2 rfl rfl)
theorem dX6_rowOf_5 : decode cX6_rowOf 5 = .ok (.aload_n 0, 1) := dk_42 (dk_at dksX6_rowOf_0 5 rfl rfl)
theorem dX6_rowOf_6 : decode cX6_rowOf 6 = .ok (.getfield 48, 3) := dk_180 0 48 (dk_at dksX6_rowOf_0 6 rfl rfl)
theorem dX6_rowOf_9 : decode cX6_rowOf 9 = .ok (.iaload, 1) := dk_46 (dk_at dksX6_rowOf_0 9 rfl rfl)
theorem dX6_rowOf_10 : decode cX6_rowOf 10 = .ok (.idiv, 1) := dk_108 (dk_at dksX6_rowOf_0 10 rfl rfl)
theorem dX6_rowOf_11 : decode cX6_rowOf 11 = .ok (.ireturn, 1) := dk_172 (dk_at dksX6_rowOf_0 11 rfl rfl)
abbrev cX6_works : ByteArray := prog_29_method_48_code
def yX6_works : MethodName := ⟨RX6, "works", "(II)J"⟩
def dkwX6_works_6 : List UInt8 := [180, 0, 174, 29, 47, 184, 1, 203, 80, 132, 4, 1, 167, 255, 117, 42, 180, 0, 174, 3, 47, 173]
abbrev dktX6_works_6 : List UInt8 := dkwX6_works_6 ++ []
def dkwX6_works_5 : List UInt8 := [167, 0, 33, 132, 3, 255, 42, 180, 0, 174, 29, 4, 100, 21, 5, 42, 180, 0, 174, 29, 4, 100, 47, 42]
abbrev dktX6_works_5 : List UInt8 := dkwX6_works_5 ++ dktX6_works_6
def dkwX6_works_4 : List UInt8 := [16, 22, 160, 0, 24, 42, 180, 0, 174, 29, 4, 100, 10, 42, 180, 0, 174, 29, 4, 100, 47, 101, 80]
abbrev dktX6_works_4 : List UInt8 := dkwX6_works_4 ++ dktX6_works_5
def dkwX6_works_3 : List UInt8 := [160, 0, 7, 10, 167, 0, 11, 42, 180, 0, 177, 21, 5, 46, 133, 80, 132, 3, 1, 167, 0, 61, 21, 5]
abbrev dktX6_works_3 : List UInt8 := dkwX6_works_3 ++ dktX6_works_4
def dkwX6_works_2 : List UInt8 := [180, 0, 174, 29, 21, 5, 154, 0, 14, 42, 180, 0, 131, 21, 4, 46, 133, 167, 0, 22, 21, 5, 16, 9]
abbrev dktX6_works_2 : List UInt8 := dkwX6_works_2 ++ dktX6_works_3
def dkwX6_works_1 : List UInt8 := [28, 96, 162, 0, 130, 42, 180, 0, 128, 21, 4, 46, 54, 5, 21, 5, 16, 9, 163, 0, 50, 42]
abbrev dktX6_works_1 : List UInt8 := dkwX6_works_1 ++ dktX6_works_2
def dkwX6_works_0 : List UInt8 := [3, 62, 17, 7, 8, 42, 180, 0, 48, 104, 27, 96, 54, 4, 21, 4, 17, 7, 8, 42, 180, 0, 48, 104]
abbrev dktX6_works_0 : List UInt8 := dkwX6_works_0 ++ dktX6_works_1
theorem dksX6_works_0 : cX6_works.data.toList.drop 0 = dktX6_works_0 := by decide +kernel
theorem dksX6_works_1 : cX6_works.data.toList.drop 24 = dktX6_works_1 := dk_seg dksX6_works_0 24 rfl rfl
theorem dksX6_works_2 : cX6_works.data.toList.drop 46 = dktX6_works_2 := dk_seg dksX6_works_1 22 rfl rfl
theorem dksX6_works_3 : cX6_works.data.toList.drop 70 = dktX6_works_3 := dk_seg dksX6_works_2 24 rfl rfl
theorem dksX6_works_4 : cX6_works.data.toList.drop 94 = dktX6_works_4 := dk_seg dksX6_works_3 24 rfl rfl
theorem dksX6_works_5 : cX6_works.data.toList.drop 117 = dktX6_works_5 := dk_seg dksX6_works_4 23 rfl rfl
theorem dksX6_works_6 : cX6_works.data.toList.drop 141 = dktX6_works_6 := dk_seg dksX6_works_5 24 rfl rfl
theorem dX6_works_0 : decode cX6_works 0 = .ok (.iconst 0, 1) := dk_3 (dk_at dksX6_works_0 0 rfl rfl)
theorem dX6_works_1 : decode cX6_works 1 = .ok (.istore_n 3, 1) := dk_62 (dk_at dksX6_works_0 1 rfl rfl)
theorem dX6_works_2 : decode cX6_works 2 = .ok (.sipush 1800, 3) := dk_17 7 8 (dk_at dksX6_works_0 2 rfl rfl)
theorem dX6_works_5 : decode cX6_works 5 = .ok (.aload_n 0, 1) := dk_42 (dk_at dksX6_works_0 5 rfl rfl)
theorem dX6_works_6 : decode cX6_works 6 = .ok (.getfield 48, 3) := dk_180 0 48 (dk_at dksX6_works_0 6 rfl rfl)
theorem dX6_works_9 : decode cX6_works 9 = .ok (.imul, 1) := dk_104 (dk_at dksX6_works_0 9 rfl rfl)
theorem dX6_works_10 : decode cX6_works 10 = .ok (.iload_n 1, 1) := dk_27 (dk_at dksX6_works_0 10 rfl rfl)
theorem dX6_works_11 : decode cX6_works 11 = .ok (.iadd, 1) := dk_96 (dk_at dksX6_works_0 11 rfl rfl)
theorem dX6_works_12 : decode cX6_works 12 = .ok (.istore 4, 2) := dk_54 4 (dk_at dksX6_works_0 12 rfl rfl)
theorem dX6_works_14 : decode cX6_works 14 = .ok (.iload 4, 2) := dk_21 4 (dk_at dksX6_works_0 14 rfl rfl)
theorem dX6_works_16 : decode cX6_works 16 = .ok (.sipush 1800, 3) := dk_17 7 8 (dk_at dksX6_works_0 16 rfl rfl)
theorem dX6_works_19 : decode cX6_works 19 = .ok (.aload_n 0, 1) := dk_42 (dk_at dksX6_works_0 19 rfl rfl)
theorem dX6_works_20 : decode cX6_works 20 = .ok (.getfield 48, 3) := dk_180 0 48 (dk_at dksX6_works_0 20 rfl rfl)
theorem dX6_works_23 : decode cX6_works 23 = .ok (.imul, 1) := dk_104 (dk_at dksX6_works_0 23 rfl rfl)
theorem dX6_works_24 : decode cX6_works 24 = .ok (.iload_n 2, 1) := dk_28 (dk_at dksX6_works_1 0 rfl rfl)
theorem dX6_works_25 : decode cX6_works 25 = .ok (.iadd, 1) := dk_96 (dk_at dksX6_works_1 1 rfl rfl)
theorem dX6_works_26 : decode cX6_works 26 = .ok (.if_icmp .ge 130, 3) := dk_162 0 130 (dk_at dksX6_works_1 2 rfl rfl)
theorem dX6_works_29 : decode cX6_works 29 = .ok (.aload_n 0, 1) := dk_42 (dk_at dksX6_works_1 5 rfl rfl)
theorem dX6_works_30 : decode cX6_works 30 = .ok (.getfield 128, 3) := dk_180 0 128 (dk_at dksX6_works_1 6 rfl rfl)
theorem dX6_works_33 : decode cX6_works 33 = .ok (.iload 4, 2) := dk_21 4 (dk_at dksX6_works_1 9 rfl rfl)
theorem dX6_works_35 : decode cX6_works 35 = .ok (.iaload, 1) := dk_46 (dk_at dksX6_works_1 11 rfl rfl)
theorem dX6_works_36 : decode cX6_works 36 = .ok (.istore 5, 2) := dk_54 5 (dk_at dksX6_works_1 12 rfl rfl)
theorem dX6_works_38 : decode cX6_works 38 = .ok (.iload 5, 2) := dk_21 5 (dk_at dksX6_works_1 14 rfl rfl)
theorem dX6_works_40 : decode cX6_works 40 = .ok (.bipush 9, 2) := dk_16 9 (dk_at dksX6_works_1 16 rfl rfl)
theorem dX6_works_42 : decode cX6_works 42 = .ok (.if_icmp .gt 50, 3) := dk_163 0 50 (dk_at dksX6_works_1 18 rfl rfl)
theorem dX6_works_45 : decode cX6_works 45 = .ok (.aload_n 0, 1) := dk_42 (dk_at dksX6_works_1 21 rfl rfl)
theorem dX6_works_46 : decode cX6_works 46 = .ok (.getfield 174, 3) := dk_180 0 174 (dk_at dksX6_works_2 0 rfl rfl)
theorem dX6_works_49 : decode cX6_works 49 = .ok (.iload_n 3, 1) := dk_29 (dk_at dksX6_works_2 3 rfl rfl)
theorem dX6_works_50 : decode cX6_works 50 = .ok (.iload 5, 2) := dk_21 5 (dk_at dksX6_works_2 4 rfl rfl)
theorem dX6_works_52 : decode cX6_works 52 = .ok (.ifCond .ne 14, 3) := dk_154 0 14 (dk_at dksX6_works_2 6 rfl rfl)
theorem dX6_works_55 : decode cX6_works 55 = .ok (.aload_n 0, 1) := dk_42 (dk_at dksX6_works_2 9 rfl rfl)
theorem dX6_works_56 : decode cX6_works 56 = .ok (.getfield 131, 3) := dk_180 0 131 (dk_at dksX6_works_2 10 rfl rfl)
theorem dX6_works_59 : decode cX6_works 59 = .ok (.iload 4, 2) := dk_21 4 (dk_at dksX6_works_2 13 rfl rfl)
theorem dX6_works_61 : decode cX6_works 61 = .ok (.iaload, 1) := dk_46 (dk_at dksX6_works_2 15 rfl rfl)
theorem dX6_works_62 : decode cX6_works 62 = .ok (.i2l, 1) := dk_133 (dk_at dksX6_works_2 16 rfl rfl)
theorem dX6_works_63 : decode cX6_works 63 = .ok (.goto 22, 3) := dk_167 0 22 (dk_at dksX6_works_2 17 rfl rfl)
theorem dX6_works_66 : decode cX6_works 66 = .ok (.iload 5, 2) := dk_21 5 (dk_at dksX6_works_2 20 rfl rfl)
theorem dX6_works_68 : decode cX6_works 68 = .ok (.bipush 9, 2) := dk_16 9 (dk_at dksX6_works_2 22 rfl rfl)
theorem dX6_works_70 : decode cX6_works 70 = .ok (.if_icmp .ne 7, 3) := dk_160 0 7 (dk_at dksX6_works_3 0 rfl rfl)
theorem dX6_works_73 : decode cX6_works 73 = .ok (.lconst 1, 1) := dk_10 (dk_at dksX6_works_3 3 rfl rfl)
theorem dX6_works_74 : decode cX6_works 74 = .ok (.goto 11, 3) := dk_167 0 11 (dk_at dksX6_works_3 4 rfl rfl)
theorem dX6_works_77 : decode cX6_works 77 = .ok (.aload_n 0, 1) := dk_42 (dk_at dksX6_works_3 7 rfl rfl)
theorem dX6_works_78 : decode cX6_works 78 = .ok (.getfield 177, 3) := dk_180 0 177 (dk_at dksX6_works_3 8 rfl rfl)
theorem dX6_works_81 : decode cX6_works 81 = .ok (.iload 5, 2) := dk_21 5 (dk_at dksX6_works_3 11 rfl rfl)
theorem dX6_works_83 : decode cX6_works 83 = .ok (.iaload, 1) := dk_46 (dk_at dksX6_works_3 13 rfl rfl)
theorem dX6_works_84 : decode cX6_works 84 = .ok (.i2l, 1) := dk_133 (dk_at dksX6_works_3 14 rfl rfl)
theorem dX6_works_85 : decode cX6_works 85 = .ok (.lastore, 1) := dk_80 (dk_at dksX6_works_3 15 rfl rfl)
theorem dX6_works_86 : decode cX6_works 86 = .ok (.iinc 3 1, 3) := dk_132 3 1 (dk_at dksX6_works_3 16 rfl rfl)
theorem dX6_works_89 : decode cX6_works 89 = .ok (.goto 61, 3) := dk_167 0 61 (dk_at dksX6_works_3 19 rfl rfl)
theorem dX6_works_92 : decode cX6_works 92 = .ok (.iload 5, 2) := dk_21 5 (dk_at dksX6_works_3 22 rfl rfl)
theorem dX6_works_94 : decode cX6_works 94 = .ok (.bipush 22, 2) := dk_16 22 (dk_at dksX6_works_4 0 rfl rfl)
theorem dX6_works_96 : decode cX6_works 96 = .ok (.if_icmp .ne 24, 3) := dk_160 0 24 (dk_at dksX6_works_4 2 rfl rfl)
theorem dX6_works_99 : decode cX6_works 99 = .ok (.aload_n 0, 1) := dk_42 (dk_at dksX6_works_4 5 rfl rfl)
theorem dX6_works_100 : decode cX6_works 100 = .ok (.getfield 174, 3) := dk_180 0 174 (dk_at dksX6_works_4 6 rfl rfl)
theorem dX6_works_103 : decode cX6_works 103 = .ok (.iload_n 3, 1) := dk_29 (dk_at dksX6_works_4 9 rfl rfl)
theorem dX6_works_104 : decode cX6_works 104 = .ok (.iconst 1, 1) := dk_4 (dk_at dksX6_works_4 10 rfl rfl)
theorem dX6_works_105 : decode cX6_works 105 = .ok (.isub, 1) := dk_100 (dk_at dksX6_works_4 11 rfl rfl)
theorem dX6_works_106 : decode cX6_works 106 = .ok (.lconst 1, 1) := dk_10 (dk_at dksX6_works_4 12 rfl rfl)
theorem dX6_works_107 : decode cX6_works 107 = .ok (.aload_n 0, 1) := dk_42 (dk_at dksX6_works_4 13 rfl rfl)
theorem dX6_works_108 : decode cX6_works 108 = .ok (.getfield 174, 3) := dk_180 0 174 (dk_at dksX6_works_4 14 rfl rfl)
theorem dX6_works_111 : decode cX6_works 111 = .ok (.iload_n 3, 1) := dk_29 (dk_at dksX6_works_4 17 rfl rfl)
theorem dX6_works_112 : decode cX6_works 112 = .ok (.iconst 1, 1) := dk_4 (dk_at dksX6_works_4 18 rfl rfl)
theorem dX6_works_113 : decode cX6_works 113 = .ok (.isub, 1) := dk_100 (dk_at dksX6_works_4 19 rfl rfl)
theorem dX6_works_114 : decode cX6_works 114 = .ok (.laload, 1) := dk_47 (dk_at dksX6_works_4 20 rfl rfl)
theorem dX6_works_115 : decode cX6_works 115 = .ok (.lsub, 1) := dk_101 (dk_at dksX6_works_4 21 rfl rfl)
theorem dX6_works_116 : decode cX6_works 116 = .ok (.lastore, 1) := dk_80 (dk_at dksX6_works_4 22 rfl rfl)
theorem dX6_works_117 : decode cX6_works 117 = .ok (.goto 33, 3) := dk_167 0 33 (dk_at dksX6_works_5 0 rfl rfl)
theorem dX6_works_120 : decode cX6_works 120 = .ok (.iinc 3 (-1), 3) := dk_132 3 255 (dk_at dksX6_works_5 3 rfl rfl)
theorem dX6_works_123 : decode cX6_works 123 = .ok (.aload_n 0, 1) := dk_42 (dk_at dksX6_works_5 6 rfl rfl)
theorem dX6_works_124 : decode cX6_works 124 = .ok (.getfield 174, 3) := dk_180 0 174 (dk_at dksX6_works_5 7 rfl rfl)
theorem dX6_works_127 : decode cX6_works 127 = .ok (.iload_n 3, 1) := dk_29 (dk_at dksX6_works_5 10 rfl rfl)
theorem dX6_works_128 : decode cX6_works 128 = .ok (.iconst 1, 1) := dk_4 (dk_at dksX6_works_5 11 rfl rfl)
theorem dX6_works_129 : decode cX6_works 129 = .ok (.isub, 1) := dk_100 (dk_at dksX6_works_5 12 rfl rfl)
theorem dX6_works_130 : decode cX6_works 130 = .ok (.iload 5, 2) := dk_21 5 (dk_at dksX6_works_5 13 rfl rfl)
theorem dX6_works_132 : decode cX6_works 132 = .ok (.aload_n 0, 1) := dk_42 (dk_at dksX6_works_5 15 rfl rfl)
theorem dX6_works_133 : decode cX6_works 133 = .ok (.getfield 174, 3) := dk_180 0 174 (dk_at dksX6_works_5 16 rfl rfl)
theorem dX6_works_136 : decode cX6_works 136 = .ok (.iload_n 3, 1) := dk_29 (dk_at dksX6_works_5 19 rfl rfl)
theorem dX6_works_137 : decode cX6_works 137 = .ok (.iconst 1, 1) := dk_4 (dk_at dksX6_works_5 20 rfl rfl)
theorem dX6_works_138 : decode cX6_works 138 = .ok (.isub, 1) := dk_100 (dk_at dksX6_works_5 21 rfl rfl)
theorem dX6_works_139 : decode cX6_works 139 = .ok (.laload, 1) := dk_47 (dk_at dksX6_works_5 22 rfl rfl)
theorem dX6_works_140 : decode cX6_works 140 = .ok (.aload_n 0, 1) := dk_42 (dk_at dksX6_works_5 23 rfl rfl)
theorem dX6_works_141 : decode cX6_works 141 = .ok (.getfield 174, 3) := dk_180 0 174 (dk_at dksX6_works_6 0 rfl rfl)
theorem dX6_works_144 : decode cX6_works 144 = .ok (.iload_n 3, 1) := dk_29 (dk_at dksX6_works_6 3 rfl rfl)
theorem dX6_works_145 : decode cX6_works 145 = .ok (.laload, 1) := dk_47 (dk_at dksX6_works_6 4 rfl rfl)
theorem dX6_works_146 : decode cX6_works 146 = .ok (.invokestatic 459, 3) := dk_184 1 203 (dk_at dksX6_works_6 5 rfl rfl)
theorem dX6_works_149 : decode cX6_works 149 = .ok (.lastore, 1) := dk_80 (dk_at dksX6_works_6 8 rfl rfl)
theorem dX6_works_150 : decode cX6_works 150 = .ok (.iinc 4 1, 3) := dk_132 4 1 (dk_at dksX6_works_6 9 rfl rfl)
theorem dX6_works_153 : decode cX6_works 153 = .ok (.goto (-139), 3) := dk_167 255 117 (dk_at dksX6_works_6 12 rfl rfl)
theorem dX6_works_156 : decode cX6_works 156 = .ok (.aload_n 0, 1) := dk_42 (dk_at dksX6_works_6 15 rfl rfl)
theorem dX6_works_157 : decode cX6_works 157 = .ok (.getfield 174, 3) := dk_180 0 174 (dk_at dksX6_works_6 16 rfl rfl)
theorem dX6_works_160 : decode cX6_works 160 = .ok (.iconst 0, 1) := dk_3 (dk_at dksX6_works_6 19 rfl rfl)
theorem dX6_works_161 : decode cX6_works 161 = .ok (.laload, 1) := dk_47 (dk_at dksX6_works_6 20 rfl rfl)
theorem dX6_works_162 : decode cX6_works 162 = .ok (.lreturn, 1) := dk_173 (dk_at dksX6_works_6 21 rfl rfl)
abbrev cX6_made : ByteArray := prog_29_method_47_code
def yX6_made : MethodName := ⟨RX6, "made", "(IJJ)J"⟩
def dkwX6_made_7 : List UInt8 := [10, 167, 0, 4, 9, 173]
abbrev dktX6_made_7 : List UInt8 := dkwX6_made_7 ++ []
def dkwX6_made_6 : List UInt8 := [31, 33, 148, 154, 0, 7, 10, 167, 0, 4, 9, 173, 31, 33, 105, 173, 31, 33, 97, 9, 148, 158, 0, 7]
abbrev dktX6_made_6 : List UInt8 := dkwX6_made_6 ++ dktX6_made_7
def dkwX6_made_5 : List UInt8 := [31, 33, 148, 156, 0, 7, 10, 167, 0, 4, 9, 173, 31, 33, 148, 158, 0, 7, 10, 167, 0, 4, 9, 173]
abbrev dktX6_made_5 : List UInt8 := dkwX6_made_5 ++ dktX6_made_6
def dkwX6_made_4 : List UInt8 := [31, 33, 148, 156, 0, 7, 31, 167, 0, 4, 33, 173, 31, 33, 148, 158, 0, 7, 31, 167, 0, 4, 33, 173]
abbrev dktX6_made_4 : List UInt8 := dkwX6_made_4 ++ dktX6_made_5
def dkwX6_made_3 : List UInt8 := [184, 1, 199, 173, 33, 9, 148, 154, 0, 7, 9, 167, 0, 12, 31, 33, 31, 33, 184, 1, 199, 105, 101, 173]
abbrev dktX6_made_3 : List UInt8 := dkwX6_made_3 ++ dktX6_made_4
def dkwX6_made_2 : List UInt8 := [31, 33, 97, 184, 1, 195, 173, 31, 33, 101, 184, 1, 195, 173, 31, 33, 105, 184, 1, 195, 173, 31, 33]
abbrev dktX6_made_2 : List UInt8 := dkwX6_made_2 ++ dktX6_made_3
def dkwX6_made_1 : List UInt8 := [170, 0, 0, 0, 0, 0, 170, 0, 0, 0, 10, 0, 0, 0, 20, 0, 0, 0, 59, 0, 0, 0, 66, 0, 0, 0, 73, 0, 0, 0, 80, 0, 0, 0, 86, 0, 0, 0, 106, 0, 0, 0, 118, 0, 0, 0, 130, 0, 0, 0, 142, 0, 0, 0, 154, 0, 0, 0, 166]
abbrev dktX6_made_1 : List UInt8 := dkwX6_made_1 ++ dktX6_made_2
def dkwX6_made_0 : List UInt8 := [26]
abbrev dktX6_made_0 : List UInt8 := dkwX6_made_0 ++ dktX6_made_1
theorem dksX6_made_0 : cX6_made.data.toList.drop 0 = dktX6_made_0 := by decide +kernel
theorem dksX6_made_1 : cX6_made.data.toList.drop 1 = dktX6_made_1 := dk_seg dksX6_made_0 1 rfl rfl
theorem dksX6_made_2 : cX6_made.data.toList.drop 60 = dktX6_made_2 := dk_seg dksX6_made_1 59 rfl rfl
theorem dksX6_made_3 : cX6_made.data.toList.drop 83 = dktX6_made_3 := dk_seg dksX6_made_2 23 rfl rfl
theorem dksX6_made_4 : cX6_made.data.toList.drop 107 = dktX6_made_4 := dk_seg dksX6_made_3 24 rfl rfl
theorem dksX6_made_5 : cX6_made.data.toList.drop 131 = dktX6_made_5 := dk_seg dksX6_made_4 24 rfl rfl
theorem dksX6_made_6 : cX6_made.data.toList.drop 155 = dktX6_made_6 := dk_seg dksX6_made_5 24 rfl rfl
theorem dksX6_made_7 : cX6_made.data.toList.drop 179 = dktX6_made_7 := dk_seg dksX6_made_6 24 rfl rfl
theorem dX6_made_0 : decode cX6_made 0 = .ok (.iload_n 0, 1) := dk_26 (dk_at dksX6_made_0 0 rfl rfl)
theorem dX6_made_1 : decode cX6_made 1 = .ok (.tableswitch 170 10 20 #[59, 66, 73, 80, 86, 106, 118, 130, 142, 154, 166], 59) := by decide +kernel
theorem dX6_made_60 : decode cX6_made 60 = .ok (.lload_n 1, 1) := dk_31 (dk_at dksX6_made_2 0 rfl rfl)
theorem dX6_made_61 : decode cX6_made 61 = .ok (.lload_n 3, 1) := dk_33 (dk_at dksX6_made_2 1 rfl rfl)
theorem dX6_made_62 : decode cX6_made 62 = .ok (.ladd, 1) := dk_97 (dk_at dksX6_made_2 2 rfl rfl)
theorem dX6_made_63 : decode cX6_made 63 = .ok (.invokestatic 451, 3) := dk_184 1 195 (dk_at dksX6_made_2 3 rfl rfl)
theorem dX6_made_66 : decode cX6_made 66 = .ok (.lreturn, 1) := dk_173 (dk_at dksX6_made_2 6 rfl rfl)
theorem dX6_made_67 : decode cX6_made 67 = .ok (.lload_n 1, 1) := dk_31 (dk_at dksX6_made_2 7 rfl rfl)
theorem dX6_made_68 : decode cX6_made 68 = .ok (.lload_n 3, 1) := dk_33 (dk_at dksX6_made_2 8 rfl rfl)
theorem dX6_made_69 : decode cX6_made 69 = .ok (.lsub, 1) := dk_101 (dk_at dksX6_made_2 9 rfl rfl)
theorem dX6_made_70 : decode cX6_made 70 = .ok (.invokestatic 451, 3) := dk_184 1 195 (dk_at dksX6_made_2 10 rfl rfl)
theorem dX6_made_73 : decode cX6_made 73 = .ok (.lreturn, 1) := dk_173 (dk_at dksX6_made_2 13 rfl rfl)
theorem dX6_made_74 : decode cX6_made 74 = .ok (.lload_n 1, 1) := dk_31 (dk_at dksX6_made_2 14 rfl rfl)
theorem dX6_made_75 : decode cX6_made 75 = .ok (.lload_n 3, 1) := dk_33 (dk_at dksX6_made_2 15 rfl rfl)
theorem dX6_made_76 : decode cX6_made 76 = .ok (.lmul, 1) := dk_105 (dk_at dksX6_made_2 16 rfl rfl)
theorem dX6_made_77 : decode cX6_made 77 = .ok (.invokestatic 451, 3) := dk_184 1 195 (dk_at dksX6_made_2 17 rfl rfl)
theorem dX6_made_80 : decode cX6_made 80 = .ok (.lreturn, 1) := dk_173 (dk_at dksX6_made_2 20 rfl rfl)
theorem dX6_made_81 : decode cX6_made 81 = .ok (.lload_n 1, 1) := dk_31 (dk_at dksX6_made_2 21 rfl rfl)
theorem dX6_made_82 : decode cX6_made 82 = .ok (.lload_n 3, 1) := dk_33 (dk_at dksX6_made_2 22 rfl rfl)
theorem dX6_made_83 : decode cX6_made 83 = .ok (.invokestatic 455, 3) := dk_184 1 199 (dk_at dksX6_made_3 0 rfl rfl)
theorem dX6_made_86 : decode cX6_made 86 = .ok (.lreturn, 1) := dk_173 (dk_at dksX6_made_3 3 rfl rfl)
theorem dX6_made_87 : decode cX6_made 87 = .ok (.lload_n 3, 1) := dk_33 (dk_at dksX6_made_3 4 rfl rfl)
theorem dX6_made_88 : decode cX6_made 88 = .ok (.lconst 0, 1) := dk_9 (dk_at dksX6_made_3 5 rfl rfl)
theorem dX6_made_89 : decode cX6_made 89 = .ok (.lcmp, 1) := dk_148 (dk_at dksX6_made_3 6 rfl rfl)
theorem dX6_made_90 : decode cX6_made 90 = .ok (.ifCond .ne 7, 3) := dk_154 0 7 (dk_at dksX6_made_3 7 rfl rfl)
theorem dX6_made_93 : decode cX6_made 93 = .ok (.lconst 0, 1) := dk_9 (dk_at dksX6_made_3 10 rfl rfl)
theorem dX6_made_94 : decode cX6_made 94 = .ok (.goto 12, 3) := dk_167 0 12 (dk_at dksX6_made_3 11 rfl rfl)
theorem dX6_made_97 : decode cX6_made 97 = .ok (.lload_n 1, 1) := dk_31 (dk_at dksX6_made_3 14 rfl rfl)
theorem dX6_made_98 : decode cX6_made 98 = .ok (.lload_n 3, 1) := dk_33 (dk_at dksX6_made_3 15 rfl rfl)
theorem dX6_made_99 : decode cX6_made 99 = .ok (.lload_n 1, 1) := dk_31 (dk_at dksX6_made_3 16 rfl rfl)
theorem dX6_made_100 : decode cX6_made 100 = .ok (.lload_n 3, 1) := dk_33 (dk_at dksX6_made_3 17 rfl rfl)
theorem dX6_made_101 : decode cX6_made 101 = .ok (.invokestatic 455, 3) := dk_184 1 199 (dk_at dksX6_made_3 18 rfl rfl)
theorem dX6_made_104 : decode cX6_made 104 = .ok (.lmul, 1) := dk_105 (dk_at dksX6_made_3 21 rfl rfl)
theorem dX6_made_105 : decode cX6_made 105 = .ok (.lsub, 1) := dk_101 (dk_at dksX6_made_3 22 rfl rfl)
theorem dX6_made_106 : decode cX6_made 106 = .ok (.lreturn, 1) := dk_173 (dk_at dksX6_made_3 23 rfl rfl)
theorem dX6_made_107 : decode cX6_made 107 = .ok (.lload_n 1, 1) := dk_31 (dk_at dksX6_made_4 0 rfl rfl)
theorem dX6_made_108 : decode cX6_made 108 = .ok (.lload_n 3, 1) := dk_33 (dk_at dksX6_made_4 1 rfl rfl)
theorem dX6_made_109 : decode cX6_made 109 = .ok (.lcmp, 1) := dk_148 (dk_at dksX6_made_4 2 rfl rfl)
theorem dX6_made_110 : decode cX6_made 110 = .ok (.ifCond .ge 7, 3) := dk_156 0 7 (dk_at dksX6_made_4 3 rfl rfl)
theorem dX6_made_113 : decode cX6_made 113 = .ok (.lload_n 1, 1) := dk_31 (dk_at dksX6_made_4 6 rfl rfl)
theorem dX6_made_114 : decode cX6_made 114 = .ok (.goto 4, 3) := dk_167 0 4 (dk_at dksX6_made_4 7 rfl rfl)
theorem dX6_made_117 : decode cX6_made 117 = .ok (.lload_n 3, 1) := dk_33 (dk_at dksX6_made_4 10 rfl rfl)
theorem dX6_made_118 : decode cX6_made 118 = .ok (.lreturn, 1) := dk_173 (dk_at dksX6_made_4 11 rfl rfl)
theorem dX6_made_119 : decode cX6_made 119 = .ok (.lload_n 1, 1) := dk_31 (dk_at dksX6_made_4 12 rfl rfl)
theorem dX6_made_120 : decode cX6_made 120 = .ok (.lload_n 3, 1) := dk_33 (dk_at dksX6_made_4 13 rfl rfl)
theorem dX6_made_121 : decode cX6_made 121 = .ok (.lcmp, 1) := dk_148 (dk_at dksX6_made_4 14 rfl rfl)
theorem dX6_made_122 : decode cX6_made 122 = .ok (.ifCond .le 7, 3) := dk_158 0 7 (dk_at dksX6_made_4 15 rfl rfl)
theorem dX6_made_125 : decode cX6_made 125 = .ok (.lload_n 1, 1) := dk_31 (dk_at dksX6_made_4 18 rfl rfl)
theorem dX6_made_126 : decode cX6_made 126 = .ok (.goto 4, 3) := dk_167 0 4 (dk_at dksX6_made_4 19 rfl rfl)
theorem dX6_made_129 : decode cX6_made 129 = .ok (.lload_n 3, 1) := dk_33 (dk_at dksX6_made_4 22 rfl rfl)
theorem dX6_made_130 : decode cX6_made 130 = .ok (.lreturn, 1) := dk_173 (dk_at dksX6_made_4 23 rfl rfl)
theorem dX6_made_131 : decode cX6_made 131 = .ok (.lload_n 1, 1) := dk_31 (dk_at dksX6_made_5 0 rfl rfl)
theorem dX6_made_132 : decode cX6_made 132 = .ok (.lload_n 3, 1) := dk_33 (dk_at dksX6_made_5 1 rfl rfl)
theorem dX6_made_133 : decode cX6_made 133 = .ok (.lcmp, 1) := dk_148 (dk_at dksX6_made_5 2 rfl rfl)
theorem dX6_made_134 : decode cX6_made 134 = .ok (.ifCond .ge 7, 3) := dk_156 0 7 (dk_at dksX6_made_5 3 rfl rfl)
theorem dX6_made_137 : decode cX6_made 137 = .ok (.lconst 1, 1) := dk_10 (dk_at dksX6_made_5 6 rfl rfl)
theorem dX6_made_138 : decode cX6_made 138 = .ok (.goto 4, 3) := dk_167 0 4 (dk_at dksX6_made_5 7 rfl rfl)
theorem dX6_made_141 : decode cX6_made 141 = .ok (.lconst 0, 1) := dk_9 (dk_at dksX6_made_5 10 rfl rfl)
theorem dX6_made_142 : decode cX6_made 142 = .ok (.lreturn, 1) := dk_173 (dk_at dksX6_made_5 11 rfl rfl)
theorem dX6_made_143 : decode cX6_made 143 = .ok (.lload_n 1, 1) := dk_31 (dk_at dksX6_made_5 12 rfl rfl)
theorem dX6_made_144 : decode cX6_made 144 = .ok (.lload_n 3, 1) := dk_33 (dk_at dksX6_made_5 13 rfl rfl)
theorem dX6_made_145 : decode cX6_made 145 = .ok (.lcmp, 1) := dk_148 (dk_at dksX6_made_5 14 rfl rfl)
theorem dX6_made_146 : decode cX6_made 146 = .ok (.ifCond .le 7, 3) := dk_158 0 7 (dk_at dksX6_made_5 15 rfl rfl)
theorem dX6_made_149 : decode cX6_made 149 = .ok (.lconst 1, 1) := dk_10 (dk_at dksX6_made_5 18 rfl rfl)
theorem dX6_made_150 : decode cX6_made 150 = .ok (.goto 4, 3) := dk_167 0 4 (dk_at dksX6_made_5 19 rfl rfl)
theorem dX6_made_153 : decode cX6_made 153 = .ok (.lconst 0, 1) := dk_9 (dk_at dksX6_made_5 22 rfl rfl)
theorem dX6_made_154 : decode cX6_made 154 = .ok (.lreturn, 1) := dk_173 (dk_at dksX6_made_5 23 rfl rfl)
theorem dX6_made_155 : decode cX6_made 155 = .ok (.lload_n 1, 1) := dk_31 (dk_at dksX6_made_6 0 rfl rfl)
theorem dX6_made_156 : decode cX6_made 156 = .ok (.lload_n 3, 1) := dk_33 (dk_at dksX6_made_6 1 rfl rfl)
theorem dX6_made_157 : decode cX6_made 157 = .ok (.lcmp, 1) := dk_148 (dk_at dksX6_made_6 2 rfl rfl)
theorem dX6_made_158 : decode cX6_made 158 = .ok (.ifCond .ne 7, 3) := dk_154 0 7 (dk_at dksX6_made_6 3 rfl rfl)
theorem dX6_made_161 : decode cX6_made 161 = .ok (.lconst 1, 1) := dk_10 (dk_at dksX6_made_6 6 rfl rfl)
theorem dX6_made_162 : decode cX6_made 162 = .ok (.goto 4, 3) := dk_167 0 4 (dk_at dksX6_made_6 7 rfl rfl)
theorem dX6_made_165 : decode cX6_made 165 = .ok (.lconst 0, 1) := dk_9 (dk_at dksX6_made_6 10 rfl rfl)
theorem dX6_made_166 : decode cX6_made 166 = .ok (.lreturn, 1) := dk_173 (dk_at dksX6_made_6 11 rfl rfl)
theorem dX6_made_167 : decode cX6_made 167 = .ok (.lload_n 1, 1) := dk_31 (dk_at dksX6_made_6 12 rfl rfl)
theorem dX6_made_168 : decode cX6_made 168 = .ok (.lload_n 3, 1) := dk_33 (dk_at dksX6_made_6 13 rfl rfl)
theorem dX6_made_169 : decode cX6_made 169 = .ok (.lmul, 1) := dk_105 (dk_at dksX6_made_6 14 rfl rfl)
theorem dX6_made_170 : decode cX6_made 170 = .ok (.lreturn, 1) := dk_173 (dk_at dksX6_made_6 15 rfl rfl)
theorem dX6_made_171 : decode cX6_made 171 = .ok (.lload_n 1, 1) := dk_31 (dk_at dksX6_made_6 16 rfl rfl)
theorem dX6_made_172 : decode cX6_made 172 = .ok (.lload_n 3, 1) := dk_33 (dk_at dksX6_made_6 17 rfl rfl)
theorem dX6_made_173 : decode cX6_made 173 = .ok (.ladd, 1) := dk_97 (dk_at dksX6_made_6 18 rfl rfl)
theorem dX6_made_174 : decode cX6_made 174 = .ok (.lconst 0, 1) := dk_9 (dk_at dksX6_made_6 19 rfl rfl)
theorem dX6_made_175 : decode cX6_made 175 = .ok (.lcmp, 1) := dk_148 (dk_at dksX6_made_6 20 rfl rfl)
theorem dX6_made_176 : decode cX6_made 176 = .ok (.ifCond .le 7, 3) := dk_158 0 7 (dk_at dksX6_made_6 21 rfl rfl)
theorem dX6_made_179 : decode cX6_made 179 = .ok (.lconst 1, 1) := dk_10 (dk_at dksX6_made_7 0 rfl rfl)
theorem dX6_made_180 : decode cX6_made 180 = .ok (.goto 4, 3) := dk_167 0 4 (dk_at dksX6_made_7 1 rfl rfl)
theorem dX6_made_183 : decode cX6_made 183 = .ok (.lconst 0, 1) := dk_9 (dk_at dksX6_made_7 4 rfl rfl)
theorem dX6_made_184 : decode cX6_made 184 = .ok (.lreturn, 1) := dk_173 (dk_at dksX6_made_7 5 rfl rfl)
abbrev cX6_bounded : ByteArray := prog_29_method_45_code
def yX6_bounded : MethodName := ⟨RX6, "bounded", "(J)J"⟩
def dkwX6_bounded_1 : List UInt8 := [20, 1, 193, 167, 0, 4, 30, 173]
abbrev dktX6_bounded_1 : List UInt8 := dkwX6_bounded_1 ++ []
def dkwX6_bounded_0 : List UInt8 := [30, 20, 1, 191, 148, 158, 0, 9, 20, 1, 191, 167, 0, 18, 30, 20, 1, 193, 148, 156, 0, 9]
abbrev dktX6_bounded_0 : List UInt8 := dkwX6_bounded_0 ++ dktX6_bounded_1
theorem dksX6_bounded_0 : cX6_bounded.data.toList.drop 0 = dktX6_bounded_0 := by decide +kernel
theorem dksX6_bounded_1 : cX6_bounded.data.toList.drop 22 = dktX6_bounded_1 := dk_seg dksX6_bounded_0 22 rfl rfl
theorem dX6_bounded_0 : decode cX6_bounded 0 = .ok (.lload_n 0, 1) := dk_30 (dk_at dksX6_bounded_0 0 rfl rfl)
theorem dX6_bounded_1 : decode cX6_bounded 1 = .ok (.ldc2_w 447, 3) := dk_20 1 191 (dk_at dksX6_bounded_0 1 rfl rfl)
theorem dX6_bounded_4 : decode cX6_bounded 4 = .ok (.lcmp, 1) := dk_148 (dk_at dksX6_bounded_0 4 rfl rfl)
theorem dX6_bounded_5 : decode cX6_bounded 5 = .ok (.ifCond .le 9, 3) := dk_158 0 9 (dk_at dksX6_bounded_0 5 rfl rfl)
theorem dX6_bounded_8 : decode cX6_bounded 8 = .ok (.ldc2_w 447, 3) := dk_20 1 191 (dk_at dksX6_bounded_0 8 rfl rfl)
theorem dX6_bounded_11 : decode cX6_bounded 11 = .ok (.goto 18, 3) := dk_167 0 18 (dk_at dksX6_bounded_0 11 rfl rfl)
theorem dX6_bounded_14 : decode cX6_bounded 14 = .ok (.lload_n 0, 1) := dk_30 (dk_at dksX6_bounded_0 14 rfl rfl)
theorem dX6_bounded_15 : decode cX6_bounded 15 = .ok (.ldc2_w 449, 3) := dk_20 1 193 (dk_at dksX6_bounded_0 15 rfl rfl)
theorem dX6_bounded_18 : decode cX6_bounded 18 = .ok (.lcmp, 1) := dk_148 (dk_at dksX6_bounded_0 18 rfl rfl)
theorem dX6_bounded_19 : decode cX6_bounded 19 = .ok (.ifCond .ge 9, 3) := dk_156 0 9 (dk_at dksX6_bounded_0 19 rfl rfl)
theorem dX6_bounded_22 : decode cX6_bounded 22 = .ok (.ldc2_w 449, 3) := dk_20 1 193 (dk_at dksX6_bounded_1 0 rfl rfl)
theorem dX6_bounded_25 : decode cX6_bounded 25 = .ok (.goto 4, 3) := dk_167 0 4 (dk_at dksX6_bounded_1 3 rfl rfl)
theorem dX6_bounded_28 : decode cX6_bounded 28 = .ok (.lload_n 0, 1) := dk_30 (dk_at dksX6_bounded_1 6 rfl rfl)
theorem dX6_bounded_29 : decode cX6_bounded 29 = .ok (.lreturn, 1) := dk_173 (dk_at dksX6_bounded_1 7 rfl rfl)
abbrev cX6_over : ByteArray := prog_29_method_46_code
def yX6_over : MethodName := ⟨RX6, "over", "(JJ)J"⟩
def dkwX6_over_2 : List UInt8 := [10, 101, 167, 0, 5, 22, 4, 173]
abbrev dktX6_over_2 : List UInt8 := dkwX6_over_2 ++ []
def dkwX6_over_1 : List UInt8 := [156, 0, 7, 4, 167, 0, 4, 3, 32, 9, 148, 156, 0, 7, 4, 167, 0, 4, 3, 159, 0, 10, 22, 4]
abbrev dktX6_over_1 : List UInt8 := dkwX6_over_1 ++ dktX6_over_2
def dkwX6_over_0 : List UInt8 := [32, 9, 148, 154, 0, 5, 9, 173, 30, 32, 109, 55, 4, 30, 32, 113, 9, 148, 153, 0, 35, 30, 9, 148]
abbrev dktX6_over_0 : List UInt8 := dkwX6_over_0 ++ dktX6_over_1
theorem dksX6_over_0 : cX6_over.data.toList.drop 0 = dktX6_over_0 := by decide +kernel
theorem dksX6_over_1 : cX6_over.data.toList.drop 24 = dktX6_over_1 := dk_seg dksX6_over_0 24 rfl rfl
theorem dksX6_over_2 : cX6_over.data.toList.drop 48 = dktX6_over_2 := dk_seg dksX6_over_1 24 rfl rfl
theorem dX6_over_0 : decode cX6_over 0 = .ok (.lload_n 2, 1) := dk_32 (dk_at dksX6_over_0 0 rfl rfl)
theorem dX6_over_1 : decode cX6_over 1 = .ok (.lconst 0, 1) := dk_9 (dk_at dksX6_over_0 1 rfl rfl)
theorem dX6_over_2 : decode cX6_over 2 = .ok (.lcmp, 1) := dk_148 (dk_at dksX6_over_0 2 rfl rfl)
theorem dX6_over_3 : decode cX6_over 3 = .ok (.ifCond .ne 5, 3) := dk_154 0 5 (dk_at dksX6_over_0 3 rfl rfl)
theorem dX6_over_6 : decode cX6_over 6 = .ok (.lconst 0, 1) := dk_9 (dk_at dksX6_over_0 6 rfl rfl)
theorem dX6_over_7 : decode cX6_over 7 = .ok (.lreturn, 1) := dk_173 (dk_at dksX6_over_0 7 rfl rfl)
theorem dX6_over_8 : decode cX6_over 8 = .ok (.lload_n 0, 1) := dk_30 (dk_at dksX6_over_0 8 rfl rfl)
theorem dX6_over_9 : decode cX6_over 9 = .ok (.lload_n 2, 1) := dk_32 (dk_at dksX6_over_0 9 rfl rfl)
theorem dX6_over_10 : decode cX6_over 10 = .ok (.ldiv, 1) := dk_109 (dk_at dksX6_over_0 10 rfl rfl)
theorem dX6_over_11 : decode cX6_over 11 = .ok (.lstore 4, 2) := dk_55 4 (dk_at dksX6_over_0 11 rfl rfl)
theorem dX6_over_13 : decode cX6_over 13 = .ok (.lload_n 0, 1) := dk_30 (dk_at dksX6_over_0 13 rfl rfl)
theorem dX6_over_14 : decode cX6_over 14 = .ok (.lload_n 2, 1) := dk_32 (dk_at dksX6_over_0 14 rfl rfl)
theorem dX6_over_15 : decode cX6_over 15 = .ok (.lrem, 1) := dk_113 (dk_at dksX6_over_0 15 rfl rfl)
theorem dX6_over_16 : decode cX6_over 16 = .ok (.lconst 0, 1) := dk_9 (dk_at dksX6_over_0 16 rfl rfl)
theorem dX6_over_17 : decode cX6_over 17 = .ok (.lcmp, 1) := dk_148 (dk_at dksX6_over_0 17 rfl rfl)
theorem dX6_over_18 : decode cX6_over 18 = .ok (.ifCond .eq 35, 3) := dk_153 0 35 (dk_at dksX6_over_0 18 rfl rfl)
theorem dX6_over_21 : decode cX6_over 21 = .ok (.lload_n 0, 1) := dk_30 (dk_at dksX6_over_0 21 rfl rfl)
theorem dX6_over_22 : decode cX6_over 22 = .ok (.lconst 0, 1) := dk_9 (dk_at dksX6_over_0 22 rfl rfl)
theorem dX6_over_23 : decode cX6_over 23 = .ok (.lcmp, 1) := dk_148 (dk_at dksX6_over_0 23 rfl rfl)
theorem dX6_over_24 : decode cX6_over 24 = .ok (.ifCond .ge 7, 3) := dk_156 0 7 (dk_at dksX6_over_1 0 rfl rfl)
theorem dX6_over_27 : decode cX6_over 27 = .ok (.iconst 1, 1) := dk_4 (dk_at dksX6_over_1 3 rfl rfl)
theorem dX6_over_28 : decode cX6_over 28 = .ok (.goto 4, 3) := dk_167 0 4 (dk_at dksX6_over_1 4 rfl rfl)
theorem dX6_over_31 : decode cX6_over 31 = .ok (.iconst 0, 1) := dk_3 (dk_at dksX6_over_1 7 rfl rfl)
theorem dX6_over_32 : decode cX6_over 32 = .ok (.lload_n 2, 1) := dk_32 (dk_at dksX6_over_1 8 rfl rfl)
theorem dX6_over_33 : decode cX6_over 33 = .ok (.lconst 0, 1) := dk_9 (dk_at dksX6_over_1 9 rfl rfl)
theorem dX6_over_34 : decode cX6_over 34 = .ok (.lcmp, 1) := dk_148 (dk_at dksX6_over_1 10 rfl rfl)
theorem dX6_over_35 : decode cX6_over 35 = .ok (.ifCond .ge 7, 3) := dk_156 0 7 (dk_at dksX6_over_1 11 rfl rfl)
theorem dX6_over_38 : decode cX6_over 38 = .ok (.iconst 1, 1) := dk_4 (dk_at dksX6_over_1 14 rfl rfl)
theorem dX6_over_39 : decode cX6_over 39 = .ok (.goto 4, 3) := dk_167 0 4 (dk_at dksX6_over_1 15 rfl rfl)
theorem dX6_over_42 : decode cX6_over 42 = .ok (.iconst 0, 1) := dk_3 (dk_at dksX6_over_1 18 rfl rfl)
theorem dX6_over_43 : decode cX6_over 43 = .ok (.if_icmp .eq 10, 3) := dk_159 0 10 (dk_at dksX6_over_1 19 rfl rfl)
theorem dX6_over_46 : decode cX6_over 46 = .ok (.lload 4, 2) := dk_22 4 (dk_at dksX6_over_1 22 rfl rfl)
theorem dX6_over_48 : decode cX6_over 48 = .ok (.lconst 1, 1) := dk_10 (dk_at dksX6_over_2 0 rfl rfl)
theorem dX6_over_49 : decode cX6_over 49 = .ok (.lsub, 1) := dk_101 (dk_at dksX6_over_2 1 rfl rfl)
theorem dX6_over_50 : decode cX6_over 50 = .ok (.goto 5, 3) := dk_167 0 5 (dk_at dksX6_over_2 2 rfl rfl)
theorem dX6_over_53 : decode cX6_over 53 = .ok (.lload 4, 2) := dk_22 4 (dk_at dksX6_over_2 5 rfl rfl)
theorem dX6_over_55 : decode cX6_over 55 = .ok (.lreturn, 1) := dk_173 (dk_at dksX6_over_2 7 rfl rfl)
abbrev cX6_fault : ByteArray := prog_29_method_42_code
def yX6_fault : MethodName := ⟨RX6, "fault", "(I)I"⟩
def dkwX6_fault_1 : List UInt8 := [172]
abbrev dktX6_fault_1 : List UInt8 := dkwX6_fault_1 ++ []
def dkwX6_fault_0 : List UInt8 := [27, 154, 0, 10, 42, 180, 0, 42, 167, 0, 16, 27, 4, 160, 0, 10, 42, 180, 0, 45, 167, 0, 4, 2]
abbrev dktX6_fault_0 : List UInt8 := dkwX6_fault_0 ++ dktX6_fault_1
theorem dksX6_fault_0 : cX6_fault.data.toList.drop 0 = dktX6_fault_0 := by decide +kernel
theorem dksX6_fault_1 : cX6_fault.data.toList.drop 24 = dktX6_fault_1 := dk_seg dksX6_fault_0 24 rfl rfl
theorem dX6_fault_0 : decode cX6_fault 0 = .ok (.iload_n 1, 1) := dk_27 (dk_at dksX6_fault_0 0 rfl rfl)
theorem dX6_fault_1 : decode cX6_fault 1 = .ok (.ifCond .ne 10, 3) := dk_154 0 10 (dk_at dksX6_fault_0 1 rfl rfl)
theorem dX6_fault_4 : decode cX6_fault 4 = .ok (.aload_n 0, 1) := dk_42 (dk_at dksX6_fault_0 4 rfl rfl)
theorem dX6_fault_5 : decode cX6_fault 5 = .ok (.getfield 42, 3) := dk_180 0 42 (dk_at dksX6_fault_0 5 rfl rfl)
theorem dX6_fault_8 : decode cX6_fault 8 = .ok (.goto 16, 3) := dk_167 0 16 (dk_at dksX6_fault_0 8 rfl rfl)
theorem dX6_fault_11 : decode cX6_fault 11 = .ok (.iload_n 1, 1) := dk_27 (dk_at dksX6_fault_0 11 rfl rfl)
theorem dX6_fault_12 : decode cX6_fault 12 = .ok (.iconst 1, 1) := dk_4 (dk_at dksX6_fault_0 12 rfl rfl)
theorem dX6_fault_13 : decode cX6_fault 13 = .ok (.if_icmp .ne 10, 3) := dk_160 0 10 (dk_at dksX6_fault_0 13 rfl rfl)
theorem dX6_fault_16 : decode cX6_fault 16 = .ok (.aload_n 0, 1) := dk_42 (dk_at dksX6_fault_0 16 rfl rfl)
theorem dX6_fault_17 : decode cX6_fault 17 = .ok (.getfield 45, 3) := dk_180 0 45 (dk_at dksX6_fault_0 17 rfl rfl)
theorem dX6_fault_20 : decode cX6_fault 20 = .ok (.goto 4, 3) := dk_167 0 4 (dk_at dksX6_fault_0 20 rfl rfl)
theorem dX6_fault_23 : decode cX6_fault 23 = .ok (.iconst (-1), 1) := dk_2 (dk_at dksX6_fault_0 23 rfl rfl)
theorem dX6_fault_24 : decode cX6_fault 24 = .ok (.ireturn, 1) := dk_172 (dk_at dksX6_fault_1 0 rfl rfl)
abbrev cX6_status : ByteArray := prog_29_method_44_code
def yX6_status : MethodName := ⟨RX6, "status", "(I)I"⟩
def dkwX6_status_0 : List UInt8 := [27, 3, 7, 184, 1, 87, 153, 0, 12, 42, 180, 0, 171, 27, 46, 167, 0, 4, 2, 172]
abbrev dktX6_status_0 : List UInt8 := dkwX6_status_0 ++ []
theorem dksX6_status_0 : cX6_status.data.toList.drop 0 = dktX6_status_0 := by decide +kernel
theorem dX6_status_0 : decode cX6_status 0 = .ok (.iload_n 1, 1) := dk_27 (dk_at dksX6_status_0 0 rfl rfl)
theorem dX6_status_1 : decode cX6_status 1 = .ok (.iconst 0, 1) := dk_3 (dk_at dksX6_status_0 1 rfl rfl)
theorem dX6_status_2 : decode cX6_status 2 = .ok (.iconst 4, 1) := dk_7 (dk_at dksX6_status_0 2 rfl rfl)
theorem dX6_status_3 : decode cX6_status 3 = .ok (.invokestatic 343, 3) := dk_184 1 87 (dk_at dksX6_status_0 3 rfl rfl)
theorem dX6_status_6 : decode cX6_status 6 = .ok (.ifCond .eq 12, 3) := dk_153 0 12 (dk_at dksX6_status_0 6 rfl rfl)
theorem dX6_status_9 : decode cX6_status 9 = .ok (.aload_n 0, 1) := dk_42 (dk_at dksX6_status_0 9 rfl rfl)
theorem dX6_status_10 : decode cX6_status 10 = .ok (.getfield 171, 3) := dk_180 0 171 (dk_at dksX6_status_0 10 rfl rfl)
theorem dX6_status_13 : decode cX6_status 13 = .ok (.iload_n 1, 1) := dk_27 (dk_at dksX6_status_0 13 rfl rfl)
theorem dX6_status_14 : decode cX6_status 14 = .ok (.iaload, 1) := dk_46 (dk_at dksX6_status_0 14 rfl rfl)
theorem dX6_status_15 : decode cX6_status 15 = .ok (.goto 4, 3) := dk_167 0 4 (dk_at dksX6_status_0 15 rfl rfl)
theorem dX6_status_18 : decode cX6_status 18 = .ok (.iconst (-1), 1) := dk_2 (dk_at dksX6_status_0 18 rfl rfl)
theorem dX6_status_19 : decode cX6_status 19 = .ok (.ireturn, 1) := dk_172 (dk_at dksX6_status_0 19 rfl rfl)
abbrev cX6_cell : ByteArray := prog_29_method_60_code
def yX6_cell : MethodName := ⟨RX6, "cell", "(IIII)I"⟩
def dkwX6_cell_3 : List UInt8 := [153, 0, 7, 4, 167, 0, 8, 3, 167, 0, 4, 2, 172]
abbrev dktX6_cell_3 : List UInt8 := dkwX6_cell_3 ++ []
def dkwX6_cell_2 : List UInt8 := [180, 0, 183, 21, 5, 46, 167, 0, 28, 21, 4, 5, 160, 0, 21, 42, 21, 5, 29, 182, 1, 240]
abbrev dktX6_cell_2 : List UInt8 := dkwX6_cell_2 ++ dktX6_cell_3
def dkwX6_cell_1 : List UInt8 := [54, 5, 21, 4, 154, 0, 13, 42, 180, 0, 180, 21, 5, 46, 167, 0, 44, 21, 4, 4, 160, 0, 13, 42]
abbrev dktX6_cell_1 : List UInt8 := dkwX6_cell_1 ++ dktX6_cell_2
def dkwX6_cell_0 : List UInt8 := [42, 27, 28, 182, 1, 230, 153, 0, 10, 29, 184, 1, 234, 154, 0, 5, 2, 172, 42, 27, 28, 182, 1, 237]
abbrev dktX6_cell_0 : List UInt8 := dkwX6_cell_0 ++ dktX6_cell_1
theorem dksX6_cell_0 : cX6_cell.data.toList.drop 0 = dktX6_cell_0 := by decide +kernel
theorem dksX6_cell_1 : cX6_cell.data.toList.drop 24 = dktX6_cell_1 := dk_seg dksX6_cell_0 24 rfl rfl
theorem dksX6_cell_2 : cX6_cell.data.toList.drop 48 = dktX6_cell_2 := dk_seg dksX6_cell_1 24 rfl rfl
theorem dksX6_cell_3 : cX6_cell.data.toList.drop 70 = dktX6_cell_3 := dk_seg dksX6_cell_2 22 rfl rfl
theorem dX6_cell_0 : decode cX6_cell 0 = .ok (.aload_n 0, 1) := dk_42 (dk_at dksX6_cell_0 0 rfl rfl)
theorem dX6_cell_1 : decode cX6_cell 1 = .ok (.iload_n 1, 1) := dk_27 (dk_at dksX6_cell_0 1 rfl rfl)
theorem dX6_cell_2 : decode cX6_cell 2 = .ok (.iload_n 2, 1) := dk_28 (dk_at dksX6_cell_0 2 rfl rfl)
theorem dX6_cell_3 : decode cX6_cell 3 = .ok (.invokevirtual 486, 3) := dk_182 1 230 (dk_at dksX6_cell_0 3 rfl rfl)
theorem dX6_cell_6 : decode cX6_cell 6 = .ok (.ifCond .eq 10, 3) := dk_153 0 10 (dk_at dksX6_cell_0 6 rfl rfl)
theorem dX6_cell_9 : decode cX6_cell 9 = .ok (.iload_n 3, 1) := dk_29 (dk_at dksX6_cell_0 9 rfl rfl)
theorem dX6_cell_10 : decode cX6_cell 10 = .ok (.invokestatic 490, 3) := dk_184 1 234 (dk_at dksX6_cell_0 10 rfl rfl)
theorem dX6_cell_13 : decode cX6_cell 13 = .ok (.ifCond .ne 5, 3) := dk_154 0 5 (dk_at dksX6_cell_0 13 rfl rfl)
theorem dX6_cell_16 : decode cX6_cell 16 = .ok (.iconst (-1), 1) := dk_2 (dk_at dksX6_cell_0 16 rfl rfl)
theorem dX6_cell_17 : decode cX6_cell 17 = .ok (.ireturn, 1) := dk_172 (dk_at dksX6_cell_0 17 rfl rfl)
theorem dX6_cell_18 : decode cX6_cell 18 = .ok (.aload_n 0, 1) := dk_42 (dk_at dksX6_cell_0 18 rfl rfl)
theorem dX6_cell_19 : decode cX6_cell 19 = .ok (.iload_n 1, 1) := dk_27 (dk_at dksX6_cell_0 19 rfl rfl)
theorem dX6_cell_20 : decode cX6_cell 20 = .ok (.iload_n 2, 1) := dk_28 (dk_at dksX6_cell_0 20 rfl rfl)
theorem dX6_cell_21 : decode cX6_cell 21 = .ok (.invokevirtual 493, 3) := dk_182 1 237 (dk_at dksX6_cell_0 21 rfl rfl)
theorem dX6_cell_24 : decode cX6_cell 24 = .ok (.istore 5, 2) := dk_54 5 (dk_at dksX6_cell_1 0 rfl rfl)
theorem dX6_cell_26 : decode cX6_cell 26 = .ok (.iload 4, 2) := dk_21 4 (dk_at dksX6_cell_1 2 rfl rfl)
theorem dX6_cell_28 : decode cX6_cell 28 = .ok (.ifCond .ne 13, 3) := dk_154 0 13 (dk_at dksX6_cell_1 4 rfl rfl)
theorem dX6_cell_31 : decode cX6_cell 31 = .ok (.aload_n 0, 1) := dk_42 (dk_at dksX6_cell_1 7 rfl rfl)
theorem dX6_cell_32 : decode cX6_cell 32 = .ok (.getfield 180, 3) := dk_180 0 180 (dk_at dksX6_cell_1 8 rfl rfl)
theorem dX6_cell_35 : decode cX6_cell 35 = .ok (.iload 5, 2) := dk_21 5 (dk_at dksX6_cell_1 11 rfl rfl)
theorem dX6_cell_37 : decode cX6_cell 37 = .ok (.iaload, 1) := dk_46 (dk_at dksX6_cell_1 13 rfl rfl)
theorem dX6_cell_38 : decode cX6_cell 38 = .ok (.goto 44, 3) := dk_167 0 44 (dk_at dksX6_cell_1 14 rfl rfl)
theorem dX6_cell_41 : decode cX6_cell 41 = .ok (.iload 4, 2) := dk_21 4 (dk_at dksX6_cell_1 17 rfl rfl)
theorem dX6_cell_43 : decode cX6_cell 43 = .ok (.iconst 1, 1) := dk_4 (dk_at dksX6_cell_1 19 rfl rfl)
theorem dX6_cell_44 : decode cX6_cell 44 = .ok (.if_icmp .ne 13, 3) := dk_160 0 13 (dk_at dksX6_cell_1 20 rfl rfl)
theorem dX6_cell_47 : decode cX6_cell 47 = .ok (.aload_n 0, 1) := dk_42 (dk_at dksX6_cell_1 23 rfl rfl)
theorem dX6_cell_48 : decode cX6_cell 48 = .ok (.getfield 183, 3) := dk_180 0 183 (dk_at dksX6_cell_2 0 rfl rfl)
theorem dX6_cell_51 : decode cX6_cell 51 = .ok (.iload 5, 2) := dk_21 5 (dk_at dksX6_cell_2 3 rfl rfl)
theorem dX6_cell_53 : decode cX6_cell 53 = .ok (.iaload, 1) := dk_46 (dk_at dksX6_cell_2 5 rfl rfl)
theorem dX6_cell_54 : decode cX6_cell 54 = .ok (.goto 28, 3) := dk_167 0 28 (dk_at dksX6_cell_2 6 rfl rfl)
theorem dX6_cell_57 : decode cX6_cell 57 = .ok (.iload 4, 2) := dk_21 4 (dk_at dksX6_cell_2 9 rfl rfl)
theorem dX6_cell_59 : decode cX6_cell 59 = .ok (.iconst 2, 1) := dk_5 (dk_at dksX6_cell_2 11 rfl rfl)
theorem dX6_cell_60 : decode cX6_cell 60 = .ok (.if_icmp .ne 21, 3) := dk_160 0 21 (dk_at dksX6_cell_2 12 rfl rfl)
theorem dX6_cell_63 : decode cX6_cell 63 = .ok (.aload_n 0, 1) := dk_42 (dk_at dksX6_cell_2 15 rfl rfl)
theorem dX6_cell_64 : decode cX6_cell 64 = .ok (.iload 5, 2) := dk_21 5 (dk_at dksX6_cell_2 16 rfl rfl)
theorem dX6_cell_66 : decode cX6_cell 66 = .ok (.iload_n 3, 1) := dk_29 (dk_at dksX6_cell_2 18 rfl rfl)
theorem dX6_cell_67 : decode cX6_cell 67 = .ok (.invokevirtual 496, 3) := dk_182 1 240 (dk_at dksX6_cell_2 19 rfl rfl)
theorem dX6_cell_70 : decode cX6_cell 70 = .ok (.ifCond .eq 7, 3) := dk_153 0 7 (dk_at dksX6_cell_3 0 rfl rfl)
theorem dX6_cell_73 : decode cX6_cell 73 = .ok (.iconst 1, 1) := dk_4 (dk_at dksX6_cell_3 3 rfl rfl)
theorem dX6_cell_74 : decode cX6_cell 74 = .ok (.goto 8, 3) := dk_167 0 8 (dk_at dksX6_cell_3 4 rfl rfl)
theorem dX6_cell_77 : decode cX6_cell 77 = .ok (.iconst 0, 1) := dk_3 (dk_at dksX6_cell_3 7 rfl rfl)
theorem dX6_cell_78 : decode cX6_cell 78 = .ok (.goto 4, 3) := dk_167 0 4 (dk_at dksX6_cell_3 8 rfl rfl)
theorem dX6_cell_81 : decode cX6_cell 81 = .ok (.iconst (-1), 1) := dk_2 (dk_at dksX6_cell_3 11 rfl rfl)
theorem dX6_cell_82 : decode cX6_cell 82 = .ok (.ireturn, 1) := dk_172 (dk_at dksX6_cell_3 12 rfl rfl)
abbrev cX6_isCell : ByteArray := prog_29_method_52_code
def yX6_isCell : MethodName := ⟨RX6, "isCell", "(II)Z"⟩
def dkwX6_isCell_1 : List UInt8 := [180, 0, 54, 42, 180, 0, 48, 46, 4, 100, 184, 1, 87, 153, 0, 7, 4, 167, 0, 4, 3, 172]
abbrev dktX6_isCell_1 : List UInt8 := dkwX6_isCell_1 ++ []
def dkwX6_isCell_0 : List UInt8 := [27, 3, 42, 180, 0, 51, 42, 180, 0, 48, 46, 4, 100, 184, 1, 87, 153, 0, 26, 28, 3, 42]
abbrev dktX6_isCell_0 : List UInt8 := dkwX6_isCell_0 ++ dktX6_isCell_1
theorem dksX6_isCell_0 : cX6_isCell.data.toList.drop 0 = dktX6_isCell_0 := by decide +kernel
theorem dksX6_isCell_1 : cX6_isCell.data.toList.drop 22 = dktX6_isCell_1 := dk_seg dksX6_isCell_0 22 rfl rfl
theorem dX6_isCell_0 : decode cX6_isCell 0 = .ok (.iload_n 1, 1) := dk_27 (dk_at dksX6_isCell_0 0 rfl rfl)
theorem dX6_isCell_1 : decode cX6_isCell 1 = .ok (.iconst 0, 1) := dk_3 (dk_at dksX6_isCell_0 1 rfl rfl)
theorem dX6_isCell_2 : decode cX6_isCell 2 = .ok (.aload_n 0, 1) := dk_42 (dk_at dksX6_isCell_0 2 rfl rfl)
theorem dX6_isCell_3 : decode cX6_isCell 3 = .ok (.getfield 51, 3) := dk_180 0 51 (dk_at dksX6_isCell_0 3 rfl rfl)
theorem dX6_isCell_6 : decode cX6_isCell 6 = .ok (.aload_n 0, 1) := dk_42 (dk_at dksX6_isCell_0 6 rfl rfl)
theorem dX6_isCell_7 : decode cX6_isCell 7 = .ok (.getfield 48, 3) := dk_180 0 48 (dk_at dksX6_isCell_0 7 rfl rfl)
theorem dX6_isCell_10 : decode cX6_isCell 10 = .ok (.iaload, 1) := dk_46 (dk_at dksX6_isCell_0 10 rfl rfl)
theorem dX6_isCell_11 : decode cX6_isCell 11 = .ok (.iconst 1, 1) := dk_4 (dk_at dksX6_isCell_0 11 rfl rfl)
theorem dX6_isCell_12 : decode cX6_isCell 12 = .ok (.isub, 1) := dk_100 (dk_at dksX6_isCell_0 12 rfl rfl)
theorem dX6_isCell_13 : decode cX6_isCell 13 = .ok (.invokestatic 343, 3) := dk_184 1 87 (dk_at dksX6_isCell_0 13 rfl rfl)
theorem dX6_isCell_16 : decode cX6_isCell 16 = .ok (.ifCond .eq 26, 3) := dk_153 0 26 (dk_at dksX6_isCell_0 16 rfl rfl)
theorem dX6_isCell_19 : decode cX6_isCell 19 = .ok (.iload_n 2, 1) := dk_28 (dk_at dksX6_isCell_0 19 rfl rfl)
theorem dX6_isCell_20 : decode cX6_isCell 20 = .ok (.iconst 0, 1) := dk_3 (dk_at dksX6_isCell_0 20 rfl rfl)
theorem dX6_isCell_21 : decode cX6_isCell 21 = .ok (.aload_n 0, 1) := dk_42 (dk_at dksX6_isCell_0 21 rfl rfl)
theorem dX6_isCell_22 : decode cX6_isCell 22 = .ok (.getfield 54, 3) := dk_180 0 54 (dk_at dksX6_isCell_1 0 rfl rfl)
theorem dX6_isCell_25 : decode cX6_isCell 25 = .ok (.aload_n 0, 1) := dk_42 (dk_at dksX6_isCell_1 3 rfl rfl)
theorem dX6_isCell_26 : decode cX6_isCell 26 = .ok (.getfield 48, 3) := dk_180 0 48 (dk_at dksX6_isCell_1 4 rfl rfl)
theorem dX6_isCell_29 : decode cX6_isCell 29 = .ok (.iaload, 1) := dk_46 (dk_at dksX6_isCell_1 7 rfl rfl)
theorem dX6_isCell_30 : decode cX6_isCell 30 = .ok (.iconst 1, 1) := dk_4 (dk_at dksX6_isCell_1 8 rfl rfl)
theorem dX6_isCell_31 : decode cX6_isCell 31 = .ok (.isub, 1) := dk_100 (dk_at dksX6_isCell_1 9 rfl rfl)
theorem dX6_isCell_32 : decode cX6_isCell 32 = .ok (.invokestatic 343, 3) := dk_184 1 87 (dk_at dksX6_isCell_1 10 rfl rfl)
theorem dX6_isCell_35 : decode cX6_isCell 35 = .ok (.ifCond .eq 7, 3) := dk_153 0 7 (dk_at dksX6_isCell_1 13 rfl rfl)
theorem dX6_isCell_38 : decode cX6_isCell 38 = .ok (.iconst 1, 1) := dk_4 (dk_at dksX6_isCell_1 16 rfl rfl)
theorem dX6_isCell_39 : decode cX6_isCell 39 = .ok (.goto 4, 3) := dk_167 0 4 (dk_at dksX6_isCell_1 17 rfl rfl)
theorem dX6_isCell_42 : decode cX6_isCell 42 = .ok (.iconst 0, 1) := dk_3 (dk_at dksX6_isCell_1 20 rfl rfl)
theorem dX6_isCell_43 : decode cX6_isCell 43 = .ok (.ireturn, 1) := dk_172 (dk_at dksX6_isCell_1 21 rfl rfl)
abbrev cX6_isHour : ByteArray := prog_29_method_54_code
def yX6_isHour : MethodName := ⟨RX6, "isHour", "(I)Z"⟩
def dkwX6_isHour_0 : List UInt8 := [26, 3, 16, 47, 184, 1, 87, 172]
abbrev dktX6_isHour_0 : List UInt8 := dkwX6_isHour_0 ++ []
theorem dksX6_isHour_0 : cX6_isHour.data.toList.drop 0 = dktX6_isHour_0 := by decide +kernel
theorem dX6_isHour_0 : decode cX6_isHour 0 = .ok (.iload_n 0, 1) := dk_26 (dk_at dksX6_isHour_0 0 rfl rfl)
theorem dX6_isHour_1 : decode cX6_isHour 1 = .ok (.iconst 0, 1) := dk_3 (dk_at dksX6_isHour_0 1 rfl rfl)
theorem dX6_isHour_2 : decode cX6_isHour 2 = .ok (.bipush 47, 2) := dk_16 47 (dk_at dksX6_isHour_0 2 rfl rfl)
theorem dX6_isHour_4 : decode cX6_isHour 4 = .ok (.invokestatic 343, 3) := dk_184 1 87 (dk_at dksX6_isHour_0 4 rfl rfl)
theorem dX6_isHour_7 : decode cX6_isHour 7 = .ok (.ireturn, 1) := dk_172 (dk_at dksX6_isHour_0 7 rfl rfl)
