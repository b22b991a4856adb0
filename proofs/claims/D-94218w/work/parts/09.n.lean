set_option maxRecDepth 100000
abbrev cX23_gathers : ByteArray := prog_26_method_2_code
def yX23_gathers : MethodName := ⟨RX23, "gathers", "(I)V"⟩
def dkwX23_gathers_9 : List UInt8 := [182, 0, 100, 87, 177]
abbrev dktX23_gathers_9 : List UInt8 := dkwX23_gathers_9 ++ []
def dkwX23_gathers_8 : List UInt8 := [180, 0, 3, 180, 0, 32, 42, 180, 0, 28, 180, 0, 41, 27, 182, 0, 114, 182, 0, 47, 192, 0, 108]
abbrev dktX23_gathers_8 : List UInt8 := dkwX23_gathers_8 ++ dktX23_gathers_9
def dkwX23_gathers_7 : List UInt8 := [180, 0, 28, 180, 0, 41, 27, 182, 0, 110, 153, 0, 39, 42, 180, 0, 22, 42, 180, 0, 51, 42]
abbrev dktX23_gathers_7 : List UInt8 := dkwX23_gathers_7 ++ dktX23_gathers_8
def dkwX23_gathers_6 : List UInt8 := [182, 0, 47, 192, 0, 108, 182, 0, 100, 87, 132, 2, 1, 167, 255, 223, 42, 180, 0, 3, 180, 0, 32, 42]
abbrev dktX23_gathers_6 : List UInt8 := dkwX23_gathers_6 ++ dktX23_gathers_7
def dkwX23_gathers_5 : List UInt8 := [182, 0, 104, 61, 28, 42, 180, 0, 18, 182, 0, 74, 162, 0, 28, 42, 180, 0, 22, 42, 180, 0, 18, 28]
abbrev dktX23_gathers_5 : List UInt8 := dkwX23_gathers_5 ++ dktX23_gathers_6
def dkwX23_gathers_4 : List UInt8 := [167, 255, 166, 42, 180, 0, 22, 182, 0, 74, 154, 0, 7, 3, 167, 0, 11, 42, 42, 180, 0, 22]
abbrev dktX23_gathers_4 : List UInt8 := dkwX23_gathers_4 ++ dktX23_gathers_5
def dkwX23_gathers_3 : List UInt8 := [42, 180, 0, 18, 187, 0, 92, 89, 45, 180, 0, 94, 27, 183, 0, 97, 182, 0, 100, 87, 132, 2, 1]
abbrev dktX23_gathers_3 : List UInt8 := dkwX23_gathers_3 ++ dktX23_gathers_4
def dkwX23_gathers_2 : List UInt8 := [180, 0, 41, 160, 0, 41, 27, 133, 45, 180, 0, 82, 133, 45, 180, 0, 85, 133, 184, 0, 88, 153, 0, 23]
abbrev dktX23_gathers_2 : List UInt8 := dkwX23_gathers_2 ++ dktX23_gathers_3
def dkwX23_gathers_1 : List UInt8 := [180, 0, 67, 180, 0, 71, 28, 182, 0, 47, 192, 0, 78, 78, 45, 180, 0, 80, 42, 180, 0, 28]
abbrev dktX23_gathers_1 : List UInt8 := dkwX23_gathers_1 ++ dktX23_gathers_2
def dkwX23_gathers_0 : List UInt8 := [3, 61, 28, 42, 180, 0, 3, 180, 0, 67, 180, 0, 71, 182, 0, 74, 162, 0, 79, 42, 180, 0, 3]
abbrev dktX23_gathers_0 : List UInt8 := dkwX23_gathers_0 ++ dktX23_gathers_1
theorem dksX23_gathers_0 : cX23_gathers.data.toList.drop 0 = dktX23_gathers_0 := by decide +kernel
theorem dksX23_gathers_1 : cX23_gathers.data.toList.drop 23 = dktX23_gathers_1 := dk_seg dksX23_gathers_0 23 rfl rfl
theorem dksX23_gathers_2 : cX23_gathers.data.toList.drop 45 = dktX23_gathers_2 := dk_seg dksX23_gathers_1 22 rfl rfl
theorem dksX23_gathers_3 : cX23_gathers.data.toList.drop 69 = dktX23_gathers_3 := dk_seg dksX23_gathers_2 24 rfl rfl
theorem dksX23_gathers_4 : cX23_gathers.data.toList.drop 92 = dktX23_gathers_4 := dk_seg dksX23_gathers_3 23 rfl rfl
theorem dksX23_gathers_5 : cX23_gathers.data.toList.drop 114 = dktX23_gathers_5 := dk_seg dksX23_gathers_4 22 rfl rfl
theorem dksX23_gathers_6 : cX23_gathers.data.toList.drop 138 = dktX23_gathers_6 := dk_seg dksX23_gathers_5 24 rfl rfl
theorem dksX23_gathers_7 : cX23_gathers.data.toList.drop 162 = dktX23_gathers_7 := dk_seg dksX23_gathers_6 24 rfl rfl
theorem dksX23_gathers_8 : cX23_gathers.data.toList.drop 184 = dktX23_gathers_8 := dk_seg dksX23_gathers_7 22 rfl rfl
theorem dksX23_gathers_9 : cX23_gathers.data.toList.drop 207 = dktX23_gathers_9 := dk_seg dksX23_gathers_8 23 rfl rfl
theorem dX23_gathers_0 : decode cX23_gathers 0 = .ok (.iconst 0, 1) := dk_3 (dk_at dksX23_gathers_0 0 rfl rfl)
theorem dX23_gathers_1 : decode cX23_gathers 1 = .ok (.istore_n 2, 1) := dk_61 (dk_at dksX23_gathers_0 1 rfl rfl)
theorem dX23_gathers_2 : decode cX23_gathers 2 = .ok (.iload_n 2, 1) := dk_28 (dk_at dksX23_gathers_0 2 rfl rfl)
theorem dX23_gathers_3 : decode cX23_gathers 3 = .ok (.aload_n 0, 1) := dk_42 (dk_at dksX23_gathers_0 3 rfl rfl)
theorem dX23_gathers_4 : decode cX23_gathers 4 = .ok (.getfield 3, 3) := dk_180 0 3 (dk_at dksX23_gathers_0 4 rfl rfl)
theorem dX23_gathers_7 : decode cX23_gathers 7 = .ok (.getfield 67, 3) := dk_180 0 67 (dk_at dksX23_gathers_0 7 rfl rfl)
theorem dX23_gathers_10 : decode cX23_gathers 10 = .ok (.getfield 71, 3) := dk_180 0 71 (dk_at dksX23_gathers_0 10 rfl rfl)
theorem dX23_gathers_13 : decode cX23_gathers 13 = .ok (.invokevirtual 74, 3) := dk_182 0 74 (dk_at dksX23_gathers_0 13 rfl rfl)
theorem dX23_gathers_16 : decode cX23_gathers 16 = .ok (.if_icmp .ge 79, 3) := dk_162 0 79 (dk_at dksX23_gathers_0 16 rfl rfl)
theorem dX23_gathers_19 : decode cX23_gathers 19 = .ok (.aload_n 0, 1) := dk_42 (dk_at dksX23_gathers_0 19 rfl rfl)
theorem dX23_gathers_20 : decode cX23_gathers 20 = .ok (.getfield 3, 3) := dk_180 0 3 (dk_at dksX23_gathers_0 20 rfl rfl)
theorem dX23_gathers_23 : decode cX23_gathers 23 = .ok (.getfield 67, 3) := dk_180 0 67 (dk_at dksX23_gathers_1 0 rfl rfl)
theorem dX23_gathers_26 : decode cX23_gathers 26 = .ok (.getfield 71, 3) := dk_180 0 71 (dk_at dksX23_gathers_1 3 rfl rfl)
theorem dX23_gathers_29 : decode cX23_gathers 29 = .ok (.iload_n 2, 1) := dk_28 (dk_at dksX23_gathers_1 6 rfl rfl)
theorem dX23_gathers_30 : decode cX23_gathers 30 = .ok (.invokevirtual 47, 3) := dk_182 0 47 (dk_at dksX23_gathers_1 7 rfl rfl)
theorem dX23_gathers_33 : decode cX23_gathers 33 = .ok (.checkcast 78, 3) := dk_192 0 78 (dk_at dksX23_gathers_1 10 rfl rfl)
theorem dX23_gathers_36 : decode cX23_gathers 36 = .ok (.astore_n 3, 1) := dk_78 (dk_at dksX23_gathers_1 13 rfl rfl)
theorem dX23_gathers_37 : decode cX23_gathers 37 = .ok (.aload_n 3, 1) := dk_45 (dk_at dksX23_gathers_1 14 rfl rfl)
theorem dX23_gathers_38 : decode cX23_gathers 38 = .ok (.getfield 80, 3) := dk_180 0 80 (dk_at dksX23_gathers_1 15 rfl rfl)
theorem dX23_gathers_41 : decode cX23_gathers 41 = .ok (.aload_n 0, 1) := dk_42 (dk_at dksX23_gathers_1 18 rfl rfl)
theorem dX23_gathers_42 : decode cX23_gathers 42 = .ok (.getfield 28, 3) := dk_180 0 28 (dk_at dksX23_gathers_1 19 rfl rfl)
theorem dX23_gathers_45 : decode cX23_gathers 45 = .ok (.getfield 41, 3) := dk_180 0 41 (dk_at dksX23_gathers_2 0 rfl rfl)
theorem dX23_gathers_48 : decode cX23_gathers 48 = .ok (.if_icmp .ne 41, 3) := dk_160 0 41 (dk_at dksX23_gathers_2 3 rfl rfl)
theorem dX23_gathers_51 : decode cX23_gathers 51 = .ok (.iload_n 1, 1) := dk_27 (dk_at dksX23_gathers_2 6 rfl rfl)
theorem dX23_gathers_52 : decode cX23_gathers 52 = .ok (.i2l, 1) := dk_133 (dk_at dksX23_gathers_2 7 rfl rfl)
theorem dX23_gathers_53 : decode cX23_gathers 53 = .ok (.aload_n 3, 1) := dk_45 (dk_at dksX23_gathers_2 8 rfl rfl)
theorem dX23_gathers_54 : decode cX23_gathers 54 = .ok (.getfield 82, 3) := dk_180 0 82 (dk_at dksX23_gathers_2 9 rfl rfl)
theorem dX23_gathers_57 : decode cX23_gathers 57 = .ok (.i2l, 1) := dk_133 (dk_at dksX23_gathers_2 12 rfl rfl)
theorem dX23_gathers_58 : decode cX23_gathers 58 = .ok (.aload_n 3, 1) := dk_45 (dk_at dksX23_gathers_2 13 rfl rfl)
theorem dX23_gathers_59 : decode cX23_gathers 59 = .ok (.getfield 85, 3) := dk_180 0 85 (dk_at dksX23_gathers_2 14 rfl rfl)
theorem dX23_gathers_62 : decode cX23_gathers 62 = .ok (.i2l, 1) := dk_133 (dk_at dksX23_gathers_2 17 rfl rfl)
theorem dX23_gathers_63 : decode cX23_gathers 63 = .ok (.invokestatic 88, 3) := dk_184 0 88 (dk_at dksX23_gathers_2 18 rfl rfl)
theorem dX23_gathers_66 : decode cX23_gathers 66 = .ok (.ifCond .eq 23, 3) := dk_153 0 23 (dk_at dksX23_gathers_2 21 rfl rfl)
theorem dX23_gathers_69 : decode cX23_gathers 69 = .ok (.aload_n 0, 1) := dk_42 (dk_at dksX23_gathers_3 0 rfl rfl)
theorem dX23_gathers_70 : decode cX23_gathers 70 = .ok (.getfield 18, 3) := dk_180 0 18 (dk_at dksX23_gathers_3 1 rfl rfl)
theorem dX23_gathers_73 : decode cX23_gathers 73 = .ok (.new 92, 3) := dk_187 0 92 (dk_at dksX23_gathers_3 4 rfl rfl)
theorem dX23_gathers_76 : decode cX23_gathers 76 = .ok (.dup, 1) := dk_89 (dk_at dksX23_gathers_3 7 rfl rfl)
theorem dX23_gathers_77 : decode cX23_gathers 77 = .ok (.aload_n 3, 1) := dk_45 (dk_at dksX23_gathers_3 8 rfl rfl)
theorem dX23_gathers_78 : decode cX23_gathers 78 = .ok (.getfield 94, 3) := dk_180 0 94 (dk_at dksX23_gathers_3 9 rfl rfl)
theorem dX23_gathers_81 : decode cX23_gathers 81 = .ok (.iload_n 1, 1) := dk_27 (dk_at dksX23_gathers_3 12 rfl rfl)
theorem dX23_gathers_82 : decode cX23_gathers 82 = .ok (.invokespecial 97, 3) := dk_183 0 97 (dk_at dksX23_gathers_3 13 rfl rfl)
theorem dX23_gathers_85 : decode cX23_gathers 85 = .ok (.invokevirtual 100, 3) := dk_182 0 100 (dk_at dksX23_gathers_3 16 rfl rfl)
theorem dX23_gathers_88 : decode cX23_gathers 88 = .ok (.pop, 1) := dk_87 (dk_at dksX23_gathers_3 19 rfl rfl)
theorem dX23_gathers_89 : decode cX23_gathers 89 = .ok (.iinc 2 1, 3) := dk_132 2 1 (dk_at dksX23_gathers_3 20 rfl rfl)
theorem dX23_gathers_92 : decode cX23_gathers 92 = .ok (.goto (-90), 3) := dk_167 255 166 (dk_at dksX23_gathers_4 0 rfl rfl)
theorem dX23_gathers_95 : decode cX23_gathers 95 = .ok (.aload_n 0, 1) := dk_42 (dk_at dksX23_gathers_4 3 rfl rfl)
theorem dX23_gathers_96 : decode cX23_gathers 96 = .ok (.getfield 22, 3) := dk_180 0 22 (dk_at dksX23_gathers_4 4 rfl rfl)
theorem dX23_gathers_99 : decode cX23_gathers 99 = .ok (.invokevirtual 74, 3) := dk_182 0 74 (dk_at dksX23_gathers_4 7 rfl rfl)
theorem dX23_gathers_102 : decode cX23_gathers 102 = .ok (.ifCond .ne 7, 3) := dk_154 0 7 (dk_at dksX23_gathers_4 10 rfl rfl)
theorem dX23_gathers_105 : decode cX23_gathers 105 = .ok (.iconst 0, 1) := dk_3 (dk_at dksX23_gathers_4 13 rfl rfl)
theorem dX23_gathers_106 : decode cX23_gathers 106 = .ok (.goto 11, 3) := dk_167 0 11 (dk_at dksX23_gathers_4 14 rfl rfl)
theorem dX23_gathers_109 : decode cX23_gathers 109 = .ok (.aload_n 0, 1) := dk_42 (dk_at dksX23_gathers_4 17 rfl rfl)
theorem dX23_gathers_110 : decode cX23_gathers 110 = .ok (.aload_n 0, 1) := dk_42 (dk_at dksX23_gathers_4 18 rfl rfl)
theorem dX23_gathers_111 : decode cX23_gathers 111 = .ok (.getfield 22, 3) := dk_180 0 22 (dk_at dksX23_gathers_4 19 rfl rfl)
theorem dX23_gathers_114 : decode cX23_gathers 114 = .ok (.invokevirtual 104, 3) := dk_182 0 104 (dk_at dksX23_gathers_5 0 rfl rfl)
theorem dX23_gathers_117 : decode cX23_gathers 117 = .ok (.istore_n 2, 1) := dk_61 (dk_at dksX23_gathers_5 3 rfl rfl)
theorem dX23_gathers_118 : decode cX23_gathers 118 = .ok (.iload_n 2, 1) := dk_28 (dk_at dksX23_gathers_5 4 rfl rfl)
theorem dX23_gathers_119 : decode cX23_gathers 119 = .ok (.aload_n 0, 1) := dk_42 (dk_at dksX23_gathers_5 5 rfl rfl)
theorem dX23_gathers_120 : decode cX23_gathers 120 = .ok (.getfield 18, 3) := dk_180 0 18 (dk_at dksX23_gathers_5 6 rfl rfl)
theorem dX23_gathers_123 : decode cX23_gathers 123 = .ok (.invokevirtual 74, 3) := dk_182 0 74 (dk_at dksX23_gathers_5 9 rfl rfl)
theorem dX23_gathers_126 : decode cX23_gathers 126 = .ok (.if_icmp .ge 28, 3) := dk_162 0 28 (dk_at dksX23_gathers_5 12 rfl rfl)
theorem dX23_gathers_129 : decode cX23_gathers 129 = .ok (.aload_n 0, 1) := dk_42 (dk_at dksX23_gathers_5 15 rfl rfl)
theorem dX23_gathers_130 : decode cX23_gathers 130 = .ok (.getfield 22, 3) := dk_180 0 22 (dk_at dksX23_gathers_5 16 rfl rfl)
theorem dX23_gathers_133 : decode cX23_gathers 133 = .ok (.aload_n 0, 1) := dk_42 (dk_at dksX23_gathers_5 19 rfl rfl)
theorem dX23_gathers_134 : decode cX23_gathers 134 = .ok (.getfield 18, 3) := dk_180 0 18 (dk_at dksX23_gathers_5 20 rfl rfl)
theorem dX23_gathers_137 : decode cX23_gathers 137 = .ok (.iload_n 2, 1) := dk_28 (dk_at dksX23_gathers_5 23 rfl rfl)
theorem dX23_gathers_138 : decode cX23_gathers 138 = .ok (.invokevirtual 47, 3) := dk_182 0 47 (dk_at dksX23_gathers_6 0 rfl rfl)
theorem dX23_gathers_141 : decode cX23_gathers 141 = .ok (.checkcast 108, 3) := dk_192 0 108 (dk_at dksX23_gathers_6 3 rfl rfl)
theorem dX23_gathers_144 : decode cX23_gathers 144 = .ok (.invokevirtual 100, 3) := dk_182 0 100 (dk_at dksX23_gathers_6 6 rfl rfl)
theorem dX23_gathers_147 : decode cX23_gathers 147 = .ok (.pop, 1) := dk_87 (dk_at dksX23_gathers_6 9 rfl rfl)
theorem dX23_gathers_148 : decode cX23_gathers 148 = .ok (.iinc 2 1, 3) := dk_132 2 1 (dk_at dksX23_gathers_6 10 rfl rfl)
theorem dX23_gathers_151 : decode cX23_gathers 151 = .ok (.goto (-33), 3) := dk_167 255 223 (dk_at dksX23_gathers_6 13 rfl rfl)
theorem dX23_gathers_154 : decode cX23_gathers 154 = .ok (.aload_n 0, 1) := dk_42 (dk_at dksX23_gathers_6 16 rfl rfl)
theorem dX23_gathers_155 : decode cX23_gathers 155 = .ok (.getfield 3, 3) := dk_180 0 3 (dk_at dksX23_gathers_6 17 rfl rfl)
theorem dX23_gathers_158 : decode cX23_gathers 158 = .ok (.getfield 32, 3) := dk_180 0 32 (dk_at dksX23_gathers_6 20 rfl rfl)
theorem dX23_gathers_161 : decode cX23_gathers 161 = .ok (.aload_n 0, 1) := dk_42 (dk_at dksX23_gathers_6 23 rfl rfl)
theorem dX23_gathers_162 : decode cX23_gathers 162 = .ok (.getfield 28, 3) := dk_180 0 28 (dk_at dksX23_gathers_7 0 rfl rfl)
theorem dX23_gathers_165 : decode cX23_gathers 165 = .ok (.getfield 41, 3) := dk_180 0 41 (dk_at dksX23_gathers_7 3 rfl rfl)
theorem dX23_gathers_168 : decode cX23_gathers 168 = .ok (.iload_n 1, 1) := dk_27 (dk_at dksX23_gathers_7 6 rfl rfl)
theorem dX23_gathers_169 : decode cX23_gathers 169 = .ok (.invokevirtual 110, 3) := dk_182 0 110 (dk_at dksX23_gathers_7 7 rfl rfl)
theorem dX23_gathers_172 : decode cX23_gathers 172 = .ok (.ifCond .eq 39, 3) := dk_153 0 39 (dk_at dksX23_gathers_7 10 rfl rfl)
theorem dX23_gathers_175 : decode cX23_gathers 175 = .ok (.aload_n 0, 1) := dk_42 (dk_at dksX23_gathers_7 13 rfl rfl)
theorem dX23_gathers_176 : decode cX23_gathers 176 = .ok (.getfield 22, 3) := dk_180 0 22 (dk_at dksX23_gathers_7 14 rfl rfl)
theorem dX23_gathers_179 : decode cX23_gathers 179 = .ok (.aload_n 0, 1) := dk_42 (dk_at dksX23_gathers_7 17 rfl rfl)
theorem dX23_gathers_180 : decode cX23_gathers 180 = .ok (.getfield 51, 3) := dk_180 0 51 (dk_at dksX23_gathers_7 18 rfl rfl)
theorem dX23_gathers_183 : decode cX23_gathers 183 = .ok (.aload_n 0, 1) := dk_42 (dk_at dksX23_gathers_7 21 rfl rfl)
theorem dX23_gathers_184 : decode cX23_gathers 184 = .ok (.getfield 3, 3) := dk_180 0 3 (dk_at dksX23_gathers_8 0 rfl rfl)
theorem dX23_gathers_187 : decode cX23_gathers 187 = .ok (.getfield 32, 3) := dk_180 0 32 (dk_at dksX23_gathers_8 3 rfl rfl)
theorem dX23_gathers_190 : decode cX23_gathers 190 = .ok (.aload_n 0, 1) := dk_42 (dk_at dksX23_gathers_8 6 rfl rfl)
theorem dX23_gathers_191 : decode cX23_gathers 191 = .ok (.getfield 28, 3) := dk_180 0 28 (dk_at dksX23_gathers_8 7 rfl rfl)
theorem dX23_gathers_194 : decode cX23_gathers 194 = .ok (.getfield 41, 3) := dk_180 0 41 (dk_at dksX23_gathers_8 10 rfl rfl)
theorem dX23_gathers_197 : decode cX23_gathers 197 = .ok (.iload_n 1, 1) := dk_27 (dk_at dksX23_gathers_8 13 rfl rfl)
theorem dX23_gathers_198 : decode cX23_gathers 198 = .ok (.invokevirtual 114, 3) := dk_182 0 114 (dk_at dksX23_gathers_8 14 rfl rfl)
theorem dX23_gathers_201 : decode cX23_gathers 201 = .ok (.invokevirtual 47, 3) := dk_182 0 47 (dk_at dksX23_gathers_8 17 rfl rfl)
theorem dX23_gathers_204 : decode cX23_gathers 204 = .ok (.checkcast 108, 3) := dk_192 0 108 (dk_at dksX23_gathers_8 20 rfl rfl)
theorem dX23_gathers_207 : decode cX23_gathers 207 = .ok (.invokevirtual 100, 3) := dk_182 0 100 (dk_at dksX23_gathers_9 0 rfl rfl)
theorem dX23_gathers_210 : decode cX23_gathers 210 = .ok (.pop, 1) := dk_87 (dk_at dksX23_gathers_9 3 rfl rfl)
theorem dX23_gathers_211 : decode cX23_gathers 211 = .ok (.return_, 1) := dk_177 (dk_at dksX23_gathers_9 4 rfl rfl)
abbrev cX23_writtenOf : ByteArray := prog_26_method_3_code
def yX23_writtenOf : MethodName := ⟨RX23, "writtenOf", "(Ljava/util/ArrayList;)I"⟩
def dkwX23_writtenOf_1 : List UInt8 := [154, 0, 6, 132, 2, 1, 132, 3, 1, 167, 255, 228, 28, 172]
abbrev dktX23_writtenOf_1 : List UInt8 := dkwX23_writtenOf_1 ++ []
def dkwX23_writtenOf_0 : List UInt8 := [3, 61, 3, 62, 29, 43, 182, 0, 74, 162, 0, 26, 43, 29, 182, 0, 47, 192, 0, 108, 182, 0, 118]
abbrev dktX23_writtenOf_0 : List UInt8 := dkwX23_writtenOf_0 ++ dktX23_writtenOf_1
theorem dksX23_writtenOf_0 : cX23_writtenOf.data.toList.drop 0 = dktX23_writtenOf_0 := by decide +kernel
theorem dksX23_writtenOf_1 : cX23_writtenOf.data.toList.drop 23 = dktX23_writtenOf_1 := dk_seg dksX23_writtenOf_0 23 rfl rfl
theorem dX23_writtenOf_0 : decode cX23_writtenOf 0 = .ok (.iconst 0, 1) := dk_3 (dk_at dksX23_writtenOf_0 0 rfl rfl)
theorem dX23_writtenOf_1 : decode cX23_writtenOf 1 = .ok (.istore_n 2, 1) := dk_61 (dk_at dksX23_writtenOf_0 1 rfl rfl)
theorem dX23_writtenOf_2 : decode cX23_writtenOf 2 = .ok (.iconst 0, 1) := dk_3 (dk_at dksX23_writtenOf_0 2 rfl rfl)
theorem dX23_writtenOf_3 : decode cX23_writtenOf 3 = .ok (.istore_n 3, 1) := dk_62 (dk_at dksX23_writtenOf_0 3 rfl rfl)
theorem dX23_writtenOf_4 : decode cX23_writtenOf 4 = .ok (.iload_n 3, 1) := dk_29 (dk_at dksX23_writtenOf_0 4 rfl rfl)
theorem dX23_writtenOf_5 : decode cX23_writtenOf 5 = .ok (.aload_n 1, 1) := dk_43 (dk_at dksX23_writtenOf_0 5 rfl rfl)
theorem dX23_writtenOf_6 : decode cX23_writtenOf 6 = .ok (.invokevirtual 74, 3) := dk_182 0 74 (dk_at dksX23_writtenOf_0 6 rfl rfl)
theorem dX23_writtenOf_9 : decode cX23_writtenOf 9 = .ok (.if_icmp .ge 26, 3) := dk_162 0 26 (dk_at dksX23_writtenOf_0 9 rfl rfl)
theorem dX23_writtenOf_12 : decode cX23_writtenOf 12 = .ok (.aload_n 1, 1) := dk_43 (dk_at dksX23_writtenOf_0 12 rfl rfl)
theorem dX23_writtenOf_13 : decode cX23_writtenOf 13 = .ok (.iload_n 3, 1) := dk_29 (dk_at dksX23_writtenOf_0 13 rfl rfl)
theorem dX23_writtenOf_14 : decode cX23_writtenOf 14 = .ok (.invokevirtual 47, 3) := dk_182 0 47 (dk_at dksX23_writtenOf_0 14 rfl rfl)
theorem dX23_writtenOf_17 : decode cX23_writtenOf 17 = .ok (.checkcast 108, 3) := dk_192 0 108 (dk_at dksX23_writtenOf_0 17 rfl rfl)
theorem dX23_writtenOf_20 : decode cX23_writtenOf 20 = .ok (.invokevirtual 118, 3) := dk_182 0 118 (dk_at dksX23_writtenOf_0 20 rfl rfl)
theorem dX23_writtenOf_23 : decode cX23_writtenOf 23 = .ok (.ifCond .ne 6, 3) := dk_154 0 6 (dk_at dksX23_writtenOf_1 0 rfl rfl)
theorem dX23_writtenOf_26 : decode cX23_writtenOf 26 = .ok (.iinc 2 1, 3) := dk_132 2 1 (dk_at dksX23_writtenOf_1 3 rfl rfl)
theorem dX23_writtenOf_29 : decode cX23_writtenOf 29 = .ok (.iinc 3 1, 3) := dk_132 3 1 (dk_at dksX23_writtenOf_1 6 rfl rfl)
theorem dX23_writtenOf_32 : decode cX23_writtenOf 32 = .ok (.goto (-28), 3) := dk_167 255 228 (dk_at dksX23_writtenOf_1 9 rfl rfl)
theorem dX23_writtenOf_35 : decode cX23_writtenOf 35 = .ok (.iload_n 2, 1) := dk_28 (dk_at dksX23_writtenOf_1 12 rfl rfl)
theorem dX23_writtenOf_36 : decode cX23_writtenOf 36 = .ok (.ireturn, 1) := dk_172 (dk_at dksX23_writtenOf_1 13 rfl rfl)
abbrev cX23_chooses : ByteArray := prog_26_method_5_code
def yX23_chooses : MethodName := ⟨RX23, "chooses", "()V"⟩
def dkwX23_chooses_10 : List UInt8 := [46, 54, 4, 167, 255, 222, 177]
abbrev dktX23_chooses_10 : List UInt8 := dkwX23_chooses_10 ++ []
def dkwX23_chooses_9 : List UInt8 := [180, 0, 25, 42, 180, 0, 22, 21, 4, 182, 0, 47, 192, 0, 108, 182, 0, 100, 87, 45, 21, 4, 4, 96]
abbrev dktX23_chooses_9 : List UInt8 := dkwX23_chooses_9 ++ dktX23_chooses_10
def dkwX23_chooses_8 : List UInt8 := [181, 0, 138, 44, 3, 46, 2, 159, 0, 45, 45, 3, 46, 54, 4, 21, 4, 27, 162, 0, 34, 42]
abbrev dktX23_chooses_8 : List UInt8 := dkwX23_chooses_8 ++ dktX23_chooses_9
def dkwX23_chooses_7 : List UInt8 := [79, 45, 21, 4, 4, 96, 21, 6, 79, 132, 4, 255, 167, 255, 106, 42, 3, 44, 3, 46, 184, 0, 133]
abbrev dktX23_chooses_7 : List UInt8 := dkwX23_chooses_7 ++ dktX23_chooses_8
def dkwX23_chooses_6 : List UInt8 := [167, 255, 163, 44, 21, 4, 4, 96, 21, 8, 153, 0, 12, 3, 21, 5, 184, 0, 133, 167, 0, 5, 21, 5]
abbrev dktX23_chooses_6 : List UInt8 := dkwX23_chooses_6 ++ dktX23_chooses_7
def dkwX23_chooses_5 : List UInt8 := [54, 9, 21, 9, 21, 5, 163, 0, 6, 167, 0, 11, 21, 9, 54, 5, 21, 7, 54, 6, 132, 7, 1]
abbrev dktX23_chooses_5 : List UInt8 := dkwX23_chooses_5 ++ dktX23_chooses_6
def dkwX23_chooses_4 : List UInt8 := [160, 0, 7, 2, 167, 0, 20, 44, 21, 7, 4, 96, 46, 21, 8, 153, 0, 7, 4, 167, 0, 4, 3, 96]
abbrev dktX23_chooses_4 : List UInt8 := dkwX23_chooses_4 ++ dktX23_chooses_5
def dkwX23_chooses_3 : List UInt8 := [182, 0, 118, 54, 8, 42, 21, 4, 21, 7, 182, 0, 130, 153, 0, 13, 44, 21, 7, 4, 96, 46, 2]
abbrev dktX23_chooses_3 : List UInt8 := dkwX23_chooses_3 ++ dktX23_chooses_4
def dkwX23_chooses_2 : List UInt8 := [21, 7, 27, 162, 0, 93, 21, 8, 153, 0, 88, 42, 180, 0, 22, 21, 7, 182, 0, 47, 192, 0, 108]
abbrev dktX23_chooses_2 : List UInt8 := dkwX23_chooses_2 ++ dktX23_chooses_3
def dkwX23_chooses_1 : List UInt8 := [54, 4, 21, 4, 2, 161, 0, 150, 2, 54, 5, 27, 54, 6, 21, 4, 4, 96, 54, 7, 4, 54, 8]
abbrev dktX23_chooses_1 : List UInt8 := dkwX23_chooses_1 ++ dktX23_chooses_2
def dkwX23_chooses_0 : List UInt8 := [42, 180, 0, 22, 182, 0, 74, 60, 27, 4, 96, 188, 10, 77, 27, 4, 96, 188, 10, 78, 27, 4, 100]
abbrev dktX23_chooses_0 : List UInt8 := dkwX23_chooses_0 ++ dktX23_chooses_1
theorem dksX23_chooses_0 : cX23_chooses.data.toList.drop 0 = dktX23_chooses_0 := by decide +kernel
theorem dksX23_chooses_1 : cX23_chooses.data.toList.drop 23 = dktX23_chooses_1 := dk_seg dksX23_chooses_0 23 rfl rfl
theorem dksX23_chooses_2 : cX23_chooses.data.toList.drop 46 = dktX23_chooses_2 := dk_seg dksX23_chooses_1 23 rfl rfl
theorem dksX23_chooses_3 : cX23_chooses.data.toList.drop 69 = dktX23_chooses_3 := dk_seg dksX23_chooses_2 23 rfl rfl
theorem dksX23_chooses_4 : cX23_chooses.data.toList.drop 92 = dktX23_chooses_4 := dk_seg dksX23_chooses_3 23 rfl rfl
theorem dksX23_chooses_5 : cX23_chooses.data.toList.drop 116 = dktX23_chooses_5 := dk_seg dksX23_chooses_4 24 rfl rfl
theorem dksX23_chooses_6 : cX23_chooses.data.toList.drop 139 = dktX23_chooses_6 := dk_seg dksX23_chooses_5 23 rfl rfl
theorem dksX23_chooses_7 : cX23_chooses.data.toList.drop 163 = dktX23_chooses_7 := dk_seg dksX23_chooses_6 24 rfl rfl
theorem dksX23_chooses_8 : cX23_chooses.data.toList.drop 186 = dktX23_chooses_8 := dk_seg dksX23_chooses_7 23 rfl rfl
theorem dksX23_chooses_9 : cX23_chooses.data.toList.drop 208 = dktX23_chooses_9 := dk_seg dksX23_chooses_8 22 rfl rfl
theorem dksX23_chooses_10 : cX23_chooses.data.toList.drop 232 = dktX23_chooses_10 := dk_seg dksX23_chooses_9 24 rfl rfl
theorem dX23_chooses_0 : decode cX23_chooses 0 = .ok (.aload_n 0, 1) := dk_42 (dk_at dksX23_chooses_0 0 rfl rfl)
theorem dX23_chooses_1 : decode cX23_chooses 1 = .ok (.getfield 22, 3) := dk_180 0 22 (dk_at dksX23_chooses_0 1 rfl rfl)
theorem dX23_chooses_4 : decode cX23_chooses 4 = .ok (.invokevirtual 74, 3) := dk_182 0 74 (dk_at dksX23_chooses_0 4 rfl rfl)
theorem dX23_chooses_7 : decode cX23_chooses 7 = .ok (.istore_n 1, 1) := dk_60 (dk_at dksX23_chooses_0 7 rfl rfl)
theorem dX23_chooses_8 : decode cX23_chooses 8 = .ok (.iload_n 1, 1) := dk_27 (dk_at dksX23_chooses_0 8 rfl rfl)
theorem dX23_chooses_9 : decode cX23_chooses 9 = .ok (.iconst 1, 1) := dk_4 (dk_at dksX23_chooses_0 9 rfl rfl)
theorem dX23_chooses_10 : decode cX23_chooses 10 = .ok (.iadd, 1) := dk_96 (dk_at dksX23_chooses_0 10 rfl rfl)
theorem dX23_chooses_11 : decode cX23_chooses 11 = .ok (.newarray .int, 2) := dk_188_10 (dk_at dksX23_chooses_0 11 rfl rfl)
theorem dX23_chooses_13 : decode cX23_chooses 13 = .ok (.astore_n 2, 1) := dk_77 (dk_at dksX23_chooses_0 13 rfl rfl)
theorem dX23_chooses_14 : decode cX23_chooses 14 = .ok (.iload_n 1, 1) := dk_27 (dk_at dksX23_chooses_0 14 rfl rfl)
theorem dX23_chooses_15 : decode cX23_chooses 15 = .ok (.iconst 1, 1) := dk_4 (dk_at dksX23_chooses_0 15 rfl rfl)
theorem dX23_chooses_16 : decode cX23_chooses 16 = .ok (.iadd, 1) := dk_96 (dk_at dksX23_chooses_0 16 rfl rfl)
theorem dX23_chooses_17 : decode cX23_chooses 17 = .ok (.newarray .int, 2) := dk_188_10 (dk_at dksX23_chooses_0 17 rfl rfl)
theorem dX23_chooses_19 : decode cX23_chooses 19 = .ok (.astore_n 3, 1) := dk_78 (dk_at dksX23_chooses_0 19 rfl rfl)
theorem dX23_chooses_20 : decode cX23_chooses 20 = .ok (.iload_n 1, 1) := dk_27 (dk_at dksX23_chooses_0 20 rfl rfl)
theorem dX23_chooses_21 : decode cX23_chooses 21 = .ok (.iconst 1, 1) := dk_4 (dk_at dksX23_chooses_0 21 rfl rfl)
theorem dX23_chooses_22 : decode cX23_chooses 22 = .ok (.isub, 1) := dk_100 (dk_at dksX23_chooses_0 22 rfl rfl)
theorem dX23_chooses_23 : decode cX23_chooses 23 = .ok (.istore 4, 2) := dk_54 4 (dk_at dksX23_chooses_1 0 rfl rfl)
theorem dX23_chooses_25 : decode cX23_chooses 25 = .ok (.iload 4, 2) := dk_21 4 (dk_at dksX23_chooses_1 2 rfl rfl)
theorem dX23_chooses_27 : decode cX23_chooses 27 = .ok (.iconst (-1), 1) := dk_2 (dk_at dksX23_chooses_1 4 rfl rfl)
theorem dX23_chooses_28 : decode cX23_chooses 28 = .ok (.if_icmp .lt 150, 3) := dk_161 0 150 (dk_at dksX23_chooses_1 5 rfl rfl)
theorem dX23_chooses_31 : decode cX23_chooses 31 = .ok (.iconst (-1), 1) := dk_2 (dk_at dksX23_chooses_1 8 rfl rfl)
theorem dX23_chooses_32 : decode cX23_chooses 32 = .ok (.istore 5, 2) := dk_54 5 (dk_at dksX23_chooses_1 9 rfl rfl)
theorem dX23_chooses_34 : decode cX23_chooses 34 = .ok (.iload_n 1, 1) := dk_27 (dk_at dksX23_chooses_1 11 rfl rfl)
theorem dX23_chooses_35 : decode cX23_chooses 35 = .ok (.istore 6, 2) := dk_54 6 (dk_at dksX23_chooses_1 12 rfl rfl)
theorem dX23_chooses_37 : decode cX23_chooses 37 = .ok (.iload 4, 2) := dk_21 4 (dk_at dksX23_chooses_1 14 rfl rfl)
theorem dX23_chooses_39 : decode cX23_chooses 39 = .ok (.iconst 1, 1) := dk_4 (dk_at dksX23_chooses_1 16 rfl rfl)
theorem dX23_chooses_40 : decode cX23_chooses 40 = .ok (.iadd, 1) := dk_96 (dk_at dksX23_chooses_1 17 rfl rfl)
theorem dX23_chooses_41 : decode cX23_chooses 41 = .ok (.istore 7, 2) := dk_54 7 (dk_at dksX23_chooses_1 18 rfl rfl)
theorem dX23_chooses_43 : decode cX23_chooses 43 = .ok (.iconst 1, 1) := dk_4 (dk_at dksX23_chooses_1 20 rfl rfl)
theorem dX23_chooses_44 : decode cX23_chooses 44 = .ok (.istore 8, 2) := dk_54 8 (dk_at dksX23_chooses_1 21 rfl rfl)
theorem dX23_chooses_46 : decode cX23_chooses 46 = .ok (.iload 7, 2) := dk_21 7 (dk_at dksX23_chooses_2 0 rfl rfl)
theorem dX23_chooses_48 : decode cX23_chooses 48 = .ok (.iload_n 1, 1) := dk_27 (dk_at dksX23_chooses_2 2 rfl rfl)
theorem dX23_chooses_49 : decode cX23_chooses 49 = .ok (.if_icmp .ge 93, 3) := dk_162 0 93 (dk_at dksX23_chooses_2 3 rfl rfl)
theorem dX23_chooses_52 : decode cX23_chooses 52 = .ok (.iload 8, 2) := dk_21 8 (dk_at dksX23_chooses_2 6 rfl rfl)
theorem dX23_chooses_54 : decode cX23_chooses 54 = .ok (.ifCond .eq 88, 3) := dk_153 0 88 (dk_at dksX23_chooses_2 8 rfl rfl)
theorem dX23_chooses_57 : decode cX23_chooses 57 = .ok (.aload_n 0, 1) := dk_42 (dk_at dksX23_chooses_2 11 rfl rfl)
theorem dX23_chooses_58 : decode cX23_chooses 58 = .ok (.getfield 22, 3) := dk_180 0 22 (dk_at dksX23_chooses_2 12 rfl rfl)
theorem dX23_chooses_61 : decode cX23_chooses 61 = .ok (.iload 7, 2) := dk_21 7 (dk_at dksX23_chooses_2 15 rfl rfl)
theorem dX23_chooses_63 : decode cX23_chooses 63 = .ok (.invokevirtual 47, 3) := dk_182 0 47 (dk_at dksX23_chooses_2 17 rfl rfl)
theorem dX23_chooses_66 : decode cX23_chooses 66 = .ok (.checkcast 108, 3) := dk_192 0 108 (dk_at dksX23_chooses_2 20 rfl rfl)
theorem dX23_chooses_69 : decode cX23_chooses 69 = .ok (.invokevirtual 118, 3) := dk_182 0 118 (dk_at dksX23_chooses_3 0 rfl rfl)
theorem dX23_chooses_72 : decode cX23_chooses 72 = .ok (.istore 8, 2) := dk_54 8 (dk_at dksX23_chooses_3 3 rfl rfl)
theorem dX23_chooses_74 : decode cX23_chooses 74 = .ok (.aload_n 0, 1) := dk_42 (dk_at dksX23_chooses_3 5 rfl rfl)
theorem dX23_chooses_75 : decode cX23_chooses 75 = .ok (.iload 4, 2) := dk_21 4 (dk_at dksX23_chooses_3 6 rfl rfl)
theorem dX23_chooses_77 : decode cX23_chooses 77 = .ok (.iload 7, 2) := dk_21 7 (dk_at dksX23_chooses_3 8 rfl rfl)
theorem dX23_chooses_79 : decode cX23_chooses 79 = .ok (.invokevirtual 130, 3) := dk_182 0 130 (dk_at dksX23_chooses_3 10 rfl rfl)
theorem dX23_chooses_82 : decode cX23_chooses 82 = .ok (.ifCond .eq 13, 3) := dk_153 0 13 (dk_at dksX23_chooses_3 13 rfl rfl)
theorem dX23_chooses_85 : decode cX23_chooses 85 = .ok (.aload_n 2, 1) := dk_44 (dk_at dksX23_chooses_3 16 rfl rfl)
theorem dX23_chooses_86 : decode cX23_chooses 86 = .ok (.iload 7, 2) := dk_21 7 (dk_at dksX23_chooses_3 17 rfl rfl)
theorem dX23_chooses_88 : decode cX23_chooses 88 = .ok (.iconst 1, 1) := dk_4 (dk_at dksX23_chooses_3 19 rfl rfl)
theorem dX23_chooses_89 : decode cX23_chooses 89 = .ok (.iadd, 1) := dk_96 (dk_at dksX23_chooses_3 20 rfl rfl)
theorem dX23_chooses_90 : decode cX23_chooses 90 = .ok (.iaload, 1) := dk_46 (dk_at dksX23_chooses_3 21 rfl rfl)
theorem dX23_chooses_91 : decode cX23_chooses 91 = .ok (.iconst (-1), 1) := dk_2 (dk_at dksX23_chooses_3 22 rfl rfl)
theorem dX23_chooses_92 : decode cX23_chooses 92 = .ok (.if_icmp .ne 7, 3) := dk_160 0 7 (dk_at dksX23_chooses_4 0 rfl rfl)
theorem dX23_chooses_95 : decode cX23_chooses 95 = .ok (.iconst (-1), 1) := dk_2 (dk_at dksX23_chooses_4 3 rfl rfl)
theorem dX23_chooses_96 : decode cX23_chooses 96 = .ok (.goto 20, 3) := dk_167 0 20 (dk_at dksX23_chooses_4 4 rfl rfl)
theorem dX23_chooses_99 : decode cX23_chooses 99 = .ok (.aload_n 2, 1) := dk_44 (dk_at dksX23_chooses_4 7 rfl rfl)
theorem dX23_chooses_100 : decode cX23_chooses 100 = .ok (.iload 7, 2) := dk_21 7 (dk_at dksX23_chooses_4 8 rfl rfl)
theorem dX23_chooses_102 : decode cX23_chooses 102 = .ok (.iconst 1, 1) := dk_4 (dk_at dksX23_chooses_4 10 rfl rfl)
theorem dX23_chooses_103 : decode cX23_chooses 103 = .ok (.iadd, 1) := dk_96 (dk_at dksX23_chooses_4 11 rfl rfl)
theorem dX23_chooses_104 : decode cX23_chooses 104 = .ok (.iaload, 1) := dk_46 (dk_at dksX23_chooses_4 12 rfl rfl)
theorem dX23_chooses_105 : decode cX23_chooses 105 = .ok (.iload 8, 2) := dk_21 8 (dk_at dksX23_chooses_4 13 rfl rfl)
theorem dX23_chooses_107 : decode cX23_chooses 107 = .ok (.ifCond .eq 7, 3) := dk_153 0 7 (dk_at dksX23_chooses_4 15 rfl rfl)
theorem dX23_chooses_110 : decode cX23_chooses 110 = .ok (.iconst 1, 1) := dk_4 (dk_at dksX23_chooses_4 18 rfl rfl)
theorem dX23_chooses_111 : decode cX23_chooses 111 = .ok (.goto 4, 3) := dk_167 0 4 (dk_at dksX23_chooses_4 19 rfl rfl)
theorem dX23_chooses_114 : decode cX23_chooses 114 = .ok (.iconst 0, 1) := dk_3 (dk_at dksX23_chooses_4 22 rfl rfl)
theorem dX23_chooses_115 : decode cX23_chooses 115 = .ok (.iadd, 1) := dk_96 (dk_at dksX23_chooses_4 23 rfl rfl)
theorem dX23_chooses_116 : decode cX23_chooses 116 = .ok (.istore 9, 2) := dk_54 9 (dk_at dksX23_chooses_5 0 rfl rfl)
theorem dX23_chooses_118 : decode cX23_chooses 118 = .ok (.iload 9, 2) := dk_21 9 (dk_at dksX23_chooses_5 2 rfl rfl)
theorem dX23_chooses_120 : decode cX23_chooses 120 = .ok (.iload 5, 2) := dk_21 5 (dk_at dksX23_chooses_5 4 rfl rfl)
theorem dX23_chooses_122 : decode cX23_chooses 122 = .ok (.if_icmp .gt 6, 3) := dk_163 0 6 (dk_at dksX23_chooses_5 6 rfl rfl)
theorem dX23_chooses_125 : decode cX23_chooses 125 = .ok (.goto 11, 3) := dk_167 0 11 (dk_at dksX23_chooses_5 9 rfl rfl)
theorem dX23_chooses_128 : decode cX23_chooses 128 = .ok (.iload 9, 2) := dk_21 9 (dk_at dksX23_chooses_5 12 rfl rfl)
theorem dX23_chooses_130 : decode cX23_chooses 130 = .ok (.istore 5, 2) := dk_54 5 (dk_at dksX23_chooses_5 14 rfl rfl)
theorem dX23_chooses_132 : decode cX23_chooses 132 = .ok (.iload 7, 2) := dk_21 7 (dk_at dksX23_chooses_5 16 rfl rfl)
theorem dX23_chooses_134 : decode cX23_chooses 134 = .ok (.istore 6, 2) := dk_54 6 (dk_at dksX23_chooses_5 18 rfl rfl)
theorem dX23_chooses_136 : decode cX23_chooses 136 = .ok (.iinc 7 1, 3) := dk_132 7 1 (dk_at dksX23_chooses_5 20 rfl rfl)
theorem dX23_chooses_139 : decode cX23_chooses 139 = .ok (.goto (-93), 3) := dk_167 255 163 (dk_at dksX23_chooses_6 0 rfl rfl)
theorem dX23_chooses_142 : decode cX23_chooses 142 = .ok (.aload_n 2, 1) := dk_44 (dk_at dksX23_chooses_6 3 rfl rfl)
theorem dX23_chooses_143 : decode cX23_chooses 143 = .ok (.iload 4, 2) := dk_21 4 (dk_at dksX23_chooses_6 4 rfl rfl)
theorem dX23_chooses_145 : decode cX23_chooses 145 = .ok (.iconst 1, 1) := dk_4 (dk_at dksX23_chooses_6 6 rfl rfl)
theorem dX23_chooses_146 : decode cX23_chooses 146 = .ok (.iadd, 1) := dk_96 (dk_at dksX23_chooses_6 7 rfl rfl)
theorem dX23_chooses_147 : decode cX23_chooses 147 = .ok (.iload 8, 2) := dk_21 8 (dk_at dksX23_chooses_6 8 rfl rfl)
theorem dX23_chooses_149 : decode cX23_chooses 149 = .ok (.ifCond .eq 12, 3) := dk_153 0 12 (dk_at dksX23_chooses_6 10 rfl rfl)
theorem dX23_chooses_152 : decode cX23_chooses 152 = .ok (.iconst 0, 1) := dk_3 (dk_at dksX23_chooses_6 13 rfl rfl)
theorem dX23_chooses_153 : decode cX23_chooses 153 = .ok (.iload 5, 2) := dk_21 5 (dk_at dksX23_chooses_6 14 rfl rfl)
theorem dX23_chooses_155 : decode cX23_chooses 155 = .ok (.invokestatic 133, 3) := dk_184 0 133 (dk_at dksX23_chooses_6 16 rfl rfl)
theorem dX23_chooses_158 : decode cX23_chooses 158 = .ok (.goto 5, 3) := dk_167 0 5 (dk_at dksX23_chooses_6 19 rfl rfl)
theorem dX23_chooses_161 : decode cX23_chooses 161 = .ok (.iload 5, 2) := dk_21 5 (dk_at dksX23_chooses_6 22 rfl rfl)
theorem dX23_chooses_163 : decode cX23_chooses 163 = .ok (.iastore, 1) := dk_79 (dk_at dksX23_chooses_7 0 rfl rfl)
theorem dX23_chooses_164 : decode cX23_chooses 164 = .ok (.aload_n 3, 1) := dk_45 (dk_at dksX23_chooses_7 1 rfl rfl)
theorem dX23_chooses_165 : decode cX23_chooses 165 = .ok (.iload 4, 2) := dk_21 4 (dk_at dksX23_chooses_7 2 rfl rfl)
theorem dX23_chooses_167 : decode cX23_chooses 167 = .ok (.iconst 1, 1) := dk_4 (dk_at dksX23_chooses_7 4 rfl rfl)
theorem dX23_chooses_168 : decode cX23_chooses 168 = .ok (.iadd, 1) := dk_96 (dk_at dksX23_chooses_7 5 rfl rfl)
theorem dX23_chooses_169 : decode cX23_chooses 169 = .ok (.iload 6, 2) := dk_21 6 (dk_at dksX23_chooses_7 6 rfl rfl)
theorem dX23_chooses_171 : decode cX23_chooses 171 = .ok (.iastore, 1) := dk_79 (dk_at dksX23_chooses_7 8 rfl rfl)
theorem dX23_chooses_172 : decode cX23_chooses 172 = .ok (.iinc 4 (-1), 3) := dk_132 4 255 (dk_at dksX23_chooses_7 9 rfl rfl)
theorem dX23_chooses_175 : decode cX23_chooses 175 = .ok (.goto (-150), 3) := dk_167 255 106 (dk_at dksX23_chooses_7 12 rfl rfl)
theorem dX23_chooses_178 : decode cX23_chooses 178 = .ok (.aload_n 0, 1) := dk_42 (dk_at dksX23_chooses_7 15 rfl rfl)
theorem dX23_chooses_179 : decode cX23_chooses 179 = .ok (.iconst 0, 1) := dk_3 (dk_at dksX23_chooses_7 16 rfl rfl)
theorem dX23_chooses_180 : decode cX23_chooses 180 = .ok (.aload_n 2, 1) := dk_44 (dk_at dksX23_chooses_7 17 rfl rfl)
theorem dX23_chooses_181 : decode cX23_chooses 181 = .ok (.iconst 0, 1) := dk_3 (dk_at dksX23_chooses_7 18 rfl rfl)
theorem dX23_chooses_182 : decode cX23_chooses 182 = .ok (.iaload, 1) := dk_46 (dk_at dksX23_chooses_7 19 rfl rfl)
theorem dX23_chooses_183 : decode cX23_chooses 183 = .ok (.invokestatic 133, 3) := dk_184 0 133 (dk_at dksX23_chooses_7 20 rfl rfl)
theorem dX23_chooses_186 : decode cX23_chooses 186 = .ok (.putfield 138, 3) := dk_181 0 138 (dk_at dksX23_chooses_8 0 rfl rfl)
theorem dX23_chooses_189 : decode cX23_chooses 189 = .ok (.aload_n 2, 1) := dk_44 (dk_at dksX23_chooses_8 3 rfl rfl)
theorem dX23_chooses_190 : decode cX23_chooses 190 = .ok (.iconst 0, 1) := dk_3 (dk_at dksX23_chooses_8 4 rfl rfl)
theorem dX23_chooses_191 : decode cX23_chooses 191 = .ok (.iaload, 1) := dk_46 (dk_at dksX23_chooses_8 5 rfl rfl)
theorem dX23_chooses_192 : decode cX23_chooses 192 = .ok (.iconst (-1), 1) := dk_2 (dk_at dksX23_chooses_8 6 rfl rfl)
theorem dX23_chooses_193 : decode cX23_chooses 193 = .ok (.if_icmp .eq 45, 3) := dk_159 0 45 (dk_at dksX23_chooses_8 7 rfl rfl)
theorem dX23_chooses_196 : decode cX23_chooses 196 = .ok (.aload_n 3, 1) := dk_45 (dk_at dksX23_chooses_8 10 rfl rfl)
theorem dX23_chooses_197 : decode cX23_chooses 197 = .ok (.iconst 0, 1) := dk_3 (dk_at dksX23_chooses_8 11 rfl rfl)
theorem dX23_chooses_198 : decode cX23_chooses 198 = .ok (.iaload, 1) := dk_46 (dk_at dksX23_chooses_8 12 rfl rfl)
theorem dX23_chooses_199 : decode cX23_chooses 199 = .ok (.istore 4, 2) := dk_54 4 (dk_at dksX23_chooses_8 13 rfl rfl)
theorem dX23_chooses_201 : decode cX23_chooses 201 = .ok (.iload 4, 2) := dk_21 4 (dk_at dksX23_chooses_8 15 rfl rfl)
theorem dX23_chooses_203 : decode cX23_chooses 203 = .ok (.iload_n 1, 1) := dk_27 (dk_at dksX23_chooses_8 17 rfl rfl)
theorem dX23_chooses_204 : decode cX23_chooses 204 = .ok (.if_icmp .ge 34, 3) := dk_162 0 34 (dk_at dksX23_chooses_8 18 rfl rfl)
theorem dX23_chooses_207 : decode cX23_chooses 207 = .ok (.aload_n 0, 1) := dk_42 (dk_at dksX23_chooses_8 21 rfl rfl)
theorem dX23_chooses_208 : decode cX23_chooses 208 = .ok (.getfield 25, 3) := dk_180 0 25 (dk_at dksX23_chooses_9 0 rfl rfl)
theorem dX23_chooses_211 : decode cX23_chooses 211 = .ok (.aload_n 0, 1) := dk_42 (dk_at dksX23_chooses_9 3 rfl rfl)
theorem dX23_chooses_212 : decode cX23_chooses 212 = .ok (.getfield 22, 3) := dk_180 0 22 (dk_at dksX23_chooses_9 4 rfl rfl)
theorem dX23_chooses_215 : decode cX23_chooses 215 = .ok (.iload 4, 2) := dk_21 4 (dk_at dksX23_chooses_9 7 rfl rfl)
theorem dX23_chooses_217 : decode cX23_chooses 217 = .ok (.invokevirtual 47, 3) := dk_182 0 47 (dk_at dksX23_chooses_9 9 rfl rfl)
theorem dX23_chooses_220 : decode cX23_chooses 220 = .ok (.checkcast 108, 3) := dk_192 0 108 (dk_at dksX23_chooses_9 12 rfl rfl)
theorem dX23_chooses_223 : decode cX23_chooses 223 = .ok (.invokevirtual 100, 3) := dk_182 0 100 (dk_at dksX23_chooses_9 15 rfl rfl)
theorem dX23_chooses_226 : decode cX23_chooses 226 = .ok (.pop, 1) := dk_87 (dk_at dksX23_chooses_9 18 rfl rfl)
theorem dX23_chooses_227 : decode cX23_chooses 227 = .ok (.aload_n 3, 1) := dk_45 (dk_at dksX23_chooses_9 19 rfl rfl)
theorem dX23_chooses_228 : decode cX23_chooses 228 = .ok (.iload 4, 2) := dk_21 4 (dk_at dksX23_chooses_9 20 rfl rfl)
theorem dX23_chooses_230 : decode cX23_chooses 230 = .ok (.iconst 1, 1) := dk_4 (dk_at dksX23_chooses_9 22 rfl rfl)
theorem dX23_chooses_231 : decode cX23_chooses 231 = .ok (.iadd, 1) := dk_96 (dk_at dksX23_chooses_9 23 rfl rfl)
theorem dX23_chooses_232 : decode cX23_chooses 232 = .ok (.iaload, 1) := dk_46 (dk_at dksX23_chooses_10 0 rfl rfl)
theorem dX23_chooses_233 : decode cX23_chooses 233 = .ok (.istore 4, 2) := dk_54 4 (dk_at dksX23_chooses_10 1 rfl rfl)
theorem dX23_chooses_235 : decode cX23_chooses 235 = .ok (.goto (-34), 3) := dk_167 255 222 (dk_at dksX23_chooses_10 3 rfl rfl)
theorem dX23_chooses_238 : decode cX23_chooses 238 = .ok (.return_, 1) := dk_177 (dk_at dksX23_chooses_10 6 rfl rfl)
abbrev cX23_isNext : ByteArray := prog_26_method_4_code
def yX23_isNext : MethodName := ⟨RX23, "isNext", "(II)Z"⟩
def dkwX23_isNext_3 : List UInt8 := [167, 0, 4, 3, 172]
abbrev dktX23_isNext_3 : List UInt8 := dkwX23_isNext_3 ++ []
def dkwX23_isNext_2 : List UInt8 := [182, 0, 47, 192, 0, 108, 42, 180, 0, 22, 28, 182, 0, 47, 192, 0, 108, 182, 0, 126, 153, 0, 7, 4]
abbrev dktX23_isNext_2 : List UInt8 := dkwX23_isNext_2 ++ dktX23_isNext_3
def dkwX23_isNext_1 : List UInt8 := [182, 0, 122, 153, 0, 48, 27, 2, 159, 0, 39, 42, 180, 0, 3, 42, 180, 0, 28, 42, 180, 0, 22, 27]
abbrev dktX23_isNext_1 : List UInt8 := dkwX23_isNext_1 ++ dktX23_isNext_2
def dkwX23_isNext_0 : List UInt8 := [42, 180, 0, 22, 28, 182, 0, 47, 192, 0, 108, 42, 180, 0, 3, 180, 0, 67, 42, 180, 0, 28]
abbrev dktX23_isNext_0 : List UInt8 := dkwX23_isNext_0 ++ dktX23_isNext_1
theorem dksX23_isNext_0 : cX23_isNext.data.toList.drop 0 = dktX23_isNext_0 := by decide +kernel
theorem dksX23_isNext_1 : cX23_isNext.data.toList.drop 22 = dktX23_isNext_1 := dk_seg dksX23_isNext_0 22 rfl rfl
theorem dksX23_isNext_2 : cX23_isNext.data.toList.drop 46 = dktX23_isNext_2 := dk_seg dksX23_isNext_1 24 rfl rfl
theorem dksX23_isNext_3 : cX23_isNext.data.toList.drop 70 = dktX23_isNext_3 := dk_seg dksX23_isNext_2 24 rfl rfl
theorem dX23_isNext_0 : decode cX23_isNext 0 = .ok (.aload_n 0, 1) := dk_42 (dk_at dksX23_isNext_0 0 rfl rfl)
theorem dX23_isNext_1 : decode cX23_isNext 1 = .ok (.getfield 22, 3) := dk_180 0 22 (dk_at dksX23_isNext_0 1 rfl rfl)
theorem dX23_isNext_4 : decode cX23_isNext 4 = .ok (.iload_n 2, 1) := dk_28 (dk_at dksX23_isNext_0 4 rfl rfl)
theorem dX23_isNext_5 : decode cX23_isNext 5 = .ok (.invokevirtual 47, 3) := dk_182 0 47 (dk_at dksX23_isNext_0 5 rfl rfl)
theorem dX23_isNext_8 : decode cX23_isNext 8 = .ok (.checkcast 108, 3) := dk_192 0 108 (dk_at dksX23_isNext_0 8 rfl rfl)
theorem dX23_isNext_11 : decode cX23_isNext 11 = .ok (.aload_n 0, 1) := dk_42 (dk_at dksX23_isNext_0 11 rfl rfl)
theorem dX23_isNext_12 : decode cX23_isNext 12 = .ok (.getfield 3, 3) := dk_180 0 3 (dk_at dksX23_isNext_0 12 rfl rfl)
theorem dX23_isNext_15 : decode cX23_isNext 15 = .ok (.getfield 67, 3) := dk_180 0 67 (dk_at dksX23_isNext_0 15 rfl rfl)
theorem dX23_isNext_18 : decode cX23_isNext 18 = .ok (.aload_n 0, 1) := dk_42 (dk_at dksX23_isNext_0 18 rfl rfl)
theorem dX23_isNext_19 : decode cX23_isNext 19 = .ok (.getfield 28, 3) := dk_180 0 28 (dk_at dksX23_isNext_0 19 rfl rfl)
theorem dX23_isNext_22 : decode cX23_isNext 22 = .ok (.invokevirtual 122, 3) := dk_182 0 122 (dk_at dksX23_isNext_1 0 rfl rfl)
theorem dX23_isNext_25 : decode cX23_isNext 25 = .ok (.ifCond .eq 48, 3) := dk_153 0 48 (dk_at dksX23_isNext_1 3 rfl rfl)
theorem dX23_isNext_28 : decode cX23_isNext 28 = .ok (.iload_n 1, 1) := dk_27 (dk_at dksX23_isNext_1 6 rfl rfl)
theorem dX23_isNext_29 : decode cX23_isNext 29 = .ok (.iconst (-1), 1) := dk_2 (dk_at dksX23_isNext_1 7 rfl rfl)
theorem dX23_isNext_30 : decode cX23_isNext 30 = .ok (.if_icmp .eq 39, 3) := dk_159 0 39 (dk_at dksX23_isNext_1 8 rfl rfl)
theorem dX23_isNext_33 : decode cX23_isNext 33 = .ok (.aload_n 0, 1) := dk_42 (dk_at dksX23_isNext_1 11 rfl rfl)
theorem dX23_isNext_34 : decode cX23_isNext 34 = .ok (.getfield 3, 3) := dk_180 0 3 (dk_at dksX23_isNext_1 12 rfl rfl)
theorem dX23_isNext_37 : decode cX23_isNext 37 = .ok (.aload_n 0, 1) := dk_42 (dk_at dksX23_isNext_1 15 rfl rfl)
theorem dX23_isNext_38 : decode cX23_isNext 38 = .ok (.getfield 28, 3) := dk_180 0 28 (dk_at dksX23_isNext_1 16 rfl rfl)
theorem dX23_isNext_41 : decode cX23_isNext 41 = .ok (.aload_n 0, 1) := dk_42 (dk_at dksX23_isNext_1 19 rfl rfl)
theorem dX23_isNext_42 : decode cX23_isNext 42 = .ok (.getfield 22, 3) := dk_180 0 22 (dk_at dksX23_isNext_1 20 rfl rfl)
theorem dX23_isNext_45 : decode cX23_isNext 45 = .ok (.iload_n 1, 1) := dk_27 (dk_at dksX23_isNext_1 23 rfl rfl)
theorem dX23_isNext_46 : decode cX23_isNext 46 = .ok (.invokevirtual 47, 3) := dk_182 0 47 (dk_at dksX23_isNext_2 0 rfl rfl)
theorem dX23_isNext_49 : decode cX23_isNext 49 = .ok (.checkcast 108, 3) := dk_192 0 108 (dk_at dksX23_isNext_2 3 rfl rfl)
theorem dX23_isNext_52 : decode cX23_isNext 52 = .ok (.aload_n 0, 1) := dk_42 (dk_at dksX23_isNext_2 6 rfl rfl)
theorem dX23_isNext_53 : decode cX23_isNext 53 = .ok (.getfield 22, 3) := dk_180 0 22 (dk_at dksX23_isNext_2 7 rfl rfl)
theorem dX23_isNext_56 : decode cX23_isNext 56 = .ok (.iload_n 2, 1) := dk_28 (dk_at dksX23_isNext_2 10 rfl rfl)
theorem dX23_isNext_57 : decode cX23_isNext 57 = .ok (.invokevirtual 47, 3) := dk_182 0 47 (dk_at dksX23_isNext_2 11 rfl rfl)
theorem dX23_isNext_60 : decode cX23_isNext 60 = .ok (.checkcast 108, 3) := dk_192 0 108 (dk_at dksX23_isNext_2 14 rfl rfl)
theorem dX23_isNext_63 : decode cX23_isNext 63 = .ok (.invokevirtual 126, 3) := dk_182 0 126 (dk_at dksX23_isNext_2 17 rfl rfl)
theorem dX23_isNext_66 : decode cX23_isNext 66 = .ok (.ifCond .eq 7, 3) := dk_153 0 7 (dk_at dksX23_isNext_2 20 rfl rfl)
theorem dX23_isNext_69 : decode cX23_isNext 69 = .ok (.iconst 1, 1) := dk_4 (dk_at dksX23_isNext_2 23 rfl rfl)
theorem dX23_isNext_70 : decode cX23_isNext 70 = .ok (.goto 4, 3) := dk_167 0 4 (dk_at dksX23_isNext_3 0 rfl rfl)
theorem dX23_isNext_73 : decode cX23_isNext 73 = .ok (.iconst 0, 1) := dk_3 (dk_at dksX23_isNext_3 3 rfl rfl)
theorem dX23_isNext_74 : decode cX23_isNext 74 = .ok (.ireturn, 1) := dk_172 (dk_at dksX23_isNext_3 4 rfl rfl)
abbrev cX23_lies : ByteArray := prog_26_method_7_code
def yX23_lies : MethodName := ⟨RX23, "lies", "()I"⟩
def dkwX23_lies_0 : List UInt8 := [42, 180, 0, 51, 182, 0, 74, 42, 180, 0, 138, 100, 172]
abbrev dktX23_lies_0 : List UInt8 := dkwX23_lies_0 ++ []
theorem dksX23_lies_0 : cX23_lies.data.toList.drop 0 = dktX23_lies_0 := by decide +kernel
theorem dX23_lies_0 : decode cX23_lies 0 = .ok (.aload_n 0, 1) := dk_42 (dk_at dksX23_lies_0 0 rfl rfl)
theorem dX23_lies_1 : decode cX23_lies 1 = .ok (.getfield 51, 3) := dk_180 0 51 (dk_at dksX23_lies_0 1 rfl rfl)
theorem dX23_lies_4 : decode cX23_lies 4 = .ok (.invokevirtual 74, 3) := dk_182 0 74 (dk_at dksX23_lies_0 4 rfl rfl)
theorem dX23_lies_7 : decode cX23_lies 7 = .ok (.aload_n 0, 1) := dk_42 (dk_at dksX23_lies_0 7 rfl rfl)
theorem dX23_lies_8 : decode cX23_lies 8 = .ok (.getfield 138, 3) := dk_180 0 138 (dk_at dksX23_lies_0 8 rfl rfl)
theorem dX23_lies_11 : decode cX23_lies 11 = .ok (.isub, 1) := dk_100 (dk_at dksX23_lies_0 11 rfl rfl)
theorem dX23_lies_12 : decode cX23_lies 12 = .ok (.ireturn, 1) := dk_172 (dk_at dksX23_lies_0 12 rfl rfl)
abbrev cX23_isKept : ByteArray := prog_26_method_6_code
def yX23_isKept : MethodName := ⟨RX23, "isKept", "(LToldTracks$Saying;)Z"⟩
def dkwX23_isKept_1 : List UInt8 := [166, 0, 5, 4, 172, 132, 2, 1, 167, 255, 228, 3, 172]
abbrev dktX23_isKept_1 : List UInt8 := dkwX23_isKept_1 ++ []
def dkwX23_isKept_0 : List UInt8 := [3, 61, 28, 42, 180, 0, 25, 182, 0, 74, 162, 0, 23, 42, 180, 0, 25, 28, 182, 0, 47, 43]
abbrev dktX23_isKept_0 : List UInt8 := dkwX23_isKept_0 ++ dktX23_isKept_1
theorem dksX23_isKept_0 : cX23_isKept.data.toList.drop 0 = dktX23_isKept_0 := by decide +kernel
theorem dksX23_isKept_1 : cX23_isKept.data.toList.drop 22 = dktX23_isKept_1 := dk_seg dksX23_isKept_0 22 rfl rfl
theorem dX23_isKept_0 : decode cX23_isKept 0 = .ok (.iconst 0, 1) := dk_3 (dk_at dksX23_isKept_0 0 rfl rfl)
theorem dX23_isKept_1 : decode cX23_isKept 1 = .ok (.istore_n 2, 1) := dk_61 (dk_at dksX23_isKept_0 1 rfl rfl)
theorem dX23_isKept_2 : decode cX23_isKept 2 = .ok (.iload_n 2, 1) := dk_28 (dk_at dksX23_isKept_0 2 rfl rfl)
theorem dX23_isKept_3 : decode cX23_isKept 3 = .ok (.aload_n 0, 1) := dk_42 (dk_at dksX23_isKept_0 3 rfl rfl)
theorem dX23_isKept_4 : decode cX23_isKept 4 = .ok (.getfield 25, 3) := dk_180 0 25 (dk_at dksX23_isKept_0 4 rfl rfl)
theorem dX23_isKept_7 : decode cX23_isKept 7 = .ok (.invokevirtual 74, 3) := dk_182 0 74 (dk_at dksX23_isKept_0 7 rfl rfl)
theorem dX23_isKept_10 : decode cX23_isKept 10 = .ok (.if_icmp .ge 23, 3) := dk_162 0 23 (dk_at dksX23_isKept_0 10 rfl rfl)
theorem dX23_isKept_13 : decode cX23_isKept 13 = .ok (.aload_n 0, 1) := dk_42 (dk_at dksX23_isKept_0 13 rfl rfl)
theorem dX23_isKept_14 : decode cX23_isKept 14 = .ok (.getfield 25, 3) := dk_180 0 25 (dk_at dksX23_isKept_0 14 rfl rfl)
theorem dX23_isKept_17 : decode cX23_isKept 17 = .ok (.iload_n 2, 1) := dk_28 (dk_at dksX23_isKept_0 17 rfl rfl)
theorem dX23_isKept_18 : decode cX23_isKept 18 = .ok (.invokevirtual 47, 3) := dk_182 0 47 (dk_at dksX23_isKept_0 18 rfl rfl)
theorem dX23_isKept_21 : decode cX23_isKept 21 = .ok (.aload_n 1, 1) := dk_43 (dk_at dksX23_isKept_0 21 rfl rfl)
theorem dX23_isKept_22 : decode cX23_isKept 22 = .ok (.if_acmp .ne 5, 3) := dk_166 0 5 (dk_at dksX23_isKept_1 0 rfl rfl)
theorem dX23_isKept_25 : decode cX23_isKept 25 = .ok (.iconst 1, 1) := dk_4 (dk_at dksX23_isKept_1 3 rfl rfl)
theorem dX23_isKept_26 : decode cX23_isKept 26 = .ok (.ireturn, 1) := dk_172 (dk_at dksX23_isKept_1 4 rfl rfl)
theorem dX23_isKept_27 : decode cX23_isKept 27 = .ok (.iinc 2 1, 3) := dk_132 2 1 (dk_at dksX23_isKept_1 5 rfl rfl)
theorem dX23_isKept_30 : decode cX23_isKept 30 = .ok (.goto (-28), 3) := dk_167 255 228 (dk_at dksX23_isKept_1 8 rfl rfl)
theorem dX23_isKept_33 : decode cX23_isKept 33 = .ok (.iconst 0, 1) := dk_3 (dk_at dksX23_isKept_1 11 rfl rfl)
theorem dX23_isKept_34 : decode cX23_isKept 34 = .ok (.ireturn, 1) := dk_172 (dk_at dksX23_isKept_1 12 rfl rfl)
abbrev cX23_may : ByteArray := prog_26_method_9_code
def yX23_may : MethodName := ⟨RX23, "may", "(II)Z"⟩
def dkwX23_may_4 : List UInt8 := [167, 0, 4, 3, 172]
abbrev dktX23_may_4 : List UInt8 := dkwX23_may_4 ++ []
def dkwX23_may_3 : List UInt8 := [29, 4, 100, 27, 28, 182, 0, 154, 153, 0, 17, 42, 29, 27, 28, 182, 0, 154, 153, 0, 7, 4]
abbrev dktX23_may_3 : List UInt8 := dkwX23_may_3 ++ dktX23_may_4
def dkwX23_may_2 : List UInt8 := [180, 0, 25, 29, 182, 0, 47, 192, 0, 108, 180, 0, 151, 28, 162, 0, 9, 132, 3, 1, 167, 255, 224, 42]
abbrev dktX23_may_2 : List UInt8 := dkwX23_may_2 ++ dktX23_may_3
def dkwX23_may_1 : List UInt8 := [180, 0, 148, 162, 0, 5, 3, 172, 3, 62, 29, 42, 180, 0, 25, 182, 0, 74, 162, 0, 27, 42]
abbrev dktX23_may_1 : List UInt8 := dkwX23_may_1 ++ dktX23_may_2
def dkwX23_may_0 : List UInt8 := [42, 180, 0, 60, 153, 0, 25, 42, 180, 0, 3, 180, 0, 67, 180, 0, 144, 27, 46, 42, 180, 0, 28]
abbrev dktX23_may_0 : List UInt8 := dkwX23_may_0 ++ dktX23_may_1
theorem dksX23_may_0 : cX23_may.data.toList.drop 0 = dktX23_may_0 := by decide +kernel
theorem dksX23_may_1 : cX23_may.data.toList.drop 23 = dktX23_may_1 := dk_seg dksX23_may_0 23 rfl rfl
theorem dksX23_may_2 : cX23_may.data.toList.drop 45 = dktX23_may_2 := dk_seg dksX23_may_1 22 rfl rfl
theorem dksX23_may_3 : cX23_may.data.toList.drop 69 = dktX23_may_3 := dk_seg dksX23_may_2 24 rfl rfl
theorem dksX23_may_4 : cX23_may.data.toList.drop 91 = dktX23_may_4 := dk_seg dksX23_may_3 22 rfl rfl
theorem dX23_may_0 : decode cX23_may 0 = .ok (.aload_n 0, 1) := dk_42 (dk_at dksX23_may_0 0 rfl rfl)
theorem dX23_may_1 : decode cX23_may 1 = .ok (.getfield 60, 3) := dk_180 0 60 (dk_at dksX23_may_0 1 rfl rfl)
theorem dX23_may_4 : decode cX23_may 4 = .ok (.ifCond .eq 25, 3) := dk_153 0 25 (dk_at dksX23_may_0 4 rfl rfl)
theorem dX23_may_7 : decode cX23_may 7 = .ok (.aload_n 0, 1) := dk_42 (dk_at dksX23_may_0 7 rfl rfl)
theorem dX23_may_8 : decode cX23_may 8 = .ok (.getfield 3, 3) := dk_180 0 3 (dk_at dksX23_may_0 8 rfl rfl)
theorem dX23_may_11 : decode cX23_may 11 = .ok (.getfield 67, 3) := dk_180 0 67 (dk_at dksX23_may_0 11 rfl rfl)
theorem dX23_may_14 : decode cX23_may 14 = .ok (.getfield 144, 3) := dk_180 0 144 (dk_at dksX23_may_0 14 rfl rfl)
theorem dX23_may_17 : decode cX23_may 17 = .ok (.iload_n 1, 1) := dk_27 (dk_at dksX23_may_0 17 rfl rfl)
theorem dX23_may_18 : decode cX23_may 18 = .ok (.iaload, 1) := dk_46 (dk_at dksX23_may_0 18 rfl rfl)
theorem dX23_may_19 : decode cX23_may 19 = .ok (.aload_n 0, 1) := dk_42 (dk_at dksX23_may_0 19 rfl rfl)
theorem dX23_may_20 : decode cX23_may 20 = .ok (.getfield 28, 3) := dk_180 0 28 (dk_at dksX23_may_0 20 rfl rfl)
theorem dX23_may_23 : decode cX23_may 23 = .ok (.getfield 148, 3) := dk_180 0 148 (dk_at dksX23_may_1 0 rfl rfl)
theorem dX23_may_26 : decode cX23_may 26 = .ok (.if_icmp .ge 5, 3) := dk_162 0 5 (dk_at dksX23_may_1 3 rfl rfl)
theorem dX23_may_29 : decode cX23_may 29 = .ok (.iconst 0, 1) := dk_3 (dk_at dksX23_may_1 6 rfl rfl)
theorem dX23_may_30 : decode cX23_may 30 = .ok (.ireturn, 1) := dk_172 (dk_at dksX23_may_1 7 rfl rfl)
theorem dX23_may_31 : decode cX23_may 31 = .ok (.iconst 0, 1) := dk_3 (dk_at dksX23_may_1 8 rfl rfl)
theorem dX23_may_32 : decode cX23_may 32 = .ok (.istore_n 3, 1) := dk_62 (dk_at dksX23_may_1 9 rfl rfl)
theorem dX23_may_33 : decode cX23_may 33 = .ok (.iload_n 3, 1) := dk_29 (dk_at dksX23_may_1 10 rfl rfl)
theorem dX23_may_34 : decode cX23_may 34 = .ok (.aload_n 0, 1) := dk_42 (dk_at dksX23_may_1 11 rfl rfl)
theorem dX23_may_35 : decode cX23_may 35 = .ok (.getfield 25, 3) := dk_180 0 25 (dk_at dksX23_may_1 12 rfl rfl)
theorem dX23_may_38 : decode cX23_may 38 = .ok (.invokevirtual 74, 3) := dk_182 0 74 (dk_at dksX23_may_1 15 rfl rfl)
theorem dX23_may_41 : decode cX23_may 41 = .ok (.if_icmp .ge 27, 3) := dk_162 0 27 (dk_at dksX23_may_1 18 rfl rfl)
theorem dX23_may_44 : decode cX23_may 44 = .ok (.aload_n 0, 1) := dk_42 (dk_at dksX23_may_1 21 rfl rfl)
theorem dX23_may_45 : decode cX23_may 45 = .ok (.getfield 25, 3) := dk_180 0 25 (dk_at dksX23_may_2 0 rfl rfl)
theorem dX23_may_48 : decode cX23_may 48 = .ok (.iload_n 3, 1) := dk_29 (dk_at dksX23_may_2 3 rfl rfl)
theorem dX23_may_49 : decode cX23_may 49 = .ok (.invokevirtual 47, 3) := dk_182 0 47 (dk_at dksX23_may_2 4 rfl rfl)
theorem dX23_may_52 : decode cX23_may 52 = .ok (.checkcast 108, 3) := dk_192 0 108 (dk_at dksX23_may_2 7 rfl rfl)
theorem dX23_may_55 : decode cX23_may 55 = .ok (.getfield 151, 3) := dk_180 0 151 (dk_at dksX23_may_2 10 rfl rfl)
theorem dX23_may_58 : decode cX23_may 58 = .ok (.iload_n 2, 1) := dk_28 (dk_at dksX23_may_2 13 rfl rfl)
theorem dX23_may_59 : decode cX23_may 59 = .ok (.if_icmp .ge 9, 3) := dk_162 0 9 (dk_at dksX23_may_2 14 rfl rfl)
theorem dX23_may_62 : decode cX23_may 62 = .ok (.iinc 3 1, 3) := dk_132 3 1 (dk_at dksX23_may_2 17 rfl rfl)
theorem dX23_may_65 : decode cX23_may 65 = .ok (.goto (-32), 3) := dk_167 255 224 (dk_at dksX23_may_2 20 rfl rfl)
theorem dX23_may_68 : decode cX23_may 68 = .ok (.aload_n 0, 1) := dk_42 (dk_at dksX23_may_2 23 rfl rfl)
theorem dX23_may_69 : decode cX23_may 69 = .ok (.iload_n 3, 1) := dk_29 (dk_at dksX23_may_3 0 rfl rfl)
theorem dX23_may_70 : decode cX23_may 70 = .ok (.iconst 1, 1) := dk_4 (dk_at dksX23_may_3 1 rfl rfl)
theorem dX23_may_71 : decode cX23_may 71 = .ok (.isub, 1) := dk_100 (dk_at dksX23_may_3 2 rfl rfl)
theorem dX23_may_72 : decode cX23_may 72 = .ok (.iload_n 1, 1) := dk_27 (dk_at dksX23_may_3 3 rfl rfl)
theorem dX23_may_73 : decode cX23_may 73 = .ok (.iload_n 2, 1) := dk_28 (dk_at dksX23_may_3 4 rfl rfl)
theorem dX23_may_74 : decode cX23_may 74 = .ok (.invokevirtual 154, 3) := dk_182 0 154 (dk_at dksX23_may_3 5 rfl rfl)
theorem dX23_may_77 : decode cX23_may 77 = .ok (.ifCond .eq 17, 3) := dk_153 0 17 (dk_at dksX23_may_3 8 rfl rfl)
theorem dX23_may_80 : decode cX23_may 80 = .ok (.aload_n 0, 1) := dk_42 (dk_at dksX23_may_3 11 rfl rfl)
theorem dX23_may_81 : decode cX23_may 81 = .ok (.iload_n 3, 1) := dk_29 (dk_at dksX23_may_3 12 rfl rfl)
theorem dX23_may_82 : decode cX23_may 82 = .ok (.iload_n 1, 1) := dk_27 (dk_at dksX23_may_3 13 rfl rfl)
theorem dX23_may_83 : decode cX23_may 83 = .ok (.iload_n 2, 1) := dk_28 (dk_at dksX23_may_3 14 rfl rfl)
theorem dX23_may_84 : decode cX23_may 84 = .ok (.invokevirtual 154, 3) := dk_182 0 154 (dk_at dksX23_may_3 15 rfl rfl)
theorem dX23_may_87 : decode cX23_may 87 = .ok (.ifCond .eq 7, 3) := dk_153 0 7 (dk_at dksX23_may_3 18 rfl rfl)
theorem dX23_may_90 : decode cX23_may 90 = .ok (.iconst 1, 1) := dk_4 (dk_at dksX23_may_3 21 rfl rfl)
theorem dX23_may_91 : decode cX23_may 91 = .ok (.goto 4, 3) := dk_167 0 4 (dk_at dksX23_may_4 0 rfl rfl)
theorem dX23_may_94 : decode cX23_may 94 = .ok (.iconst 0, 1) := dk_3 (dk_at dksX23_may_4 3 rfl rfl)
theorem dX23_may_95 : decode cX23_may 95 = .ok (.ireturn, 1) := dk_172 (dk_at dksX23_may_4 4 rfl rfl)
abbrev cX23_isBy : ByteArray := prog_26_method_10_code
def yX23_isBy : MethodName := ⟨RX23, "isBy", "(III)Z"⟩
def dkwX23_isBy_4 : List UInt8 := [163, 0, 7, 4, 167, 0, 4, 3, 172]
abbrev dktX23_isBy_4 : List UInt8 := dkwX23_isBy_4 ++ []
def dkwX23_isBy_3 : List UInt8 := [182, 0, 159, 54, 5, 21, 5, 2, 159, 0, 22, 21, 5, 25, 4, 180, 0, 151, 29, 100, 184, 0, 163]
abbrev dktX23_isBy_3 : List UInt8 := dkwX23_isBy_3 ++ dktX23_isBy_4
def dkwX23_isBy_2 : List UInt8 := [160, 0, 7, 4, 167, 0, 4, 3, 172, 42, 180, 0, 3, 42, 180, 0, 28, 25, 4, 180, 0, 158, 28]
abbrev dktX23_isBy_2 : List UInt8 := dkwX23_isBy_2 ++ dktX23_isBy_3
def dkwX23_isBy_1 : List UInt8 := [182, 0, 47, 192, 0, 108, 58, 4, 25, 4, 180, 0, 151, 29, 160, 0, 18, 25, 4, 180, 0, 158, 28]
abbrev dktX23_isBy_1 : List UInt8 := dkwX23_isBy_1 ++ dktX23_isBy_2
def dkwX23_isBy_0 : List UInt8 := [27, 155, 0, 14, 27, 42, 180, 0, 25, 182, 0, 74, 161, 0, 5, 4, 172, 42, 180, 0, 25, 27]
abbrev dktX23_isBy_0 : List UInt8 := dkwX23_isBy_0 ++ dktX23_isBy_1
theorem dksX23_isBy_0 : cX23_isBy.data.toList.drop 0 = dktX23_isBy_0 := by decide +kernel
theorem dksX23_isBy_1 : cX23_isBy.data.toList.drop 22 = dktX23_isBy_1 := dk_seg dksX23_isBy_0 22 rfl rfl
theorem dksX23_isBy_2 : cX23_isBy.data.toList.drop 45 = dktX23_isBy_2 := dk_seg dksX23_isBy_1 23 rfl rfl
theorem dksX23_isBy_3 : cX23_isBy.data.toList.drop 68 = dktX23_isBy_3 := dk_seg dksX23_isBy_2 23 rfl rfl
theorem dksX23_isBy_4 : cX23_isBy.data.toList.drop 91 = dktX23_isBy_4 := dk_seg dksX23_isBy_3 23 rfl rfl
theorem dX23_isBy_0 : decode cX23_isBy 0 = .ok (.iload_n 1, 1) := dk_27 (dk_at dksX23_isBy_0 0 rfl rfl)
theorem dX23_isBy_1 : decode cX23_isBy 1 = .ok (.ifCond .lt 14, 3) := dk_155 0 14 (dk_at dksX23_isBy_0 1 rfl rfl)
theorem dX23_isBy_4 : decode cX23_isBy 4 = .ok (.iload_n 1, 1) := dk_27 (dk_at dksX23_isBy_0 4 rfl rfl)
theorem dX23_isBy_5 : decode cX23_isBy 5 = .ok (.aload_n 0, 1) := dk_42 (dk_at dksX23_isBy_0 5 rfl rfl)
theorem dX23_isBy_6 : decode cX23_isBy 6 = .ok (.getfield 25, 3) := dk_180 0 25 (dk_at dksX23_isBy_0 6 rfl rfl)
theorem dX23_isBy_9 : decode cX23_isBy 9 = .ok (.invokevirtual 74, 3) := dk_182 0 74 (dk_at dksX23_isBy_0 9 rfl rfl)
theorem dX23_isBy_12 : decode cX23_isBy 12 = .ok (.if_icmp .lt 5, 3) := dk_161 0 5 (dk_at dksX23_isBy_0 12 rfl rfl)
theorem dX23_isBy_15 : decode cX23_isBy 15 = .ok (.iconst 1, 1) := dk_4 (dk_at dksX23_isBy_0 15 rfl rfl)
theorem dX23_isBy_16 : decode cX23_isBy 16 = .ok (.ireturn, 1) := dk_172 (dk_at dksX23_isBy_0 16 rfl rfl)
theorem dX23_isBy_17 : decode cX23_isBy 17 = .ok (.aload_n 0, 1) := dk_42 (dk_at dksX23_isBy_0 17 rfl rfl)
theorem dX23_isBy_18 : decode cX23_isBy 18 = .ok (.getfield 25, 3) := dk_180 0 25 (dk_at dksX23_isBy_0 18 rfl rfl)
theorem dX23_isBy_21 : decode cX23_isBy 21 = .ok (.iload_n 1, 1) := dk_27 (dk_at dksX23_isBy_0 21 rfl rfl)
theorem dX23_isBy_22 : decode cX23_isBy 22 = .ok (.invokevirtual 47, 3) := dk_182 0 47 (dk_at dksX23_isBy_1 0 rfl rfl)
theorem dX23_isBy_25 : decode cX23_isBy 25 = .ok (.checkcast 108, 3) := dk_192 0 108 (dk_at dksX23_isBy_1 3 rfl rfl)
theorem dX23_isBy_28 : decode cX23_isBy 28 = .ok (.astore 4, 2) := dk_58 4 (dk_at dksX23_isBy_1 6 rfl rfl)
theorem dX23_isBy_30 : decode cX23_isBy 30 = .ok (.aload 4, 2) := dk_25 4 (dk_at dksX23_isBy_1 8 rfl rfl)
theorem dX23_isBy_32 : decode cX23_isBy 32 = .ok (.getfield 151, 3) := dk_180 0 151 (dk_at dksX23_isBy_1 10 rfl rfl)
theorem dX23_isBy_35 : decode cX23_isBy 35 = .ok (.iload_n 3, 1) := dk_29 (dk_at dksX23_isBy_1 13 rfl rfl)
theorem dX23_isBy_36 : decode cX23_isBy 36 = .ok (.if_icmp .ne 18, 3) := dk_160 0 18 (dk_at dksX23_isBy_1 14 rfl rfl)
theorem dX23_isBy_39 : decode cX23_isBy 39 = .ok (.aload 4, 2) := dk_25 4 (dk_at dksX23_isBy_1 17 rfl rfl)
theorem dX23_isBy_41 : decode cX23_isBy 41 = .ok (.getfield 158, 3) := dk_180 0 158 (dk_at dksX23_isBy_1 19 rfl rfl)
theorem dX23_isBy_44 : decode cX23_isBy 44 = .ok (.iload_n 2, 1) := dk_28 (dk_at dksX23_isBy_1 22 rfl rfl)
theorem dX23_isBy_45 : decode cX23_isBy 45 = .ok (.if_icmp .ne 7, 3) := dk_160 0 7 (dk_at dksX23_isBy_2 0 rfl rfl)
theorem dX23_isBy_48 : decode cX23_isBy 48 = .ok (.iconst 1, 1) := dk_4 (dk_at dksX23_isBy_2 3 rfl rfl)
theorem dX23_isBy_49 : decode cX23_isBy 49 = .ok (.goto 4, 3) := dk_167 0 4 (dk_at dksX23_isBy_2 4 rfl rfl)
theorem dX23_isBy_52 : decode cX23_isBy 52 = .ok (.iconst 0, 1) := dk_3 (dk_at dksX23_isBy_2 7 rfl rfl)
theorem dX23_isBy_53 : decode cX23_isBy 53 = .ok (.ireturn, 1) := dk_172 (dk_at dksX23_isBy_2 8 rfl rfl)
theorem dX23_isBy_54 : decode cX23_isBy 54 = .ok (.aload_n 0, 1) := dk_42 (dk_at dksX23_isBy_2 9 rfl rfl)
theorem dX23_isBy_55 : decode cX23_isBy 55 = .ok (.getfield 3, 3) := dk_180 0 3 (dk_at dksX23_isBy_2 10 rfl rfl)
theorem dX23_isBy_58 : decode cX23_isBy 58 = .ok (.aload_n 0, 1) := dk_42 (dk_at dksX23_isBy_2 13 rfl rfl)
theorem dX23_isBy_59 : decode cX23_isBy 59 = .ok (.getfield 28, 3) := dk_180 0 28 (dk_at dksX23_isBy_2 14 rfl rfl)
theorem dX23_isBy_62 : decode cX23_isBy 62 = .ok (.aload 4, 2) := dk_25 4 (dk_at dksX23_isBy_2 17 rfl rfl)
theorem dX23_isBy_64 : decode cX23_isBy 64 = .ok (.getfield 158, 3) := dk_180 0 158 (dk_at dksX23_isBy_2 19 rfl rfl)
theorem dX23_isBy_67 : decode cX23_isBy 67 = .ok (.iload_n 2, 1) := dk_28 (dk_at dksX23_isBy_2 22 rfl rfl)
theorem dX23_isBy_68 : decode cX23_isBy 68 = .ok (.invokevirtual 159, 3) := dk_182 0 159 (dk_at dksX23_isBy_3 0 rfl rfl)
theorem dX23_isBy_71 : decode cX23_isBy 71 = .ok (.istore 5, 2) := dk_54 5 (dk_at dksX23_isBy_3 3 rfl rfl)
theorem dX23_isBy_73 : decode cX23_isBy 73 = .ok (.iload 5, 2) := dk_21 5 (dk_at dksX23_isBy_3 5 rfl rfl)
theorem dX23_isBy_75 : decode cX23_isBy 75 = .ok (.iconst (-1), 1) := dk_2 (dk_at dksX23_isBy_3 7 rfl rfl)
theorem dX23_isBy_76 : decode cX23_isBy 76 = .ok (.if_icmp .eq 22, 3) := dk_159 0 22 (dk_at dksX23_isBy_3 8 rfl rfl)
theorem dX23_isBy_79 : decode cX23_isBy 79 = .ok (.iload 5, 2) := dk_21 5 (dk_at dksX23_isBy_3 11 rfl rfl)
theorem dX23_isBy_81 : decode cX23_isBy 81 = .ok (.aload 4, 2) := dk_25 4 (dk_at dksX23_isBy_3 13 rfl rfl)
theorem dX23_isBy_83 : decode cX23_isBy 83 = .ok (.getfield 151, 3) := dk_180 0 151 (dk_at dksX23_isBy_3 15 rfl rfl)
theorem dX23_isBy_86 : decode cX23_isBy 86 = .ok (.iload_n 3, 1) := dk_29 (dk_at dksX23_isBy_3 18 rfl rfl)
theorem dX23_isBy_87 : decode cX23_isBy 87 = .ok (.isub, 1) := dk_100 (dk_at dksX23_isBy_3 19 rfl rfl)
theorem dX23_isBy_88 : decode cX23_isBy 88 = .ok (.invokestatic 163, 3) := dk_184 0 163 (dk_at dksX23_isBy_3 20 rfl rfl)
theorem dX23_isBy_91 : decode cX23_isBy 91 = .ok (.if_icmp .gt 7, 3) := dk_163 0 7 (dk_at dksX23_isBy_4 0 rfl rfl)
theorem dX23_isBy_94 : decode cX23_isBy 94 = .ok (.iconst 1, 1) := dk_4 (dk_at dksX23_isBy_4 3 rfl rfl)
theorem dX23_isBy_95 : decode cX23_isBy 95 = .ok (.goto 4, 3) := dk_167 0 4 (dk_at dksX23_isBy_4 4 rfl rfl)
theorem dX23_isBy_98 : decode cX23_isBy 98 = .ok (.iconst 0, 1) := dk_3 (dk_at dksX23_isBy_4 7 rfl rfl)
theorem dX23_isBy_99 : decode cX23_isBy 99 = .ok (.ireturn, 1) := dk_172 (dk_at dksX23_isBy_4 8 rfl rfl)
abbrev cX23_fitsAll : ByteArray := prog_26_method_8_code
def yX23_fitsAll : MethodName := ⟨RX23, "fitsAll", "()Z"⟩
def dkwX23_fitsAll_0 : List UInt8 := [42, 180, 0, 60, 153, 0, 14, 42, 182, 0, 141, 154, 0, 7, 4, 167, 0, 4, 3, 172]
abbrev dktX23_fitsAll_0 : List UInt8 := dkwX23_fitsAll_0 ++ []
theorem dksX23_fitsAll_0 : cX23_fitsAll.data.toList.drop 0 = dktX23_fitsAll_0 := by decide +kernel
theorem dX23_fitsAll_0 : decode cX23_fitsAll 0 = .ok (.aload_n 0, 1) := dk_42 (dk_at dksX23_fitsAll_0 0 rfl rfl)
theorem dX23_fitsAll_1 : decode cX23_fitsAll 1 = .ok (.getfield 60, 3) := dk_180 0 60 (dk_at dksX23_fitsAll_0 1 rfl rfl)
theorem dX23_fitsAll_4 : decode cX23_fitsAll 4 = .ok (.ifCond .eq 14, 3) := dk_153 0 14 (dk_at dksX23_fitsAll_0 4 rfl rfl)
theorem dX23_fitsAll_7 : decode cX23_fitsAll 7 = .ok (.aload_n 0, 1) := dk_42 (dk_at dksX23_fitsAll_0 7 rfl rfl)
theorem dX23_fitsAll_8 : decode cX23_fitsAll 8 = .ok (.invokevirtual 141, 3) := dk_182 0 141 (dk_at dksX23_fitsAll_0 8 rfl rfl)
theorem dX23_fitsAll_11 : decode cX23_fitsAll 11 = .ok (.ifCond .ne 7, 3) := dk_154 0 7 (dk_at dksX23_fitsAll_0 11 rfl rfl)
theorem dX23_fitsAll_14 : decode cX23_fitsAll 14 = .ok (.iconst 1, 1) := dk_4 (dk_at dksX23_fitsAll_0 14 rfl rfl)
theorem dX23_fitsAll_15 : decode cX23_fitsAll 15 = .ok (.goto 4, 3) := dk_167 0 4 (dk_at dksX23_fitsAll_0 15 rfl rfl)
theorem dX23_fitsAll_18 : decode cX23_fitsAll 18 = .ok (.iconst 0, 1) := dk_3 (dk_at dksX23_fitsAll_0 18 rfl rfl)
theorem dX23_fitsAll_19 : decode cX23_fitsAll 19 = .ok (.ireturn, 1) := dk_172 (dk_at dksX23_fitsAll_0 19 rfl rfl)
abbrev cX23_gaps : ByteArray := prog_26_method_15_code
def yX23_gaps : MethodName := ⟨RX23, "gaps", "(Z)I"⟩
def dkwX23_gaps_3 : List UInt8 := [154, 0, 6, 132, 2, 1, 132, 3, 1, 167, 255, 203, 28, 172]
abbrev dktX23_gaps_3 : List UInt8 := dkwX23_gaps_3 ++ []
def dkwX23_gaps_2 : List UInt8 := [180, 0, 28, 180, 0, 41, 29, 182, 0, 110, 154, 0, 18, 27, 154, 0, 11, 42, 29, 182, 0, 186]
abbrev dktX23_gaps_2 : List UInt8 := dkwX23_gaps_2 ++ dktX23_gaps_3
def dkwX23_gaps_1 : List UInt8 := [29, 16, 48, 162, 0, 53, 29, 42, 182, 0, 183, 162, 0, 45, 42, 180, 0, 3, 180, 0, 32, 42]
abbrev dktX23_gaps_1 : List UInt8 := dkwX23_gaps_1 ++ dktX23_gaps_2
def dkwX23_gaps_0 : List UInt8 := [3, 61, 42, 180, 0, 51, 182, 0, 177, 153, 0, 8, 16, 48, 167, 0, 9, 42, 182, 0, 180, 4, 96, 62]
abbrev dktX23_gaps_0 : List UInt8 := dkwX23_gaps_0 ++ dktX23_gaps_1
theorem dksX23_gaps_0 : cX23_gaps.data.toList.drop 0 = dktX23_gaps_0 := by decide +kernel
theorem dksX23_gaps_1 : cX23_gaps.data.toList.drop 24 = dktX23_gaps_1 := dk_seg dksX23_gaps_0 24 rfl rfl
theorem dksX23_gaps_2 : cX23_gaps.data.toList.drop 46 = dktX23_gaps_2 := dk_seg dksX23_gaps_1 22 rfl rfl
theorem dksX23_gaps_3 : cX23_gaps.data.toList.drop 68 = dktX23_gaps_3 := dk_seg dksX23_gaps_2 22 rfl rfl
theorem dX23_gaps_0 : decode cX23_gaps 0 = .ok (.iconst 0, 1) := dk_3 (dk_at dksX23_gaps_0 0 rfl rfl)
theorem dX23_gaps_1 : decode cX23_gaps 1 = .ok (.istore_n 2, 1) := dk_61 (dk_at dksX23_gaps_0 1 rfl rfl)
theorem dX23_gaps_2 : decode cX23_gaps 2 = .ok (.aload_n 0, 1) := dk_42 (dk_at dksX23_gaps_0 2 rfl rfl)
theorem dX23_gaps_3 : decode cX23_gaps 3 = .ok (.getfield 51, 3) := dk_180 0 51 (dk_at dksX23_gaps_0 3 rfl rfl)
theorem dX23_gaps_6 : decode cX23_gaps 6 = .ok (.invokevirtual 177, 3) := dk_182 0 177 (dk_at dksX23_gaps_0 6 rfl rfl)
theorem dX23_gaps_9 : decode cX23_gaps 9 = .ok (.ifCond .eq 8, 3) := dk_153 0 8 (dk_at dksX23_gaps_0 9 rfl rfl)
theorem dX23_gaps_12 : decode cX23_gaps 12 = .ok (.bipush 48, 2) := dk_16 48 (dk_at dksX23_gaps_0 12 rfl rfl)
theorem dX23_gaps_14 : decode cX23_gaps 14 = .ok (.goto 9, 3) := dk_167 0 9 (dk_at dksX23_gaps_0 14 rfl rfl)
theorem dX23_gaps_17 : decode cX23_gaps 17 = .ok (.aload_n 0, 1) := dk_42 (dk_at dksX23_gaps_0 17 rfl rfl)
theorem dX23_gaps_18 : decode cX23_gaps 18 = .ok (.invokevirtual 180, 3) := dk_182 0 180 (dk_at dksX23_gaps_0 18 rfl rfl)
theorem dX23_gaps_21 : decode cX23_gaps 21 = .ok (.iconst 1, 1) := dk_4 (dk_at dksX23_gaps_0 21 rfl rfl)
theorem dX23_gaps_22 : decode cX23_gaps 22 = .ok (.iadd, 1) := dk_96 (dk_at dksX23_gaps_0 22 rfl rfl)
theorem dX23_gaps_23 : decode cX23_gaps 23 = .ok (.istore_n 3, 1) := dk_62 (dk_at dksX23_gaps_0 23 rfl rfl)
theorem dX23_gaps_24 : decode cX23_gaps 24 = .ok (.iload_n 3, 1) := dk_29 (dk_at dksX23_gaps_1 0 rfl rfl)
theorem dX23_gaps_25 : decode cX23_gaps 25 = .ok (.bipush 48, 2) := dk_16 48 (dk_at dksX23_gaps_1 1 rfl rfl)
theorem dX23_gaps_27 : decode cX23_gaps 27 = .ok (.if_icmp .ge 53, 3) := dk_162 0 53 (dk_at dksX23_gaps_1 3 rfl rfl)
theorem dX23_gaps_30 : decode cX23_gaps 30 = .ok (.iload_n 3, 1) := dk_29 (dk_at dksX23_gaps_1 6 rfl rfl)
theorem dX23_gaps_31 : decode cX23_gaps 31 = .ok (.aload_n 0, 1) := dk_42 (dk_at dksX23_gaps_1 7 rfl rfl)
theorem dX23_gaps_32 : decode cX23_gaps 32 = .ok (.invokevirtual 183, 3) := dk_182 0 183 (dk_at dksX23_gaps_1 8 rfl rfl)
theorem dX23_gaps_35 : decode cX23_gaps 35 = .ok (.if_icmp .ge 45, 3) := dk_162 0 45 (dk_at dksX23_gaps_1 11 rfl rfl)
theorem dX23_gaps_38 : decode cX23_gaps 38 = .ok (.aload_n 0, 1) := dk_42 (dk_at dksX23_gaps_1 14 rfl rfl)
theorem dX23_gaps_39 : decode cX23_gaps 39 = .ok (.getfield 3, 3) := dk_180 0 3 (dk_at dksX23_gaps_1 15 rfl rfl)
theorem dX23_gaps_42 : decode cX23_gaps 42 = .ok (.getfield 32, 3) := dk_180 0 32 (dk_at dksX23_gaps_1 18 rfl rfl)
theorem dX23_gaps_45 : decode cX23_gaps 45 = .ok (.aload_n 0, 1) := dk_42 (dk_at dksX23_gaps_1 21 rfl rfl)
theorem dX23_gaps_46 : decode cX23_gaps 46 = .ok (.getfield 28, 3) := dk_180 0 28 (dk_at dksX23_gaps_2 0 rfl rfl)
theorem dX23_gaps_49 : decode cX23_gaps 49 = .ok (.getfield 41, 3) := dk_180 0 41 (dk_at dksX23_gaps_2 3 rfl rfl)
theorem dX23_gaps_52 : decode cX23_gaps 52 = .ok (.iload_n 3, 1) := dk_29 (dk_at dksX23_gaps_2 6 rfl rfl)
theorem dX23_gaps_53 : decode cX23_gaps 53 = .ok (.invokevirtual 110, 3) := dk_182 0 110 (dk_at dksX23_gaps_2 7 rfl rfl)
theorem dX23_gaps_56 : decode cX23_gaps 56 = .ok (.ifCond .ne 18, 3) := dk_154 0 18 (dk_at dksX23_gaps_2 10 rfl rfl)
theorem dX23_gaps_59 : decode cX23_gaps 59 = .ok (.iload_n 1, 1) := dk_27 (dk_at dksX23_gaps_2 13 rfl rfl)
theorem dX23_gaps_60 : decode cX23_gaps 60 = .ok (.ifCond .ne 11, 3) := dk_154 0 11 (dk_at dksX23_gaps_2 14 rfl rfl)
theorem dX23_gaps_63 : decode cX23_gaps 63 = .ok (.aload_n 0, 1) := dk_42 (dk_at dksX23_gaps_2 17 rfl rfl)
theorem dX23_gaps_64 : decode cX23_gaps 64 = .ok (.iload_n 3, 1) := dk_29 (dk_at dksX23_gaps_2 18 rfl rfl)
theorem dX23_gaps_65 : decode cX23_gaps 65 = .ok (.invokevirtual 186, 3) := dk_182 0 186 (dk_at dksX23_gaps_2 19 rfl rfl)
theorem dX23_gaps_68 : decode cX23_gaps 68 = .ok (.ifCond .ne 6, 3) := dk_154 0 6 (dk_at dksX23_gaps_3 0 rfl rfl)
theorem dX23_gaps_71 : decode cX23_gaps 71 = .ok (.iinc 2 1, 3) := dk_132 2 1 (dk_at dksX23_gaps_3 3 rfl rfl)
theorem dX23_gaps_74 : decode cX23_gaps 74 = .ok (.iinc 3 1, 3) := dk_132 3 1 (dk_at dksX23_gaps_3 6 rfl rfl)
theorem dX23_gaps_77 : decode cX23_gaps 77 = .ok (.goto (-53), 3) := dk_167 255 203 (dk_at dksX23_gaps_3 9 rfl rfl)
theorem dX23_gaps_80 : decode cX23_gaps 80 = .ok (.iload_n 2, 1) := dk_28 (dk_at dksX23_gaps_3 12 rfl rfl)
theorem dX23_gaps_81 : decode cX23_gaps 81 = .ok (.ireturn, 1) := dk_172 (dk_at dksX23_gaps_3 13 rfl rfl)
abbrev cX23_first : ByteArray := prog_26_method_13_code
def yX23_first : MethodName := ⟨RX23, "first", "()I"⟩
def dkwX23_first_0 : List UInt8 := [42, 180, 0, 51, 3, 182, 0, 47, 192, 0, 174, 180, 0, 176, 172]
abbrev dktX23_first_0 : List UInt8 := dkwX23_first_0 ++ []
theorem dksX23_first_0 : cX23_first.data.toList.drop 0 = dktX23_first_0 := by decide +kernel
theorem dX23_first_0 : decode cX23_first 0 = .ok (.aload_n 0, 1) := dk_42 (dk_at dksX23_first_0 0 rfl rfl)
theorem dX23_first_1 : decode cX23_first 1 = .ok (.getfield 51, 3) := dk_180 0 51 (dk_at dksX23_first_0 1 rfl rfl)
theorem dX23_first_4 : decode cX23_first 4 = .ok (.iconst 0, 1) := dk_3 (dk_at dksX23_first_0 4 rfl rfl)
theorem dX23_first_5 : decode cX23_first 5 = .ok (.invokevirtual 47, 3) := dk_182 0 47 (dk_at dksX23_first_0 5 rfl rfl)
theorem dX23_first_8 : decode cX23_first 8 = .ok (.checkcast 174, 3) := dk_192 0 174 (dk_at dksX23_first_0 8 rfl rfl)
theorem dX23_first_11 : decode cX23_first 11 = .ok (.getfield 176, 3) := dk_180 0 176 (dk_at dksX23_first_0 11 rfl rfl)
theorem dX23_first_14 : decode cX23_first 14 = .ok (.ireturn, 1) := dk_172 (dk_at dksX23_first_0 14 rfl rfl)
abbrev cX23_last : ByteArray := prog_26_method_14_code
def yX23_last : MethodName := ⟨RX23, "last", "()I"⟩
def dkwX23_last_0 : List UInt8 := [42, 180, 0, 51, 42, 180, 0, 51, 182, 0, 74, 4, 100, 182, 0, 47, 192, 0, 174, 180, 0, 176, 172]
abbrev dktX23_last_0 : List UInt8 := dkwX23_last_0 ++ []
theorem dksX23_last_0 : cX23_last.data.toList.drop 0 = dktX23_last_0 := by decide +kernel
theorem dX23_last_0 : decode cX23_last 0 = .ok (.aload_n 0, 1) := dk_42 (dk_at dksX23_last_0 0 rfl rfl)
theorem dX23_last_1 : decode cX23_last 1 = .ok (.getfield 51, 3) := dk_180 0 51 (dk_at dksX23_last_0 1 rfl rfl)
theorem dX23_last_4 : decode cX23_last 4 = .ok (.aload_n 0, 1) := dk_42 (dk_at dksX23_last_0 4 rfl rfl)
theorem dX23_last_5 : decode cX23_last 5 = .ok (.getfield 51, 3) := dk_180 0 51 (dk_at dksX23_last_0 5 rfl rfl)
theorem dX23_last_8 : decode cX23_last 8 = .ok (.invokevirtual 74, 3) := dk_182 0 74 (dk_at dksX23_last_0 8 rfl rfl)
theorem dX23_last_11 : decode cX23_last 11 = .ok (.iconst 1, 1) := dk_4 (dk_at dksX23_last_0 11 rfl rfl)
theorem dX23_last_12 : decode cX23_last 12 = .ok (.isub, 1) := dk_100 (dk_at dksX23_last_0 12 rfl rfl)
theorem dX23_last_13 : decode cX23_last 13 = .ok (.invokevirtual 47, 3) := dk_182 0 47 (dk_at dksX23_last_0 13 rfl rfl)
theorem dX23_last_16 : decode cX23_last 16 = .ok (.checkcast 174, 3) := dk_192 0 174 (dk_at dksX23_last_0 16 rfl rfl)
theorem dX23_last_19 : decode cX23_last 19 = .ok (.getfield 176, 3) := dk_180 0 176 (dk_at dksX23_last_0 19 rfl rfl)
theorem dX23_last_22 : decode cX23_last 22 = .ok (.ireturn, 1) := dk_172 (dk_at dksX23_last_0 22 rfl rfl)
abbrev cX23_isHonest : ByteArray := prog_26_method_12_code
def yX23_isHonest : MethodName := ⟨RX23, "isHonest", "(I)Z"⟩
def dkwX23_isHonest_2 : List UInt8 := [172]
abbrev dktX23_isHonest_2 : List UInt8 := dkwX23_isHonest_2 ++ []
def dkwX23_isHonest_1 : List UInt8 := [182, 0, 171, 153, 0, 14, 42, 28, 27, 182, 0, 168, 153, 0, 5, 4, 172, 132, 2, 1, 167, 255, 216, 3]
abbrev dktX23_isHonest_1 : List UInt8 := dkwX23_isHonest_1 ++ dktX23_isHonest_2
def dkwX23_isHonest_0 : List UInt8 := [3, 61, 28, 42, 180, 0, 3, 180, 0, 67, 182, 0, 167, 162, 0, 32, 42, 180, 0, 3, 28, 27]
abbrev dktX23_isHonest_0 : List UInt8 := dkwX23_isHonest_0 ++ dktX23_isHonest_1
theorem dksX23_isHonest_0 : cX23_isHonest.data.toList.drop 0 = dktX23_isHonest_0 := by decide +kernel
theorem dksX23_isHonest_1 : cX23_isHonest.data.toList.drop 22 = dktX23_isHonest_1 := dk_seg dksX23_isHonest_0 22 rfl rfl
theorem dksX23_isHonest_2 : cX23_isHonest.data.toList.drop 46 = dktX23_isHonest_2 := dk_seg dksX23_isHonest_1 24 rfl rfl
theorem dX23_isHonest_0 : decode cX23_isHonest 0 = .ok (.iconst 0, 1) := dk_3 (dk_at dksX23_isHonest_0 0 rfl rfl)
theorem dX23_isHonest_1 : decode cX23_isHonest 1 = .ok (.istore_n 2, 1) := dk_61 (dk_at dksX23_isHonest_0 1 rfl rfl)
theorem dX23_isHonest_2 : decode cX23_isHonest 2 = .ok (.iload_n 2, 1) := dk_28 (dk_at dksX23_isHonest_0 2 rfl rfl)
theorem dX23_isHonest_3 : decode cX23_isHonest 3 = .ok (.aload_n 0, 1) := dk_42 (dk_at dksX23_isHonest_0 3 rfl rfl)
theorem dX23_isHonest_4 : decode cX23_isHonest 4 = .ok (.getfield 3, 3) := dk_180 0 3 (dk_at dksX23_isHonest_0 4 rfl rfl)
theorem dX23_isHonest_7 : decode cX23_isHonest 7 = .ok (.getfield 67, 3) := dk_180 0 67 (dk_at dksX23_isHonest_0 7 rfl rfl)
theorem dX23_isHonest_10 : decode cX23_isHonest 10 = .ok (.invokevirtual 167, 3) := dk_182 0 167 (dk_at dksX23_isHonest_0 10 rfl rfl)
theorem dX23_isHonest_13 : decode cX23_isHonest 13 = .ok (.if_icmp .ge 32, 3) := dk_162 0 32 (dk_at dksX23_isHonest_0 13 rfl rfl)
theorem dX23_isHonest_16 : decode cX23_isHonest 16 = .ok (.aload_n 0, 1) := dk_42 (dk_at dksX23_isHonest_0 16 rfl rfl)
theorem dX23_isHonest_17 : decode cX23_isHonest 17 = .ok (.getfield 3, 3) := dk_180 0 3 (dk_at dksX23_isHonest_0 17 rfl rfl)
theorem dX23_isHonest_20 : decode cX23_isHonest 20 = .ok (.iload_n 2, 1) := dk_28 (dk_at dksX23_isHonest_0 20 rfl rfl)
theorem dX23_isHonest_21 : decode cX23_isHonest 21 = .ok (.iload_n 1, 1) := dk_27 (dk_at dksX23_isHonest_0 21 rfl rfl)
theorem dX23_isHonest_22 : decode cX23_isHonest 22 = .ok (.invokevirtual 171, 3) := dk_182 0 171 (dk_at dksX23_isHonest_1 0 rfl rfl)
theorem dX23_isHonest_25 : decode cX23_isHonest 25 = .ok (.ifCond .eq 14, 3) := dk_153 0 14 (dk_at dksX23_isHonest_1 3 rfl rfl)
theorem dX23_isHonest_28 : decode cX23_isHonest 28 = .ok (.aload_n 0, 1) := dk_42 (dk_at dksX23_isHonest_1 6 rfl rfl)
theorem dX23_isHonest_29 : decode cX23_isHonest 29 = .ok (.iload_n 2, 1) := dk_28 (dk_at dksX23_isHonest_1 7 rfl rfl)
theorem dX23_isHonest_30 : decode cX23_isHonest 30 = .ok (.iload_n 1, 1) := dk_27 (dk_at dksX23_isHonest_1 8 rfl rfl)
theorem dX23_isHonest_31 : decode cX23_isHonest 31 = .ok (.invokevirtual 168, 3) := dk_182 0 168 (dk_at dksX23_isHonest_1 9 rfl rfl)
theorem dX23_isHonest_34 : decode cX23_isHonest 34 = .ok (.ifCond .eq 5, 3) := dk_153 0 5 (dk_at dksX23_isHonest_1 12 rfl rfl)
theorem dX23_isHonest_37 : decode cX23_isHonest 37 = .ok (.iconst 1, 1) := dk_4 (dk_at dksX23_isHonest_1 15 rfl rfl)
theorem dX23_isHonest_38 : decode cX23_isHonest 38 = .ok (.ireturn, 1) := dk_172 (dk_at dksX23_isHonest_1 16 rfl rfl)
theorem dX23_isHonest_39 : decode cX23_isHonest 39 = .ok (.iinc 2 1, 3) := dk_132 2 1 (dk_at dksX23_isHonest_1 17 rfl rfl)
theorem dX23_isHonest_42 : decode cX23_isHonest 42 = .ok (.goto (-40), 3) := dk_167 255 216 (dk_at dksX23_isHonest_1 20 rfl rfl)
theorem dX23_isHonest_45 : decode cX23_isHonest 45 = .ok (.iconst 0, 1) := dk_3 (dk_at dksX23_isHonest_1 23 rfl rfl)
theorem dX23_isHonest_46 : decode cX23_isHonest 46 = .ok (.ireturn, 1) := dk_172 (dk_at dksX23_isHonest_2 0 rfl rfl)
abbrev cX23_reach : ByteArray := prog_26_method_11_code
def yX23_reach : MethodName := ⟨RX23, "reach", "(I)I"⟩
def dkwX23_reach_1 : List UInt8 := [153, 0, 6, 132, 2, 1, 132, 3, 1, 167, 255, 227, 28, 172]
abbrev dktX23_reach_1 : List UInt8 := dkwX23_reach_1 ++ []
def dkwX23_reach_0 : List UInt8 := [3, 61, 3, 62, 29, 42, 180, 0, 3, 180, 0, 67, 182, 0, 167, 162, 0, 21, 42, 29, 27, 182, 0, 168]
abbrev dktX23_reach_0 : List UInt8 := dkwX23_reach_0 ++ dktX23_reach_1
theorem dksX23_reach_0 : cX23_reach.data.toList.drop 0 = dktX23_reach_0 := by decide +kernel
theorem dksX23_reach_1 : cX23_reach.data.toList.drop 24 = dktX23_reach_1 := dk_seg dksX23_reach_0 24 rfl rfl
theorem dX23_reach_0 : decode cX23_reach 0 = .ok (.iconst 0, 1) := dk_3 (dk_at dksX23_reach_0 0 rfl rfl)
theorem dX23_reach_1 : decode cX23_reach 1 = .ok (.istore_n 2, 1) := dk_61 (dk_at dksX23_reach_0 1 rfl rfl)
theorem dX23_reach_2 : decode cX23_reach 2 = .ok (.iconst 0, 1) := dk_3 (dk_at dksX23_reach_0 2 rfl rfl)
theorem dX23_reach_3 : decode cX23_reach 3 = .ok (.istore_n 3, 1) := dk_62 (dk_at dksX23_reach_0 3 rfl rfl)
theorem dX23_reach_4 : decode cX23_reach 4 = .ok (.iload_n 3, 1) := dk_29 (dk_at dksX23_reach_0 4 rfl rfl)
theorem dX23_reach_5 : decode cX23_reach 5 = .ok (.aload_n 0, 1) := dk_42 (dk_at dksX23_reach_0 5 rfl rfl)
theorem dX23_reach_6 : decode cX23_reach 6 = .ok (.getfield 3, 3) := dk_180 0 3 (dk_at dksX23_reach_0 6 rfl rfl)
theorem dX23_reach_9 : decode cX23_reach 9 = .ok (.getfield 67, 3) := dk_180 0 67 (dk_at dksX23_reach_0 9 rfl rfl)
theorem dX23_reach_12 : decode cX23_reach 12 = .ok (.invokevirtual 167, 3) := dk_182 0 167 (dk_at dksX23_reach_0 12 rfl rfl)
theorem dX23_reach_15 : decode cX23_reach 15 = .ok (.if_icmp .ge 21, 3) := dk_162 0 21 (dk_at dksX23_reach_0 15 rfl rfl)
theorem dX23_reach_18 : decode cX23_reach 18 = .ok (.aload_n 0, 1) := dk_42 (dk_at dksX23_reach_0 18 rfl rfl)
theorem dX23_reach_19 : decode cX23_reach 19 = .ok (.iload_n 3, 1) := dk_29 (dk_at dksX23_reach_0 19 rfl rfl)
theorem dX23_reach_20 : decode cX23_reach 20 = .ok (.iload_n 1, 1) := dk_27 (dk_at dksX23_reach_0 20 rfl rfl)
theorem dX23_reach_21 : decode cX23_reach 21 = .ok (.invokevirtual 168, 3) := dk_182 0 168 (dk_at dksX23_reach_0 21 rfl rfl)
theorem dX23_reach_24 : decode cX23_reach 24 = .ok (.ifCond .eq 6, 3) := dk_153 0 6 (dk_at dksX23_reach_1 0 rfl rfl)
theorem dX23_reach_27 : decode cX23_reach 27 = .ok (.iinc 2 1, 3) := dk_132 2 1 (dk_at dksX23_reach_1 3 rfl rfl)
theorem dX23_reach_30 : decode cX23_reach 30 = .ok (.iinc 3 1, 3) := dk_132 3 1 (dk_at dksX23_reach_1 6 rfl rfl)
theorem dX23_reach_33 : decode cX23_reach 33 = .ok (.goto (-29), 3) := dk_167 255 227 (dk_at dksX23_reach_1 9 rfl rfl)
theorem dX23_reach_36 : decode cX23_reach 36 = .ok (.iload_n 2, 1) := dk_28 (dk_at dksX23_reach_1 12 rfl rfl)
theorem dX23_reach_37 : decode cX23_reach 37 = .ok (.ireturn, 1) := dk_172 (dk_at dksX23_reach_1 13 rfl rfl)
theorem q208 : (Jvm.Cond.initialized "ToldTracks$Voyage") ∈ lw_all := lw_g (lw_at lw_m1 40 rfl) rfl
theorem q280 : (Jvm.Cond.fieldLink "ToldTracks$Voyage" (36 : Nat) "ToldTracks$Told" "says" "Ljava/util/ArrayList;") ∈ lw_all := lw_g (lw_at lw_m1 112 rfl) rfl
theorem q314 : (Jvm.Cond.fieldLink "ToldTracks$Voyage" (71 : Nat) "ToldTracks$Sea" "books" "Ljava/util/ArrayList;") ∈ lw_all := lw_g (lw_at lw_m1 146 rfl) rfl
theorem q323 : (Jvm.Cond.fieldLink "ToldTracks$Voyage" (144 : Nat) "ToldTracks$Sea" "depths" "[I") ∈ lw_all := lw_g (lw_at lw_m1 155 rfl) rfl
theorem q389 : (Jvm.Cond.fieldLinkNest "ToldTracks$Voyage" (67 : Nat) "ToldTracks" "sea" "LToldTracks$Sea;" "ToldTracks") ∈ lw_tbl := lw_at lw_m1 221 rfl
theorem q391 : (Jvm.Cond.fieldLinkNest "ToldTracks$Voyage" (32 : Nat) "ToldTracks" "told" "LToldTracks$Told;" "ToldTracks") ∈ lw_tbl := lw_at lw_m1 223 rfl
theorem q971 : (Jvm.Cond.selects "ToldTracks$Voyage" ({ cls := "java/lang/Object", name := "getClass", desc := "()Ljava/lang/Class;" } : Jvm.MethodName) ({ cls := "java/lang/Object", name := "getClass", desc := "()Ljava/lang/Class;" } : Jvm.MethodName)) ∈ lw_all := lw_g (lw_at lw_m4 83 rfl) rfl
theorem q1153 : (Jvm.Cond.fieldLink "ToldTracks$Voyage" (148 : Nat) "ToldTracks$Ship" "draft" "I") ∈ lw_all := lw_g (lw_at lw_m5 25 rfl) rfl
theorem q1164 : (Jvm.Cond.fieldLink "ToldTracks$Voyage" (41 : Nat) "ToldTracks$Ship" "number" "I") ∈ lw_all := lw_g (lw_at lw_m5 36 rfl) rfl
theorem q1242 : (Jvm.Cond.fieldLink "ToldTracks$Voyage" (158 : Nat) "ToldTracks$Fact" "cell" "I") ∈ lw_all := lw_g (lw_at lw_m5 114 rfl) rfl
theorem q1248 : (Jvm.Cond.fieldLink "ToldTracks$Voyage" (151 : Nat) "ToldTracks$Fact" "hour" "I") ∈ lw_all := lw_g (lw_at lw_m5 120 rfl) rfl
theorem q1249 : (Jvm.Cond.fieldLink "ToldTracks$Voyage" (176 : Nat) "ToldTracks$Saying" "hour" "I") ∈ lw_all := lw_g (lw_at lw_m5 121 rfl) rfl
theorem q1286 : (Jvm.Cond.fieldLink "ToldTracks$Voyage" (80 : Nat) "ToldTracks$Book" "ship" "I") ∈ lw_all := lw_g (lw_at lw_m5 158 rfl) rfl
theorem q1289 : (Jvm.Cond.fieldLink "ToldTracks$Voyage" (94 : Nat) "ToldTracks$Book" "cell" "I") ∈ lw_all := lw_g (lw_at lw_m5 161 rfl) rfl
theorem q1291 : (Jvm.Cond.fieldLink "ToldTracks$Voyage" (82 : Nat) "ToldTracks$Book" "from" "I") ∈ lw_all := lw_g (lw_at lw_m5 163 rfl) rfl
theorem q1293 : (Jvm.Cond.fieldLink "ToldTracks$Voyage" (85 : Nat) "ToldTracks$Book" "to" "I") ∈ lw_all := lw_g (lw_at lw_m5 165 rfl) rfl
theorem q1495 : (Jvm.Cond.instantiable "ToldTracks$Voyage" (8 : Nat)) ∈ lw_all := lw_g (lw_at lw_m6 127 rfl) rfl
theorem q1497 : (Jvm.Cond.instanceMethod ({ cls := "ToldTracks$Voyage", name := "<init>", desc := "(LToldTracks;LToldTracks$Ship;)V" } : Jvm.MethodName)) ∈ lw_all := lw_g (lw_at lw_m6 129 rfl) rfl
theorem q1498 : (Jvm.Cond.code ({ cls := "ToldTracks$Voyage", name := "<init>", desc := "(LToldTracks;LToldTracks$Ship;)V" } : Jvm.MethodName) prog_26_method_1_code (4 : Nat) (Option.none : Option Jvm.ClassFile.FieldType)) ∈ lw_all := lw_g (lw_at lw_m6 130 rfl) rfl
theorem q1499 : (Jvm.Cond.methodLink "ToldTracks$Voyage" (9 : Nat) ({ cls := "java/lang/Object", name := "<init>", desc := "()V" } : Jvm.MethodName)) ∈ lw_all := lw_g (lw_at lw_m6 131 rfl) rfl
theorem q1500 : (Jvm.Cond.classLink "ToldTracks$Voyage" (15 : Nat) "java/util/ArrayList") ∈ lw_all := lw_g (lw_at lw_m6 132 rfl) rfl
theorem q1501 : (Jvm.Cond.methodLink "ToldTracks$Voyage" (17 : Nat) ({ cls := "java/util/ArrayList", name := "<init>", desc := "()V" } : Jvm.MethodName)) ∈ lw_all := lw_g (lw_at lw_m6 133 rfl) rfl
theorem q1502 : (Jvm.Cond.methodLink "ToldTracks$Voyage" (47 : Nat) ({ cls := "java/util/ArrayList", name := "get", desc := "(I)Ljava/lang/Object;" } : Jvm.MethodName)) ∈ lw_all := lw_g (lw_at lw_m6 134 rfl) rfl
theorem q1503 : (Jvm.Cond.methodLink "ToldTracks$Voyage" (52 : Nat) ({ cls := "ToldTracks$Voyage", name := "gathers", desc := "(I)V" } : Jvm.MethodName)) ∈ lw_all := lw_g (lw_at lw_m6 135 rfl) rfl
theorem q1504 : (Jvm.Cond.privateMethod ({ cls := "ToldTracks$Voyage", name := "gathers", desc := "(I)V" } : Jvm.MethodName)) ∈ lw_tbl := lw_at lw_m6 136 rfl
theorem q1505 : (Jvm.Cond.instanceMethod ({ cls := "ToldTracks$Voyage", name := "gathers", desc := "(I)V" } : Jvm.MethodName)) ∈ lw_all := lw_g (lw_at lw_m6 137 rfl) rfl
theorem q1506 : (Jvm.Cond.code ({ cls := "ToldTracks$Voyage", name := "gathers", desc := "(I)V" } : Jvm.MethodName) prog_26_method_2_code (4 : Nat) (Option.none : Option Jvm.ClassFile.FieldType)) ∈ lw_all := lw_g (lw_at lw_m6 138 rfl) rfl
theorem q1507 : (Jvm.Cond.methodLink "ToldTracks$Voyage" (74 : Nat) ({ cls := "java/util/ArrayList", name := "size", desc := "()I" } : Jvm.MethodName)) ∈ lw_all := lw_g (lw_at lw_m6 139 rfl) rfl
theorem q1508 : (Jvm.Cond.classLink "ToldTracks$Voyage" (78 : Nat) "ToldTracks$Book") ∈ lw_all := lw_g (lw_at lw_m6 140 rfl) rfl
theorem q1509 : (Jvm.Cond.methodLinkNest "ToldTracks$Voyage" (88 : Nat) ({ cls := "ToldTracks", name := "isIn", desc := "(JJJ)Z" } : Jvm.MethodName) "ToldTracks") ∈ lw_tbl := lw_at lw_m6 141 rfl
theorem q1510 : (Jvm.Cond.classLink "ToldTracks$Voyage" (92 : Nat) "ToldTracks$Written") ∈ lw_all := lw_g (lw_at lw_m6 142 rfl) rfl
theorem q1512 : (Jvm.Cond.methodLink "ToldTracks$Voyage" (97 : Nat) ({ cls := "ToldTracks$Written", name := "<init>", desc := "(II)V" } : Jvm.MethodName)) ∈ lw_all := lw_g (lw_at lw_m6 144 rfl) rfl
theorem q1519 : (Jvm.Cond.methodLink "ToldTracks$Voyage" (100 : Nat) ({ cls := "java/util/ArrayList", name := "add", desc := "(Ljava/lang/Object;)Z" } : Jvm.MethodName)) ∈ lw_all := lw_g (lw_at lw_m6 151 rfl) rfl
theorem q1520 : (Jvm.Cond.methodLink "ToldTracks$Voyage" (104 : Nat) ({ cls := "ToldTracks$Voyage", name := "writtenOf", desc := "(Ljava/util/ArrayList;)I" } : Jvm.MethodName)) ∈ lw_all := lw_g (lw_at lw_m6 152 rfl) rfl
theorem q1521 : (Jvm.Cond.privateMethod ({ cls := "ToldTracks$Voyage", name := "writtenOf", desc := "(Ljava/util/ArrayList;)I" } : Jvm.MethodName)) ∈ lw_tbl := lw_at lw_m6 153 rfl
theorem q1522 : (Jvm.Cond.instanceMethod ({ cls := "ToldTracks$Voyage", name := "writtenOf", desc := "(Ljava/util/ArrayList;)I" } : Jvm.MethodName)) ∈ lw_all := lw_g (lw_at lw_m6 154 rfl) rfl
theorem q1523 : (Jvm.Cond.code ({ cls := "ToldTracks$Voyage", name := "writtenOf", desc := "(Ljava/util/ArrayList;)I" } : Jvm.MethodName) prog_26_method_3_code (4 : Nat) (Option.some Jvm.ClassFile.FieldType.int)) ∈ lw_all := lw_g (lw_at lw_m6 155 rfl) rfl
theorem q1524 : (Jvm.Cond.classLink "ToldTracks$Voyage" (108 : Nat) "ToldTracks$Fact") ∈ lw_all := lw_g (lw_at lw_m6 156 rfl) rfl
theorem q1525 : (Jvm.Cond.methodLink "ToldTracks$Voyage" (118 : Nat) ({ cls := "ToldTracks$Fact", name := "isSaid", desc := "()Z" } : Jvm.MethodName)) ∈ lw_all := lw_g (lw_at lw_m6 157 rfl) rfl
theorem q1534 : (Jvm.Cond.methodLink "ToldTracks$Voyage" (110 : Nat) ({ cls := "ToldTracks$Told", name := "has", desc := "(II)Z" } : Jvm.MethodName)) ∈ lw_all := lw_g (lw_at lw_m6 166 rfl) rfl
theorem q1535 : (Jvm.Cond.methodLink "ToldTracks$Voyage" (114 : Nat) ({ cls := "ToldTracks$Told", name := "place", desc := "(II)I" } : Jvm.MethodName)) ∈ lw_all := lw_g (lw_at lw_m6 167 rfl) rfl
theorem q1536 : (Jvm.Cond.methodLinkNest "ToldTracks$Voyage" (56 : Nat) ({ cls := "ToldTracks", name := "fits", desc := "(LToldTracks$Ship;Ljava/util/ArrayList;)Z" } : Jvm.MethodName) "ToldTracks") ∈ lw_tbl := lw_at lw_m6 168 rfl
theorem q1578 : (Jvm.Cond.methodLink "ToldTracks$Voyage" (64 : Nat) ({ cls := "ToldTracks$Voyage", name := "chooses", desc := "()V" } : Jvm.MethodName)) ∈ lw_all := lw_g (lw_at lw_m6 210 rfl) rfl
theorem q1579 : (Jvm.Cond.privateMethod ({ cls := "ToldTracks$Voyage", name := "chooses", desc := "()V" } : Jvm.MethodName)) ∈ lw_tbl := lw_at lw_m6 211 rfl
theorem q1580 : (Jvm.Cond.instanceMethod ({ cls := "ToldTracks$Voyage", name := "chooses", desc := "()V" } : Jvm.MethodName)) ∈ lw_all := lw_g (lw_at lw_m6 212 rfl) rfl
theorem q1581 : (Jvm.Cond.code ({ cls := "ToldTracks$Voyage", name := "chooses", desc := "()V" } : Jvm.MethodName) prog_26_method_5_code (10 : Nat) (Option.none : Option Jvm.ClassFile.FieldType)) ∈ lw_all := lw_g (lw_at lw_m6 213 rfl) rfl
theorem q1582 : (Jvm.Cond.methodLink "ToldTracks$Voyage" (130 : Nat) ({ cls := "ToldTracks$Voyage", name := "isNext", desc := "(II)Z" } : Jvm.MethodName)) ∈ lw_all := lw_g (lw_at lw_m6 214 rfl) rfl
theorem q1583 : (Jvm.Cond.privateMethod ({ cls := "ToldTracks$Voyage", name := "isNext", desc := "(II)Z" } : Jvm.MethodName)) ∈ lw_tbl := lw_at lw_m6 215 rfl
theorem q1584 : (Jvm.Cond.instanceMethod ({ cls := "ToldTracks$Voyage", name := "isNext", desc := "(II)Z" } : Jvm.MethodName)) ∈ lw_all := lw_g (lw_at lw_m6 216 rfl) rfl
theorem q1585 : (Jvm.Cond.code ({ cls := "ToldTracks$Voyage", name := "isNext", desc := "(II)Z" } : Jvm.MethodName) prog_26_method_4_code (3 : Nat) (Option.some Jvm.ClassFile.FieldType.boolean)) ∈ lw_all := lw_g (lw_at lw_m6 217 rfl) rfl
theorem q1586 : (Jvm.Cond.methodLink "ToldTracks$Voyage" (122 : Nat) ({ cls := "ToldTracks$Fact", name := "isSound", desc := "(LToldTracks$Sea;LToldTracks$Ship;)Z" } : Jvm.MethodName)) ∈ lw_all := lw_g (lw_at lw_m6 218 rfl) rfl
theorem q1587 : (Jvm.Cond.methodLinkNest "ToldTracks$Voyage" (126 : Nat) ({ cls := "ToldTracks", name := "isTogether", desc := "(LToldTracks$Ship;LToldTracks$Fact;LToldTracks$Fact;)Z" } : Jvm.MethodName) "ToldTracks") ∈ lw_tbl := lw_at lw_m6 219 rfl
theorem q1588 : (Jvm.Cond.methodLink "ToldTracks$Voyage" (133 : Nat) ({ cls := "java/lang/Math", name := "max", desc := "(II)I" } : Jvm.MethodName)) ∈ lw_all := lw_g (lw_at lw_m6 220 rfl) rfl
theorem q1589 : (Jvm.Cond.fieldLink "ToldTracks$Voyage" (28 : Nat) "ToldTracks$Voyage" "ship" "LToldTracks$Ship;") ∈ lw_all := lw_g (lw_at lw_m6 221 rfl) rfl
theorem q1593 : (Jvm.Cond.fieldLink "ToldTracks$Voyage" (51 : Nat) "ToldTracks$Voyage" "says" "Ljava/util/ArrayList;") ∈ lw_all := lw_g (lw_at lw_m6 225 rfl) rfl
theorem q1595 : (Jvm.Cond.fieldLink "ToldTracks$Voyage" (18 : Nat) "ToldTracks$Voyage" "books" "Ljava/util/ArrayList;") ∈ lw_all := lw_g (lw_at lw_m6 227 rfl) rfl
theorem q1598 : (Jvm.Cond.fieldLink "ToldTracks$Voyage" (22 : Nat) "ToldTracks$Voyage" "facts" "Ljava/util/ArrayList;") ∈ lw_all := lw_g (lw_at lw_m6 230 rfl) rfl
theorem q1600 : (Jvm.Cond.fieldLink "ToldTracks$Voyage" (25 : Nat) "ToldTracks$Voyage" "kept" "Ljava/util/ArrayList;") ∈ lw_all := lw_g (lw_at lw_m6 232 rfl) rfl
theorem q1602 : (Jvm.Cond.fieldLink "ToldTracks$Voyage" (60 : Nat) "ToldTracks$Voyage" "isWritten" "Z") ∈ lw_all := lw_g (lw_at lw_m6 234 rfl) rfl
theorem q1604 : (Jvm.Cond.fieldLink "ToldTracks$Voyage" (138 : Nat) "ToldTracks$Voyage" "keeps" "I") ∈ lw_all := lw_g (lw_at lw_m6 236 rfl) rfl
theorem q1606 : (Jvm.Cond.fieldLink "ToldTracks$Voyage" (3 : Nat) "ToldTracks$Voyage" "this$0" "LToldTracks;") ∈ lw_all := lw_g (lw_at lw_m6 238 rfl) rfl
theorem q1607 : (Jvm.Cond.laysFinal "ToldTracks$Voyage" "ToldTracks$Voyage" "ship" "LToldTracks$Ship;") ∈ lw_all := lw_g (lw_at lw_m6 239 rfl) rfl
theorem q1608 : (Jvm.Cond.soleField "ToldTracks$Voyage" "ship") ∈ lw_all := lw_g (lw_at lw_m7 0 rfl) rfl
theorem q1609 : (Jvm.Cond.laysFinal "ToldTracks$Voyage" "ToldTracks$Voyage" "says" "Ljava/util/ArrayList;") ∈ lw_all := lw_g (lw_at lw_m7 1 rfl) rfl
theorem q1610 : (Jvm.Cond.soleField "ToldTracks$Voyage" "says") ∈ lw_all := lw_g (lw_at lw_m7 2 rfl) rfl
theorem q1611 : (Jvm.Cond.laysFinal "ToldTracks$Voyage" "ToldTracks$Voyage" "books" "Ljava/util/ArrayList;") ∈ lw_all := lw_g (lw_at lw_m7 3 rfl) rfl
theorem q1612 : (Jvm.Cond.soleField "ToldTracks$Voyage" "books") ∈ lw_all := lw_g (lw_at lw_m7 4 rfl) rfl
theorem q1613 : (Jvm.Cond.laysFinal "ToldTracks$Voyage" "ToldTracks$Voyage" "facts" "Ljava/util/ArrayList;") ∈ lw_all := lw_g (lw_at lw_m7 5 rfl) rfl
theorem q1614 : (Jvm.Cond.soleField "ToldTracks$Voyage" "facts") ∈ lw_all := lw_g (lw_at lw_m7 6 rfl) rfl
theorem q1615 : (Jvm.Cond.laysFinal "ToldTracks$Voyage" "ToldTracks$Voyage" "kept" "Ljava/util/ArrayList;") ∈ lw_all := lw_g (lw_at lw_m7 7 rfl) rfl
theorem q1616 : (Jvm.Cond.soleField "ToldTracks$Voyage" "kept") ∈ lw_all := lw_g (lw_at lw_m7 8 rfl) rfl
theorem q1617 : (Jvm.Cond.lays "ToldTracks$Voyage" "ToldTracks$Voyage" "isWritten" "Z") ∈ lw_all := lw_g (lw_at lw_m7 9 rfl) rfl
theorem q1618 : (Jvm.Cond.soleField "ToldTracks$Voyage" "isWritten") ∈ lw_all := lw_g (lw_at lw_m7 10 rfl) rfl
theorem q1619 : (Jvm.Cond.lays "ToldTracks$Voyage" "ToldTracks$Voyage" "keeps" "I") ∈ lw_all := lw_g (lw_at lw_m7 11 rfl) rfl
theorem q1620 : (Jvm.Cond.soleField "ToldTracks$Voyage" "keeps") ∈ lw_all := lw_g (lw_at lw_m7 12 rfl) rfl
theorem q1621 : (Jvm.Cond.laysFinal "ToldTracks$Voyage" "ToldTracks$Voyage" "this$0" "LToldTracks;") ∈ lw_all := lw_g (lw_at lw_m7 13 rfl) rfl
theorem q1622 : (Jvm.Cond.soleField "ToldTracks$Voyage" "this$0") ∈ lw_all := lw_g (lw_at lw_m7 14 rfl) rfl
theorem q1623 : (Jvm.Cond.superclass "ToldTracks$Voyage" "java/lang/Object") ∈ lw_all := lw_g (lw_at lw_m7 15 rfl) rfl
theorem q1630 : (Jvm.Cond.instanceMethod ({ cls := "ToldTracks$Voyage", name := "lies", desc := "()I" } : Jvm.MethodName)) ∈ lw_all := lw_g (lw_at lw_m7 22 rfl) rfl
theorem q1631 : (Jvm.Cond.selects "ToldTracks$Voyage" ({ cls := "ToldTracks$Voyage", name := "lies", desc := "()I" } : Jvm.MethodName) ({ cls := "ToldTracks$Voyage", name := "lies", desc := "()I" } : Jvm.MethodName)) ∈ lw_all := lw_g (lw_at lw_m7 23 rfl) rfl
theorem q1632 : (Jvm.Cond.code ({ cls := "ToldTracks$Voyage", name := "lies", desc := "()I" } : Jvm.MethodName) prog_26_method_7_code (1 : Nat) (Option.some Jvm.ClassFile.FieldType.int)) ∈ lw_all := lw_g (lw_at lw_m7 24 rfl) rfl
theorem q1649 : (Jvm.Cond.instanceMethod ({ cls := "ToldTracks$Voyage", name := "isKept", desc := "(LToldTracks$Saying;)Z" } : Jvm.MethodName)) ∈ lw_all := lw_g (lw_at lw_m7 41 rfl) rfl
theorem q1650 : (Jvm.Cond.selects "ToldTracks$Voyage" ({ cls := "ToldTracks$Voyage", name := "isKept", desc := "(LToldTracks$Saying;)Z" } : Jvm.MethodName) ({ cls := "ToldTracks$Voyage", name := "isKept", desc := "(LToldTracks$Saying;)Z" } : Jvm.MethodName)) ∈ lw_all := lw_g (lw_at lw_m7 42 rfl) rfl
theorem q1651 : (Jvm.Cond.code ({ cls := "ToldTracks$Voyage", name := "isKept", desc := "(LToldTracks$Saying;)Z" } : Jvm.MethodName) prog_26_method_6_code (3 : Nat) (Option.some Jvm.ClassFile.FieldType.boolean)) ∈ lw_all := lw_g (lw_at lw_m7 43 rfl) rfl
theorem q1687 : (Jvm.Cond.instanceMethod ({ cls := "ToldTracks$Voyage", name := "may", desc := "(II)Z" } : Jvm.MethodName)) ∈ lw_all := lw_g (lw_at lw_m7 79 rfl) rfl
theorem q1688 : (Jvm.Cond.selects "ToldTracks$Voyage" ({ cls := "ToldTracks$Voyage", name := "may", desc := "(II)Z" } : Jvm.MethodName) ({ cls := "ToldTracks$Voyage", name := "may", desc := "(II)Z" } : Jvm.MethodName)) ∈ lw_all := lw_g (lw_at lw_m7 80 rfl) rfl
theorem q1689 : (Jvm.Cond.code ({ cls := "ToldTracks$Voyage", name := "may", desc := "(II)Z" } : Jvm.MethodName) prog_26_method_9_code (4 : Nat) (Option.some Jvm.ClassFile.FieldType.boolean)) ∈ lw_all := lw_g (lw_at lw_m7 81 rfl) rfl
theorem q1690 : (Jvm.Cond.methodLink "ToldTracks$Voyage" (154 : Nat) ({ cls := "ToldTracks$Voyage", name := "isBy", desc := "(III)Z" } : Jvm.MethodName)) ∈ lw_all := lw_g (lw_at lw_m7 82 rfl) rfl
theorem q1691 : (Jvm.Cond.privateMethod ({ cls := "ToldTracks$Voyage", name := "isBy", desc := "(III)Z" } : Jvm.MethodName)) ∈ lw_tbl := lw_at lw_m7 83 rfl
theorem q1692 : (Jvm.Cond.instanceMethod ({ cls := "ToldTracks$Voyage", name := "isBy", desc := "(III)Z" } : Jvm.MethodName)) ∈ lw_all := lw_g (lw_at lw_m7 84 rfl) rfl
theorem q1693 : (Jvm.Cond.code ({ cls := "ToldTracks$Voyage", name := "isBy", desc := "(III)Z" } : Jvm.MethodName) prog_26_method_10_code (6 : Nat) (Option.some Jvm.ClassFile.FieldType.boolean)) ∈ lw_all := lw_g (lw_at lw_m7 85 rfl) rfl
theorem q1694 : (Jvm.Cond.methodLinkNest "ToldTracks$Voyage" (159 : Nat) ({ cls := "ToldTracks", name := "hours", desc := "(LToldTracks$Ship;II)I" } : Jvm.MethodName) "ToldTracks") ∈ lw_tbl := lw_at lw_m7 86 rfl
theorem q1695 : (Jvm.Cond.methodLink "ToldTracks$Voyage" (163 : Nat) ({ cls := "java/lang/Math", name := "abs", desc := "(I)I" } : Jvm.MethodName)) ∈ lw_all := lw_g (lw_at lw_m7 87 rfl) rfl
theorem q1709 : (Jvm.Cond.instanceMethod ({ cls := "ToldTracks$Voyage", name := "fitsAll", desc := "()Z" } : Jvm.MethodName)) ∈ lw_all := lw_g (lw_at lw_m7 101 rfl) rfl
theorem q1710 : (Jvm.Cond.selects "ToldTracks$Voyage" ({ cls := "ToldTracks$Voyage", name := "fitsAll", desc := "()Z" } : Jvm.MethodName) ({ cls := "ToldTracks$Voyage", name := "fitsAll", desc := "()Z" } : Jvm.MethodName)) ∈ lw_all := lw_g (lw_at lw_m7 102 rfl) rfl
theorem q1711 : (Jvm.Cond.code ({ cls := "ToldTracks$Voyage", name := "fitsAll", desc := "()Z" } : Jvm.MethodName) prog_26_method_8_code (1 : Nat) (Option.some Jvm.ClassFile.FieldType.boolean)) ∈ lw_all := lw_g (lw_at lw_m7 103 rfl) rfl
theorem q1712 : (Jvm.Cond.methodLink "ToldTracks$Voyage" (141 : Nat) ({ cls := "ToldTracks$Voyage", name := "lies", desc := "()I" } : Jvm.MethodName)) ∈ lw_all := lw_g (lw_at lw_m7 104 rfl) rfl
theorem q1714 : (Jvm.Cond.instanceMethod ({ cls := "ToldTracks$Voyage", name := "gaps", desc := "(Z)I" } : Jvm.MethodName)) ∈ lw_all := lw_g (lw_at lw_m7 106 rfl) rfl
theorem q1715 : (Jvm.Cond.selects "ToldTracks$Voyage" ({ cls := "ToldTracks$Voyage", name := "gaps", desc := "(Z)I" } : Jvm.MethodName) ({ cls := "ToldTracks$Voyage", name := "gaps", desc := "(Z)I" } : Jvm.MethodName)) ∈ lw_all := lw_g (lw_at lw_m7 107 rfl) rfl
theorem q1716 : (Jvm.Cond.code ({ cls := "ToldTracks$Voyage", name := "gaps", desc := "(Z)I" } : Jvm.MethodName) prog_26_method_15_code (4 : Nat) (Option.some Jvm.ClassFile.FieldType.int)) ∈ lw_all := lw_g (lw_at lw_m7 108 rfl) rfl
theorem q1717 : (Jvm.Cond.methodLink "ToldTracks$Voyage" (177 : Nat) ({ cls := "java/util/ArrayList", name := "isEmpty", desc := "()Z" } : Jvm.MethodName)) ∈ lw_all := lw_g (lw_at lw_m7 109 rfl) rfl
theorem q1718 : (Jvm.Cond.methodLink "ToldTracks$Voyage" (180 : Nat) ({ cls := "ToldTracks$Voyage", name := "first", desc := "()I" } : Jvm.MethodName)) ∈ lw_all := lw_g (lw_at lw_m7 110 rfl) rfl
theorem q1719 : (Jvm.Cond.instanceMethod ({ cls := "ToldTracks$Voyage", name := "first", desc := "()I" } : Jvm.MethodName)) ∈ lw_all := lw_g (lw_at lw_m7 111 rfl) rfl
theorem q1720 : (Jvm.Cond.selects "ToldTracks$Voyage" ({ cls := "ToldTracks$Voyage", name := "first", desc := "()I" } : Jvm.MethodName) ({ cls := "ToldTracks$Voyage", name := "first", desc := "()I" } : Jvm.MethodName)) ∈ lw_all := lw_g (lw_at lw_m7 112 rfl) rfl
theorem q1721 : (Jvm.Cond.code ({ cls := "ToldTracks$Voyage", name := "first", desc := "()I" } : Jvm.MethodName) prog_26_method_13_code (1 : Nat) (Option.some Jvm.ClassFile.FieldType.int)) ∈ lw_all := lw_g (lw_at lw_m7 113 rfl) rfl
theorem q1722 : (Jvm.Cond.classLink "ToldTracks$Voyage" (174 : Nat) "ToldTracks$Saying") ∈ lw_all := lw_g (lw_at lw_m7 114 rfl) rfl
theorem q1723 : (Jvm.Cond.methodLink "ToldTracks$Voyage" (183 : Nat) ({ cls := "ToldTracks$Voyage", name := "last", desc := "()I" } : Jvm.MethodName)) ∈ lw_all := lw_g (lw_at lw_m7 115 rfl) rfl
theorem q1724 : (Jvm.Cond.instanceMethod ({ cls := "ToldTracks$Voyage", name := "last", desc := "()I" } : Jvm.MethodName)) ∈ lw_all := lw_g (lw_at lw_m7 116 rfl) rfl
theorem q1725 : (Jvm.Cond.selects "ToldTracks$Voyage" ({ cls := "ToldTracks$Voyage", name := "last", desc := "()I" } : Jvm.MethodName) ({ cls := "ToldTracks$Voyage", name := "last", desc := "()I" } : Jvm.MethodName)) ∈ lw_all := lw_g (lw_at lw_m7 117 rfl) rfl
theorem q1726 : (Jvm.Cond.code ({ cls := "ToldTracks$Voyage", name := "last", desc := "()I" } : Jvm.MethodName) prog_26_method_14_code (1 : Nat) (Option.some Jvm.ClassFile.FieldType.int)) ∈ lw_all := lw_g (lw_at lw_m7 118 rfl) rfl
theorem q1727 : (Jvm.Cond.methodLink "ToldTracks$Voyage" (186 : Nat) ({ cls := "ToldTracks$Voyage", name := "isHonest", desc := "(I)Z" } : Jvm.MethodName)) ∈ lw_all := lw_g (lw_at lw_m7 119 rfl) rfl
theorem q1728 : (Jvm.Cond.instanceMethod ({ cls := "ToldTracks$Voyage", name := "isHonest", desc := "(I)Z" } : Jvm.MethodName)) ∈ lw_all := lw_g (lw_at lw_m7 120 rfl) rfl
theorem q1729 : (Jvm.Cond.selects "ToldTracks$Voyage" ({ cls := "ToldTracks$Voyage", name := "isHonest", desc := "(I)Z" } : Jvm.MethodName) ({ cls := "ToldTracks$Voyage", name := "isHonest", desc := "(I)Z" } : Jvm.MethodName)) ∈ lw_all := lw_g (lw_at lw_m7 121 rfl) rfl
theorem q1730 : (Jvm.Cond.code ({ cls := "ToldTracks$Voyage", name := "isHonest", desc := "(I)Z" } : Jvm.MethodName) prog_26_method_12_code (3 : Nat) (Option.some Jvm.ClassFile.FieldType.boolean)) ∈ lw_all := lw_g (lw_at lw_m7 122 rfl) rfl
theorem q1731 : (Jvm.Cond.methodLink "ToldTracks$Voyage" (167 : Nat) ({ cls := "ToldTracks$Sea", name := "size", desc := "()I" } : Jvm.MethodName)) ∈ lw_all := lw_g (lw_at lw_m7 123 rfl) rfl
theorem q1732 : (Jvm.Cond.methodLinkNest "ToldTracks$Voyage" (171 : Nat) ({ cls := "ToldTracks", name := "isQuiet", desc := "(II)Z" } : Jvm.MethodName) "ToldTracks") ∈ lw_tbl := lw_at lw_m7 124 rfl
theorem q1733 : (Jvm.Cond.methodLink "ToldTracks$Voyage" (168 : Nat) ({ cls := "ToldTracks$Voyage", name := "may", desc := "(II)Z" } : Jvm.MethodName)) ∈ lw_all := lw_g (lw_at lw_m7 125 rfl) rfl
theorem q1910 : (Jvm.Cond.instanceMethod ({ cls := "ToldTracks$Voyage", name := "reach", desc := "(I)I" } : Jvm.MethodName)) ∈ lw_all := lw_g (lw_at lw_m8 62 rfl) rfl
theorem q1911 : (Jvm.Cond.selects "ToldTracks$Voyage" ({ cls := "ToldTracks$Voyage", name := "reach", desc := "(I)I" } : Jvm.MethodName) ({ cls := "ToldTracks$Voyage", name := "reach", desc := "(I)I" } : Jvm.MethodName)) ∈ lw_all := lw_g (lw_at lw_m8 63 rfl) rfl
theorem q1912 : (Jvm.Cond.code ({ cls := "ToldTracks$Voyage", name := "reach", desc := "(I)I" } : Jvm.MethodName) prog_26_method_11_code (4 : Nat) (Option.some Jvm.ClassFile.FieldType.int)) ∈ lw_all := lw_g (lw_at lw_m8 64 rfl) rfl
theorem q2857 : (Jvm.Cond.castable "ToldTracks$Voyage" "java/lang/Object") ∈ lw_tbl := lw_at lw_m12 49 rfl
theorem in_X23 : ∀ w ∈ wsX230, w ∈ lw_all := lw_in wsX230 [1607, 1609, 1611, 1613, 1615, 1617, 1619, 1621] (by decide +kernel) (by decide +kernel)
/-! ToldTracks$Written -/
def RX24 : String := "ToldTracks$Written"
def TX24 : u_T := fun k => match k with
  | 0 => ("ToldTracks$Fact", "cell", "I", true)
  | _ => ("ToldTracks$Fact", "hour", "I", true)
def tyX24 : Nat → FieldType := fun k => match k with
  | 0 => .int
  | _ => .int
abbrev wsX240 : List Cond := u_ws RX24 TX24 2
theorem nmX24 : ∀ a, a < 2 → ∀ b, b < 2 → a ≠ b → (TX24 a).2.1 ≠ (TX24 b).2.1 := by decide +kernel
theorem tyX24_ok : ∀ k, k < 2 → parseFieldDescriptor (TX24 k).2.2.1 = some (tyX24 k) := by decide +kernel
abbrev cX24_init : ByteArray := prog_27_method_1_code
def yX24_init : MethodName := ⟨RX24, "<init>", "(II)V"⟩
def dkwX24_init_0 : List UInt8 := [42, 27, 28, 183, 0, 1, 177]
abbrev dktX24_init_0 : List UInt8 := dkwX24_init_0 ++ []
theorem dksX24_init_0 : cX24_init.data.toList.drop 0 = dktX24_init_0 := by decide +kernel
theorem dX24_init_0 : decode cX24_init 0 = .ok (.aload_n 0, 1) := dk_42 (dk_at dksX24_init_0 0 rfl rfl)
theorem dX24_init_1 : decode cX24_init 1 = .ok (.iload_n 1, 1) := dk_27 (dk_at dksX24_init_0 1 rfl rfl)
theorem dX24_init_2 : decode cX24_init 2 = .ok (.iload_n 2, 1) := dk_28 (dk_at dksX24_init_0 2 rfl rfl)
theorem dX24_init_3 : decode cX24_init 3 = .ok (.invokespecial 1, 3) := dk_183 0 1 (dk_at dksX24_init_0 3 rfl rfl)
theorem dX24_init_6 : decode cX24_init 6 = .ok (.return_, 1) := dk_177 (dk_at dksX24_init_0 6 rfl rfl)
abbrev cX24_isSaid : ByteArray := prog_27_method_2_code
def yX24_isSaid : MethodName := ⟨RX24, "isSaid", "()Z"⟩
theorem dX24_isSaid_0 : decode cX24_isSaid 0 = .ok (.iconst 0, 1) := by decide +kernel
theorem dX24_isSaid_1 : decode cX24_isSaid 1 = .ok (.ireturn, 1) := by decide +kernel
abbrev cX24_isSound : ByteArray := prog_27_method_3_code
def yX24_isSound : MethodName := ⟨RX24, "isSound", "(LToldTracks$Sea;LToldTracks$Ship;)Z"⟩
def dkwX24_isSound_0 : List UInt8 := [43, 180, 0, 7, 42, 180, 0, 13, 46, 44, 180, 0, 19, 161, 0, 7, 4, 167, 0, 4, 3, 172]
abbrev dktX24_isSound_0 : List UInt8 := dkwX24_isSound_0 ++ []
theorem dksX24_isSound_0 : cX24_isSound.data.toList.drop 0 = dktX24_isSound_0 := by decide +kernel
theorem dX24_isSound_0 : decode cX24_isSound 0 = .ok (.aload_n 1, 1) := dk_43 (dk_at dksX24_isSound_0 0 rfl rfl)
theorem dX24_isSound_1 : decode cX24_isSound 1 = .ok (.getfield 7, 3) := dk_180 0 7 (dk_at dksX24_isSound_0 1 rfl rfl)
theorem dX24_isSound_4 : decode cX24_isSound 4 = .ok (.aload_n 0, 1) := dk_42 (dk_at dksX24_isSound_0 4 rfl rfl)
theorem dX24_isSound_5 : decode cX24_isSound 5 = .ok (.getfield 13, 3) := dk_180 0 13 (dk_at dksX24_isSound_0 5 rfl rfl)
theorem dX24_isSound_8 : decode cX24_isSound 8 = .ok (.iaload, 1) := dk_46 (dk_at dksX24_isSound_0 8 rfl rfl)
theorem dX24_isSound_9 : decode cX24_isSound 9 = .ok (.aload_n 2, 1) := dk_44 (dk_at dksX24_isSound_0 9 rfl rfl)
theorem dX24_isSound_10 : decode cX24_isSound 10 = .ok (.getfield 19, 3) := dk_180 0 19 (dk_at dksX24_isSound_0 10 rfl rfl)
theorem dX24_isSound_13 : decode cX24_isSound 13 = .ok (.if_icmp .lt 7, 3) := dk_161 0 7 (dk_at dksX24_isSound_0 13 rfl rfl)
theorem dX24_isSound_16 : decode cX24_isSound 16 = .ok (.iconst 1, 1) := dk_4 (dk_at dksX24_isSound_0 16 rfl rfl)
theorem dX24_isSound_17 : decode cX24_isSound 17 = .ok (.goto 4, 3) := dk_167 0 4 (dk_at dksX24_isSound_0 17 rfl rfl)
theorem dX24_isSound_20 : decode cX24_isSound 20 = .ok (.iconst 0, 1) := dk_3 (dk_at dksX24_isSound_0 20 rfl rfl)
theorem dX24_isSound_21 : decode cX24_isSound 21 = .ok (.ireturn, 1) := dk_172 (dk_at dksX24_isSound_0 21 rfl rfl)
theorem q209 : (Jvm.Cond.initialized "ToldTracks$Written") ∈ lw_all := lw_g (lw_at lw_m1 41 rfl) rfl
theorem q322 : (Jvm.Cond.fieldLink "ToldTracks$Written" (7 : Nat) "ToldTracks$Sea" "depths" "[I") ∈ lw_all := lw_g (lw_at lw_m1 154 rfl) rfl
theorem q972 : (Jvm.Cond.selects "ToldTracks$Written" ({ cls := "java/lang/Object", name := "getClass", desc := "()Ljava/lang/Class;" } : Jvm.MethodName) ({ cls := "java/lang/Object", name := "getClass", desc := "()Ljava/lang/Class;" } : Jvm.MethodName)) ∈ lw_all := lw_g (lw_at lw_m4 84 rfl) rfl
theorem q1152 : (Jvm.Cond.fieldLink "ToldTracks$Written" (19 : Nat) "ToldTracks$Ship" "draft" "I") ∈ lw_all := lw_g (lw_at lw_m5 24 rfl) rfl
theorem q1240 : (Jvm.Cond.fieldLink "ToldTracks$Written" (13 : Nat) "ToldTracks$Written" "cell" "I") ∈ lw_all := lw_g (lw_at lw_m5 112 rfl) rfl
theorem q1241 : (Jvm.Cond.sameField "ToldTracks$Written" "ToldTracks$Fact" "cell" "I") ∈ lw_all := lw_g (lw_at lw_m5 113 rfl) rfl
theorem q1511 : (Jvm.Cond.instantiable "ToldTracks$Written" (2 : Nat)) ∈ lw_all := lw_g (lw_at lw_m6 143 rfl) rfl
theorem q1513 : (Jvm.Cond.instanceMethod ({ cls := "ToldTracks$Written", name := "<init>", desc := "(II)V" } : Jvm.MethodName)) ∈ lw_all := lw_g (lw_at lw_m6 145 rfl) rfl
theorem q1514 : (Jvm.Cond.code ({ cls := "ToldTracks$Written", name := "<init>", desc := "(II)V" } : Jvm.MethodName) prog_27_method_1_code (3 : Nat) (Option.none : Option Jvm.ClassFile.FieldType)) ∈ lw_all := lw_g (lw_at lw_m6 146 rfl) rfl
theorem q1515 : (Jvm.Cond.methodLink "ToldTracks$Written" (1 : Nat) ({ cls := "ToldTracks$Fact", name := "<init>", desc := "(II)V" } : Jvm.MethodName)) ∈ lw_all := lw_g (lw_at lw_m6 147 rfl) rfl
theorem q1516 : (Jvm.Cond.laysFinal "ToldTracks$Written" "ToldTracks$Fact" "cell" "I") ∈ lw_all := lw_g (lw_at lw_m6 148 rfl) rfl
theorem q1517 : (Jvm.Cond.laysFinal "ToldTracks$Written" "ToldTracks$Fact" "hour" "I") ∈ lw_all := lw_g (lw_at lw_m6 149 rfl) rfl
theorem q1518 : (Jvm.Cond.superclass "ToldTracks$Written" "ToldTracks$Fact") ∈ lw_all := lw_g (lw_at lw_m6 150 rfl) rfl
theorem q1531 : (Jvm.Cond.selects "ToldTracks$Written" ({ cls := "ToldTracks$Fact", name := "isSaid", desc := "()Z" } : Jvm.MethodName) ({ cls := "ToldTracks$Written", name := "isSaid", desc := "()Z" } : Jvm.MethodName)) ∈ lw_all := lw_g (lw_at lw_m6 163 rfl) rfl
theorem q1532 : (Jvm.Cond.instanceMethod ({ cls := "ToldTracks$Written", name := "isSaid", desc := "()Z" } : Jvm.MethodName)) ∈ lw_all := lw_g (lw_at lw_m6 164 rfl) rfl
theorem q1533 : (Jvm.Cond.code ({ cls := "ToldTracks$Written", name := "isSaid", desc := "()Z" } : Jvm.MethodName) prog_27_method_2_code (1 : Nat) (Option.some Jvm.ClassFile.FieldType.boolean)) ∈ lw_all := lw_g (lw_at lw_m6 165 rfl) rfl
theorem q1547 : (Jvm.Cond.selects "ToldTracks$Written" ({ cls := "ToldTracks$Fact", name := "isSound", desc := "(LToldTracks$Sea;LToldTracks$Ship;)Z" } : Jvm.MethodName) ({ cls := "ToldTracks$Written", name := "isSound", desc := "(LToldTracks$Sea;LToldTracks$Ship;)Z" } : Jvm.MethodName)) ∈ lw_all := lw_g (lw_at lw_m6 179 rfl) rfl
theorem q1548 : (Jvm.Cond.instanceMethod ({ cls := "ToldTracks$Written", name := "isSound", desc := "(LToldTracks$Sea;LToldTracks$Ship;)Z" } : Jvm.MethodName)) ∈ lw_all := lw_g (lw_at lw_m6 180 rfl) rfl
theorem q1549 : (Jvm.Cond.code ({ cls := "ToldTracks$Written", name := "isSound", desc := "(LToldTracks$Sea;LToldTracks$Ship;)Z" } : Jvm.MethodName) prog_27_method_3_code (3 : Nat) (Option.some Jvm.ClassFile.FieldType.boolean)) ∈ lw_all := lw_g (lw_at lw_m6 181 rfl) rfl
theorem q2832 : (Jvm.Cond.castable "ToldTracks$Written" "ToldTracks$Fact") ∈ lw_tbl := lw_at lw_m12 24 rfl
theorem q2858 : (Jvm.Cond.castable "ToldTracks$Written" "java/lang/Object") ∈ lw_tbl := lw_at lw_m12 50 rfl
theorem in_X24 : ∀ w ∈ wsX240, w ∈ lw_all := lw_in wsX240 [1516, 1517] (by decide +kernel) (by decide +kernel)
/-! ToldTracks$Pair -/
def RX25 : String := "ToldTracks$Pair"
def TX25 : u_T := fun k => match k with
  | 0 => ("ToldTracks$Pair", "v", "LToldTracks$Voyage;", true)
  | 1 => ("ToldTracks$Pair", "side", "[I", true)
  | 2 => ("ToldTracks$Pair", "isWell", "Z", false)
  | _ => ("ToldTracks$Pair", "this$0", "LToldTracks;", true)
def tyX25 : Nat → FieldType := fun k => match k with
  | 0 => .object "ToldTracks$Voyage"
  | 1 => .array .int
  | 2 => .boolean
  | _ => .object "ToldTracks"
abbrev wsX250 : List Cond := u_ws RX25 TX25 4
theorem nmX25 : ∀ a, a < 4 → ∀ b, b < 4 → a ≠ b → (TX25 a).2.1 ≠ (TX25 b).2.1 := by decide +kernel
theorem tyX25_ok : ∀ k, k < 4 → parseFieldDescriptor (TX25 k).2.2.1 = some (tyX25 k) := by decide +kernel
abbrev cX25_init : ByteArray := prog_14_method_1_code
def yX25_init : MethodName := ⟨RX25, "<init>", "(LToldTracks;LToldTracks$Voyage;)V"⟩
def dkwX25_init_9 : List UInt8 := [29, 4, 160, 0, 9, 42, 21, 4, 182, 0, 73, 132, 4, 1, 167, 255, 215, 132, 3, 1, 167, 255, 201, 177]
abbrev dktX25_init_9 : List UInt8 := dkwX25_init_9 ++ []
def dkwX25_init_8 : List UInt8 := [180, 0, 29, 190, 162, 0, 37, 42, 180, 0, 41, 153, 0, 30, 42, 180, 0, 29, 21, 4, 46, 154, 0, 8]
abbrev dktX25_init_8 : List UInt8 := dkwX25_init_8 ++ dktX25_init_9
def dkwX25_init_7 : List UInt8 := [167, 255, 191, 132, 3, 1, 167, 255, 140, 3, 62, 29, 5, 162, 0, 56, 3, 54, 4, 21, 4, 42]
abbrev dktX25_init_7 : List UInt8 := dkwX25_init_7 ++ dktX25_init_8
def dkwX25_init_6 : List UInt8 := [182, 0, 44, 192, 0, 67, 182, 0, 69, 154, 0, 10, 42, 180, 0, 29, 29, 5, 79, 132, 4, 1]
abbrev dktX25_init_6 : List UInt8 := dkwX25_init_6 ++ dktX25_init_7
def dkwX25_init_5 : List UInt8 := [43, 44, 180, 0, 56, 44, 180, 0, 17, 29, 182, 0, 44, 192, 0, 67, 44, 180, 0, 64, 21, 4]
abbrev dktX25_init_5 : List UInt8 := dkwX25_init_5 ++ dktX25_init_6
def dkwX25_init_4 : List UInt8 := [3, 54, 4, 21, 4, 44, 180, 0, 64, 182, 0, 23, 162, 0, 59, 42, 180, 0, 29, 29, 46, 154, 0, 50]
abbrev dktX25_init_4 : List UInt8 := dkwX25_init_4 ++ dktX25_init_5
def dkwX25_init_3 : List UInt8 := [180, 0, 17, 29, 182, 0, 44, 192, 0, 48, 43, 180, 0, 50, 44, 180, 0, 56, 182, 0, 60, 181, 0, 41]
abbrev dktX25_init_3 : List UInt8 := dkwX25_init_3 ++ dktX25_init_4
def dkwX25_init_2 : List UInt8 := [181, 0, 41, 3, 62, 29, 42, 180, 0, 29, 190, 162, 0, 113, 42, 180, 0, 41, 153, 0, 106, 42, 44]
abbrev dktX25_init_2 : List UInt8 := dkwX25_init_2 ++ dktX25_init_3
def dkwX25_init_1 : List UInt8 := [181, 0, 29, 42, 44, 180, 0, 33, 153, 0, 14, 44, 182, 0, 37, 154, 0, 7, 4, 167, 0, 4, 3]
abbrev dktX25_init_1 : List UInt8 := dkwX25_init_1 ++ dktX25_init_2
def dkwX25_init_0 : List UInt8 := [42, 43, 181, 0, 1, 42, 183, 0, 7, 42, 44, 181, 0, 13, 42, 44, 180, 0, 17, 182, 0, 23, 188, 10]
abbrev dktX25_init_0 : List UInt8 := dkwX25_init_0 ++ dktX25_init_1
theorem dksX25_init_0 : cX25_init.data.toList.drop 0 = dktX25_init_0 := by decide +kernel
theorem dksX25_init_1 : cX25_init.data.toList.drop 24 = dktX25_init_1 := dk_seg dksX25_init_0 24 rfl rfl
theorem dksX25_init_2 : cX25_init.data.toList.drop 47 = dktX25_init_2 := dk_seg dksX25_init_1 23 rfl rfl
theorem dksX25_init_3 : cX25_init.data.toList.drop 70 = dktX25_init_3 := dk_seg dksX25_init_2 23 rfl rfl
theorem dksX25_init_4 : cX25_init.data.toList.drop 94 = dktX25_init_4 := dk_seg dksX25_init_3 24 rfl rfl
theorem dksX25_init_5 : cX25_init.data.toList.drop 118 = dktX25_init_5 := dk_seg dksX25_init_4 24 rfl rfl
theorem dksX25_init_6 : cX25_init.data.toList.drop 140 = dktX25_init_6 := dk_seg dksX25_init_5 22 rfl rfl
theorem dksX25_init_7 : cX25_init.data.toList.drop 162 = dktX25_init_7 := dk_seg dksX25_init_6 22 rfl rfl
theorem dksX25_init_8 : cX25_init.data.toList.drop 184 = dktX25_init_8 := dk_seg dksX25_init_7 22 rfl rfl
theorem dksX25_init_9 : cX25_init.data.toList.drop 208 = dktX25_init_9 := dk_seg dksX25_init_8 24 rfl rfl
theorem dX25_init_0 : decode cX25_init 0 = .ok (.aload_n 0, 1) := dk_42 (dk_at dksX25_init_0 0 rfl rfl)
theorem dX25_init_1 : decode cX25_init 1 = .ok (.aload_n 1, 1) := dk_43 (dk_at dksX25_init_0 1 rfl rfl)
theorem dX25_init_2 : decode cX25_init 2 = .ok (.putfield 1, 3) := dk_181 0 1 (dk_at dksX25_init_0 2 rfl rfl)
theorem dX25_init_5 : decode cX25_init 5 = .ok (.aload_n 0, 1) := dk_42 (dk_at dksX25_init_0 5 rfl rfl)
theorem dX25_init_6 : decode cX25_init 6 = .ok (.invokespecial 7, 3) := dk_183 0 7 (dk_at dksX25_init_0 6 rfl rfl)
theorem dX25_init_9 : decode cX25_init 9 = .ok (.aload_n 0, 1) := dk_42 (dk_at dksX25_init_0 9 rfl rfl)
theorem dX25_init_10 : decode cX25_init 10 = .ok (.aload_n 2, 1) := dk_44 (dk_at dksX25_init_0 10 rfl rfl)
theorem dX25_init_11 : decode cX25_init 11 = .ok (.putfield 13, 3) := dk_181 0 13 (dk_at dksX25_init_0 11 rfl rfl)
theorem dX25_init_14 : decode cX25_init 14 = .ok (.aload_n 0, 1) := dk_42 (dk_at dksX25_init_0 14 rfl rfl)
theorem dX25_init_15 : decode cX25_init 15 = .ok (.aload_n 2, 1) := dk_44 (dk_at dksX25_init_0 15 rfl rfl)
theorem dX25_init_16 : decode cX25_init 16 = .ok (.getfield 17, 3) := dk_180 0 17 (dk_at dksX25_init_0 16 rfl rfl)
theorem dX25_init_19 : decode cX25_init 19 = .ok (.invokevirtual 23, 3) := dk_182 0 23 (dk_at dksX25_init_0 19 rfl rfl)
theorem dX25_init_22 : decode cX25_init 22 = .ok (.newarray .int, 2) := dk_188_10 (dk_at dksX25_init_0 22 rfl rfl)
theorem dX25_init_24 : decode cX25_init 24 = .ok (.putfield 29, 3) := dk_181 0 29 (dk_at dksX25_init_1 0 rfl rfl)
theorem dX25_init_27 : decode cX25_init 27 = .ok (.aload_n 0, 1) := dk_42 (dk_at dksX25_init_1 3 rfl rfl)
theorem dX25_init_28 : decode cX25_init 28 = .ok (.aload_n 2, 1) := dk_44 (dk_at dksX25_init_1 4 rfl rfl)
theorem dX25_init_29 : decode cX25_init 29 = .ok (.getfield 33, 3) := dk_180 0 33 (dk_at dksX25_init_1 5 rfl rfl)
theorem dX25_init_32 : decode cX25_init 32 = .ok (.ifCond .eq 14, 3) := dk_153 0 14 (dk_at dksX25_init_1 8 rfl rfl)
theorem dX25_init_35 : decode cX25_init 35 = .ok (.aload_n 2, 1) := dk_44 (dk_at dksX25_init_1 11 rfl rfl)
theorem dX25_init_36 : decode cX25_init 36 = .ok (.invokevirtual 37, 3) := dk_182 0 37 (dk_at dksX25_init_1 12 rfl rfl)
theorem dX25_init_39 : decode cX25_init 39 = .ok (.ifCond .ne 7, 3) := dk_154 0 7 (dk_at dksX25_init_1 15 rfl rfl)
theorem dX25_init_42 : decode cX25_init 42 = .ok (.iconst 1, 1) := dk_4 (dk_at dksX25_init_1 18 rfl rfl)
theorem dX25_init_43 : decode cX25_init 43 = .ok (.goto 4, 3) := dk_167 0 4 (dk_at dksX25_init_1 19 rfl rfl)
theorem dX25_init_46 : decode cX25_init 46 = .ok (.iconst 0, 1) := dk_3 (dk_at dksX25_init_1 22 rfl rfl)
theorem dX25_init_47 : decode cX25_init 47 = .ok (.putfield 41, 3) := dk_181 0 41 (dk_at dksX25_init_2 0 rfl rfl)
theorem dX25_init_50 : decode cX25_init 50 = .ok (.iconst 0, 1) := dk_3 (dk_at dksX25_init_2 3 rfl rfl)
theorem dX25_init_51 : decode cX25_init 51 = .ok (.istore_n 3, 1) := dk_62 (dk_at dksX25_init_2 4 rfl rfl)
theorem dX25_init_52 : decode cX25_init 52 = .ok (.iload_n 3, 1) := dk_29 (dk_at dksX25_init_2 5 rfl rfl)
theorem dX25_init_53 : decode cX25_init 53 = .ok (.aload_n 0, 1) := dk_42 (dk_at dksX25_init_2 6 rfl rfl)
theorem dX25_init_54 : decode cX25_init 54 = .ok (.getfield 29, 3) := dk_180 0 29 (dk_at dksX25_init_2 7 rfl rfl)
theorem dX25_init_57 : decode cX25_init 57 = .ok (.arraylength, 1) := dk_190 (dk_at dksX25_init_2 10 rfl rfl)
theorem dX25_init_58 : decode cX25_init 58 = .ok (.if_icmp .ge 113, 3) := dk_162 0 113 (dk_at dksX25_init_2 11 rfl rfl)
theorem dX25_init_61 : decode cX25_init 61 = .ok (.aload_n 0, 1) := dk_42 (dk_at dksX25_init_2 14 rfl rfl)
theorem dX25_init_62 : decode cX25_init 62 = .ok (.getfield 41, 3) := dk_180 0 41 (dk_at dksX25_init_2 15 rfl rfl)
theorem dX25_init_65 : decode cX25_init 65 = .ok (.ifCond .eq 106, 3) := dk_153 0 106 (dk_at dksX25_init_2 18 rfl rfl)
theorem dX25_init_68 : decode cX25_init 68 = .ok (.aload_n 0, 1) := dk_42 (dk_at dksX25_init_2 21 rfl rfl)
theorem dX25_init_69 : decode cX25_init 69 = .ok (.aload_n 2, 1) := dk_44 (dk_at dksX25_init_2 22 rfl rfl)
theorem dX25_init_70 : decode cX25_init 70 = .ok (.getfield 17, 3) := dk_180 0 17 (dk_at dksX25_init_3 0 rfl rfl)
theorem dX25_init_73 : decode cX25_init 73 = .ok (.iload_n 3, 1) := dk_29 (dk_at dksX25_init_3 3 rfl rfl)
theorem dX25_init_74 : decode cX25_init 74 = .ok (.invokevirtual 44, 3) := dk_182 0 44 (dk_at dksX25_init_3 4 rfl rfl)
theorem dX25_init_77 : decode cX25_init 77 = .ok (.checkcast 48, 3) := dk_192 0 48 (dk_at dksX25_init_3 7 rfl rfl)
theorem dX25_init_80 : decode cX25_init 80 = .ok (.aload_n 1, 1) := dk_43 (dk_at dksX25_init_3 10 rfl rfl)
theorem dX25_init_81 : decode cX25_init 81 = .ok (.getfield 50, 3) := dk_180 0 50 (dk_at dksX25_init_3 11 rfl rfl)
theorem dX25_init_84 : decode cX25_init 84 = .ok (.aload_n 2, 1) := dk_44 (dk_at dksX25_init_3 14 rfl rfl)
theorem dX25_init_85 : decode cX25_init 85 = .ok (.getfield 56, 3) := dk_180 0 56 (dk_at dksX25_init_3 15 rfl rfl)
theorem dX25_init_88 : decode cX25_init 88 = .ok (.invokevirtual 60, 3) := dk_182 0 60 (dk_at dksX25_init_3 18 rfl rfl)
theorem dX25_init_91 : decode cX25_init 91 = .ok (.putfield 41, 3) := dk_181 0 41 (dk_at dksX25_init_3 21 rfl rfl)
theorem dX25_init_94 : decode cX25_init 94 = .ok (.iconst 0, 1) := dk_3 (dk_at dksX25_init_4 0 rfl rfl)
theorem dX25_init_95 : decode cX25_init 95 = .ok (.istore 4, 2) := dk_54 4 (dk_at dksX25_init_4 1 rfl rfl)
theorem dX25_init_97 : decode cX25_init 97 = .ok (.iload 4, 2) := dk_21 4 (dk_at dksX25_init_4 3 rfl rfl)
theorem dX25_init_99 : decode cX25_init 99 = .ok (.aload_n 2, 1) := dk_44 (dk_at dksX25_init_4 5 rfl rfl)
theorem dX25_init_100 : decode cX25_init 100 = .ok (.getfield 64, 3) := dk_180 0 64 (dk_at dksX25_init_4 6 rfl rfl)
theorem dX25_init_103 : decode cX25_init 103 = .ok (.invokevirtual 23, 3) := dk_182 0 23 (dk_at dksX25_init_4 9 rfl rfl)
theorem dX25_init_106 : decode cX25_init 106 = .ok (.if_icmp .ge 59, 3) := dk_162 0 59 (dk_at dksX25_init_4 12 rfl rfl)
theorem dX25_init_109 : decode cX25_init 109 = .ok (.aload_n 0, 1) := dk_42 (dk_at dksX25_init_4 15 rfl rfl)
theorem dX25_init_110 : decode cX25_init 110 = .ok (.getfield 29, 3) := dk_180 0 29 (dk_at dksX25_init_4 16 rfl rfl)
theorem dX25_init_113 : decode cX25_init 113 = .ok (.iload_n 3, 1) := dk_29 (dk_at dksX25_init_4 19 rfl rfl)
theorem dX25_init_114 : decode cX25_init 114 = .ok (.iaload, 1) := dk_46 (dk_at dksX25_init_4 20 rfl rfl)
theorem dX25_init_115 : decode cX25_init 115 = .ok (.ifCond .ne 50, 3) := dk_154 0 50 (dk_at dksX25_init_4 21 rfl rfl)
theorem dX25_init_118 : decode cX25_init 118 = .ok (.aload_n 1, 1) := dk_43 (dk_at dksX25_init_5 0 rfl rfl)
theorem dX25_init_119 : decode cX25_init 119 = .ok (.aload_n 2, 1) := dk_44 (dk_at dksX25_init_5 1 rfl rfl)
theorem dX25_init_120 : decode cX25_init 120 = .ok (.getfield 56, 3) := dk_180 0 56 (dk_at dksX25_init_5 2 rfl rfl)
theorem dX25_init_123 : decode cX25_init 123 = .ok (.aload_n 2, 1) := dk_44 (dk_at dksX25_init_5 5 rfl rfl)
theorem dX25_init_124 : decode cX25_init 124 = .ok (.getfield 17, 3) := dk_180 0 17 (dk_at dksX25_init_5 6 rfl rfl)
theorem dX25_init_127 : decode cX25_init 127 = .ok (.iload_n 3, 1) := dk_29 (dk_at dksX25_init_5 9 rfl rfl)
theorem dX25_init_128 : decode cX25_init 128 = .ok (.invokevirtual 44, 3) := dk_182 0 44 (dk_at dksX25_init_5 10 rfl rfl)
theorem dX25_init_131 : decode cX25_init 131 = .ok (.checkcast 67, 3) := dk_192 0 67 (dk_at dksX25_init_5 13 rfl rfl)
theorem dX25_init_134 : decode cX25_init 134 = .ok (.aload_n 2, 1) := dk_44 (dk_at dksX25_init_5 16 rfl rfl)
theorem dX25_init_135 : decode cX25_init 135 = .ok (.getfield 64, 3) := dk_180 0 64 (dk_at dksX25_init_5 17 rfl rfl)
theorem dX25_init_138 : decode cX25_init 138 = .ok (.iload 4, 2) := dk_21 4 (dk_at dksX25_init_5 20 rfl rfl)
theorem dX25_init_140 : decode cX25_init 140 = .ok (.invokevirtual 44, 3) := dk_182 0 44 (dk_at dksX25_init_6 0 rfl rfl)
theorem dX25_init_143 : decode cX25_init 143 = .ok (.checkcast 67, 3) := dk_192 0 67 (dk_at dksX25_init_6 3 rfl rfl)
theorem dX25_init_146 : decode cX25_init 146 = .ok (.invokevirtual 69, 3) := dk_182 0 69 (dk_at dksX25_init_6 6 rfl rfl)
theorem dX25_init_149 : decode cX25_init 149 = .ok (.ifCond .ne 10, 3) := dk_154 0 10 (dk_at dksX25_init_6 9 rfl rfl)
theorem dX25_init_152 : decode cX25_init 152 = .ok (.aload_n 0, 1) := dk_42 (dk_at dksX25_init_6 12 rfl rfl)
theorem dX25_init_153 : decode cX25_init 153 = .ok (.getfield 29, 3) := dk_180 0 29 (dk_at dksX25_init_6 13 rfl rfl)
theorem dX25_init_156 : decode cX25_init 156 = .ok (.iload_n 3, 1) := dk_29 (dk_at dksX25_init_6 16 rfl rfl)
theorem dX25_init_157 : decode cX25_init 157 = .ok (.iconst 2, 1) := dk_5 (dk_at dksX25_init_6 17 rfl rfl)
theorem dX25_init_158 : decode cX25_init 158 = .ok (.iastore, 1) := dk_79 (dk_at dksX25_init_6 18 rfl rfl)
theorem dX25_init_159 : decode cX25_init 159 = .ok (.iinc 4 1, 3) := dk_132 4 1 (dk_at dksX25_init_6 19 rfl rfl)
theorem dX25_init_162 : decode cX25_init 162 = .ok (.goto (-65), 3) := dk_167 255 191 (dk_at dksX25_init_7 0 rfl rfl)
theorem dX25_init_165 : decode cX25_init 165 = .ok (.iinc 3 1, 3) := dk_132 3 1 (dk_at dksX25_init_7 3 rfl rfl)
theorem dX25_init_168 : decode cX25_init 168 = .ok (.goto (-116), 3) := dk_167 255 140 (dk_at dksX25_init_7 6 rfl rfl)
theorem dX25_init_171 : decode cX25_init 171 = .ok (.iconst 0, 1) := dk_3 (dk_at dksX25_init_7 9 rfl rfl)
theorem dX25_init_172 : decode cX25_init 172 = .ok (.istore_n 3, 1) := dk_62 (dk_at dksX25_init_7 10 rfl rfl)
theorem dX25_init_173 : decode cX25_init 173 = .ok (.iload_n 3, 1) := dk_29 (dk_at dksX25_init_7 11 rfl rfl)
theorem dX25_init_174 : decode cX25_init 174 = .ok (.iconst 2, 1) := dk_5 (dk_at dksX25_init_7 12 rfl rfl)
theorem dX25_init_175 : decode cX25_init 175 = .ok (.if_icmp .ge 56, 3) := dk_162 0 56 (dk_at dksX25_init_7 13 rfl rfl)
theorem dX25_init_178 : decode cX25_init 178 = .ok (.iconst 0, 1) := dk_3 (dk_at dksX25_init_7 16 rfl rfl)
theorem dX25_init_179 : decode cX25_init 179 = .ok (.istore 4, 2) := dk_54 4 (dk_at dksX25_init_7 17 rfl rfl)
theorem dX25_init_181 : decode cX25_init 181 = .ok (.iload 4, 2) := dk_21 4 (dk_at dksX25_init_7 19 rfl rfl)
theorem dX25_init_183 : decode cX25_init 183 = .ok (.aload_n 0, 1) := dk_42 (dk_at dksX25_init_7 21 rfl rfl)
theorem dX25_init_184 : decode cX25_init 184 = .ok (.getfield 29, 3) := dk_180 0 29 (dk_at dksX25_init_8 0 rfl rfl)
theorem dX25_init_187 : decode cX25_init 187 = .ok (.arraylength, 1) := dk_190 (dk_at dksX25_init_8 3 rfl rfl)
theorem dX25_init_188 : decode cX25_init 188 = .ok (.if_icmp .ge 37, 3) := dk_162 0 37 (dk_at dksX25_init_8 4 rfl rfl)
theorem dX25_init_191 : decode cX25_init 191 = .ok (.aload_n 0, 1) := dk_42 (dk_at dksX25_init_8 7 rfl rfl)
theorem dX25_init_192 : decode cX25_init 192 = .ok (.getfield 41, 3) := dk_180 0 41 (dk_at dksX25_init_8 8 rfl rfl)
theorem dX25_init_195 : decode cX25_init 195 = .ok (.ifCond .eq 30, 3) := dk_153 0 30 (dk_at dksX25_init_8 11 rfl rfl)
theorem dX25_init_198 : decode cX25_init 198 = .ok (.aload_n 0, 1) := dk_42 (dk_at dksX25_init_8 14 rfl rfl)
theorem dX25_init_199 : decode cX25_init 199 = .ok (.getfield 29, 3) := dk_180 0 29 (dk_at dksX25_init_8 15 rfl rfl)
theorem dX25_init_202 : decode cX25_init 202 = .ok (.iload 4, 2) := dk_21 4 (dk_at dksX25_init_8 18 rfl rfl)
theorem dX25_init_204 : decode cX25_init 204 = .ok (.iaload, 1) := dk_46 (dk_at dksX25_init_8 20 rfl rfl)
theorem dX25_init_205 : decode cX25_init 205 = .ok (.ifCond .ne 8, 3) := dk_154 0 8 (dk_at dksX25_init_8 21 rfl rfl)
theorem dX25_init_208 : decode cX25_init 208 = .ok (.iload_n 3, 1) := dk_29 (dk_at dksX25_init_9 0 rfl rfl)
theorem dX25_init_209 : decode cX25_init 209 = .ok (.iconst 1, 1) := dk_4 (dk_at dksX25_init_9 1 rfl rfl)
theorem dX25_init_210 : decode cX25_init 210 = .ok (.if_icmp .ne 9, 3) := dk_160 0 9 (dk_at dksX25_init_9 2 rfl rfl)
theorem dX25_init_213 : decode cX25_init 213 = .ok (.aload_n 0, 1) := dk_42 (dk_at dksX25_init_9 5 rfl rfl)
theorem dX25_init_214 : decode cX25_init 214 = .ok (.iload 4, 2) := dk_21 4 (dk_at dksX25_init_9 6 rfl rfl)
theorem dX25_init_216 : decode cX25_init 216 = .ok (.invokevirtual 73, 3) := dk_182 0 73 (dk_at dksX25_init_9 8 rfl rfl)
theorem dX25_init_219 : decode cX25_init 219 = .ok (.iinc 4 1, 3) := dk_132 4 1 (dk_at dksX25_init_9 11 rfl rfl)
theorem dX25_init_222 : decode cX25_init 222 = .ok (.goto (-41), 3) := dk_167 255 215 (dk_at dksX25_init_9 14 rfl rfl)
theorem dX25_init_225 : decode cX25_init 225 = .ok (.iinc 3 1, 3) := dk_132 3 1 (dk_at dksX25_init_9 17 rfl rfl)
theorem dX25_init_228 : decode cX25_init 228 = .ok (.goto (-55), 3) := dk_167 255 201 (dk_at dksX25_init_9 20 rfl rfl)
theorem dX25_init_231 : decode cX25_init 231 = .ok (.return_, 1) := dk_177 (dk_at dksX25_init_9 23 rfl rfl)
abbrev cX25_leads : ByteArray := prog_14_method_2_code
def yX25_leads : MethodName := ⟨RX25, "leads", "(I)V"⟩
def dkwX25_leads_8 : List UInt8 := [21, 5, 184, 0, 78, 182, 0, 84, 87, 132, 5, 1, 167, 255, 125, 132, 3, 1, 167, 255, 88, 177]
abbrev dktX25_leads_8 : List UInt8 := dkwX25_leads_8 ++ []
def dkwX25_leads_7 : List UInt8 := [46, 153, 0, 6, 167, 0, 29, 42, 180, 0, 29, 21, 5, 6, 42, 180, 0, 29, 21, 4, 46, 100, 79, 44]
abbrev dktX25_leads_7 : List UInt8 := dkwX25_leads_7 ++ dktX25_leads_8
def dkwX25_leads_6 : List UInt8 := [21, 5, 46, 42, 180, 0, 29, 21, 4, 46, 160, 0, 8, 42, 3, 181, 0, 41, 42, 180, 0, 29, 21, 5]
abbrev dktX25_leads_6 : List UInt8 := dkwX25_leads_6 ++ dktX25_leads_7
def dkwX25_leads_5 : List UInt8 := [180, 0, 17, 21, 5, 182, 0, 44, 192, 0, 67, 182, 0, 69, 153, 0, 6, 167, 0, 64, 42, 180, 0, 29]
abbrev dktX25_leads_5 : List UInt8 := dkwX25_leads_5 ++ dktX25_leads_6
def dkwX25_leads_4 : List UInt8 := [180, 0, 56, 42, 180, 0, 13, 180, 0, 17, 21, 4, 182, 0, 44, 192, 0, 67, 42, 180, 0, 13]
abbrev dktX25_leads_4 : List UInt8 := dkwX25_leads_4 ++ dktX25_leads_5
def dkwX25_leads_3 : List UInt8 := [180, 0, 29, 190, 162, 0, 127, 21, 5, 21, 4, 159, 0, 114, 42, 180, 0, 1, 42, 180, 0, 13]
abbrev dktX25_leads_3 : List UInt8 := dkwX25_leads_3 ++ dktX25_leads_4
def dkwX25_leads_2 : List UInt8 := [153, 0, 159, 44, 29, 182, 0, 44, 192, 0, 79, 182, 0, 88, 54, 4, 3, 54, 5, 21, 5, 42]
abbrev dktX25_leads_2 : List UInt8 := dkwX25_leads_2 ++ dktX25_leads_3
def dkwX25_leads_1 : List UInt8 := [44, 27, 184, 0, 78, 182, 0, 84, 87, 3, 62, 29, 44, 182, 0, 23, 162, 0, 166, 42, 180, 0, 41]
abbrev dktX25_leads_1 : List UInt8 := dkwX25_leads_1 ++ dktX25_leads_2
def dkwX25_leads_0 : List UInt8 := [187, 0, 24, 89, 183, 0, 77, 77, 42, 180, 0, 29, 27, 46, 154, 0, 10, 42, 180, 0, 29, 27, 4, 79]
abbrev dktX25_leads_0 : List UInt8 := dkwX25_leads_0 ++ dktX25_leads_1
theorem dksX25_leads_0 : cX25_leads.data.toList.drop 0 = dktX25_leads_0 := by decide +kernel
theorem dksX25_leads_1 : cX25_leads.data.toList.drop 24 = dktX25_leads_1 := dk_seg dksX25_leads_0 24 rfl rfl
theorem dksX25_leads_2 : cX25_leads.data.toList.drop 47 = dktX25_leads_2 := dk_seg dksX25_leads_1 23 rfl rfl
theorem dksX25_leads_3 : cX25_leads.data.toList.drop 69 = dktX25_leads_3 := dk_seg dksX25_leads_2 22 rfl rfl
theorem dksX25_leads_4 : cX25_leads.data.toList.drop 91 = dktX25_leads_4 := dk_seg dksX25_leads_3 22 rfl rfl
theorem dksX25_leads_5 : cX25_leads.data.toList.drop 113 = dktX25_leads_5 := dk_seg dksX25_leads_4 22 rfl rfl
theorem dksX25_leads_6 : cX25_leads.data.toList.drop 137 = dktX25_leads_6 := dk_seg dksX25_leads_5 24 rfl rfl
theorem dksX25_leads_7 : cX25_leads.data.toList.drop 161 = dktX25_leads_7 := dk_seg dksX25_leads_6 24 rfl rfl
theorem dksX25_leads_8 : cX25_leads.data.toList.drop 185 = dktX25_leads_8 := dk_seg dksX25_leads_7 24 rfl rfl
theorem dX25_leads_0 : decode cX25_leads 0 = .ok (.new 24, 3) := dk_187 0 24 (dk_at dksX25_leads_0 0 rfl rfl)
theorem dX25_leads_3 : decode cX25_leads 3 = .ok (.dup, 1) := dk_89 (dk_at dksX25_leads_0 3 rfl rfl)
theorem dX25_leads_4 : decode cX25_leads 4 = .ok (.invokespecial 77, 3) := dk_183 0 77 (dk_at dksX25_leads_0 4 rfl rfl)
theorem dX25_leads_7 : decode cX25_leads 7 = .ok (.astore_n 2, 1) := dk_77 (dk_at dksX25_leads_0 7 rfl rfl)
theorem dX25_leads_8 : decode cX25_leads 8 = .ok (.aload_n 0, 1) := dk_42 (dk_at dksX25_leads_0 8 rfl rfl)
theorem dX25_leads_9 : decode cX25_leads 9 = .ok (.getfield 29, 3) := dk_180 0 29 (dk_at dksX25_leads_0 9 rfl rfl)
theorem dX25_leads_12 : decode cX25_leads 12 = .ok (.iload_n 1, 1) := dk_27 (dk_at dksX25_leads_0 12 rfl rfl)
theorem dX25_leads_13 : decode cX25_leads 13 = .ok (.iaload, 1) := dk_46 (dk_at dksX25_leads_0 13 rfl rfl)
theorem dX25_leads_14 : decode cX25_leads 14 = .ok (.ifCond .ne 10, 3) := dk_154 0 10 (dk_at dksX25_leads_0 14 rfl rfl)
theorem dX25_leads_17 : decode cX25_leads 17 = .ok (.aload_n 0, 1) := dk_42 (dk_at dksX25_leads_0 17 rfl rfl)
theorem dX25_leads_18 : decode cX25_leads 18 = .ok (.getfield 29, 3) := dk_180 0 29 (dk_at dksX25_leads_0 18 rfl rfl)
theorem dX25_leads_21 : decode cX25_leads 21 = .ok (.iload_n 1, 1) := dk_27 (dk_at dksX25_leads_0 21 rfl rfl)
theorem dX25_leads_22 : decode cX25_leads 22 = .ok (.iconst 1, 1) := dk_4 (dk_at dksX25_leads_0 22 rfl rfl)
theorem dX25_leads_23 : decode cX25_leads 23 = .ok (.iastore, 1) := dk_79 (dk_at dksX25_leads_0 23 rfl rfl)
theorem dX25_leads_24 : decode cX25_leads 24 = .ok (.aload_n 2, 1) := dk_44 (dk_at dksX25_leads_1 0 rfl rfl)
theorem dX25_leads_25 : decode cX25_leads 25 = .ok (.iload_n 1, 1) := dk_27 (dk_at dksX25_leads_1 1 rfl rfl)
theorem dX25_leads_26 : decode cX25_leads 26 = .ok (.invokestatic 78, 3) := dk_184 0 78 (dk_at dksX25_leads_1 2 rfl rfl)
theorem dX25_leads_29 : decode cX25_leads 29 = .ok (.invokevirtual 84, 3) := dk_182 0 84 (dk_at dksX25_leads_1 5 rfl rfl)
theorem dX25_leads_32 : decode cX25_leads 32 = .ok (.pop, 1) := dk_87 (dk_at dksX25_leads_1 8 rfl rfl)
theorem dX25_leads_33 : decode cX25_leads 33 = .ok (.iconst 0, 1) := dk_3 (dk_at dksX25_leads_1 9 rfl rfl)
theorem dX25_leads_34 : decode cX25_leads 34 = .ok (.istore_n 3, 1) := dk_62 (dk_at dksX25_leads_1 10 rfl rfl)
theorem dX25_leads_35 : decode cX25_leads 35 = .ok (.iload_n 3, 1) := dk_29 (dk_at dksX25_leads_1 11 rfl rfl)
theorem dX25_leads_36 : decode cX25_leads 36 = .ok (.aload_n 2, 1) := dk_44 (dk_at dksX25_leads_1 12 rfl rfl)
theorem dX25_leads_37 : decode cX25_leads 37 = .ok (.invokevirtual 23, 3) := dk_182 0 23 (dk_at dksX25_leads_1 13 rfl rfl)
theorem dX25_leads_40 : decode cX25_leads 40 = .ok (.if_icmp .ge 166, 3) := dk_162 0 166 (dk_at dksX25_leads_1 16 rfl rfl)
theorem dX25_leads_43 : decode cX25_leads 43 = .ok (.aload_n 0, 1) := dk_42 (dk_at dksX25_leads_1 19 rfl rfl)
theorem dX25_leads_44 : decode cX25_leads 44 = .ok (.getfield 41, 3) := dk_180 0 41 (dk_at dksX25_leads_1 20 rfl rfl)
theorem dX25_leads_47 : decode cX25_leads 47 = .ok (.ifCond .eq 159, 3) := dk_153 0 159 (dk_at dksX25_leads_2 0 rfl rfl)
theorem dX25_leads_50 : decode cX25_leads 50 = .ok (.aload_n 2, 1) := dk_44 (dk_at dksX25_leads_2 3 rfl rfl)
theorem dX25_leads_51 : decode cX25_leads 51 = .ok (.iload_n 3, 1) := dk_29 (dk_at dksX25_leads_2 4 rfl rfl)
theorem dX25_leads_52 : decode cX25_leads 52 = .ok (.invokevirtual 44, 3) := dk_182 0 44 (dk_at dksX25_leads_2 5 rfl rfl)
theorem dX25_leads_55 : decode cX25_leads 55 = .ok (.checkcast 79, 3) := dk_192 0 79 (dk_at dksX25_leads_2 8 rfl rfl)
theorem dX25_leads_58 : decode cX25_leads 58 = .ok (.invokevirtual 88, 3) := dk_182 0 88 (dk_at dksX25_leads_2 11 rfl rfl)
theorem dX25_leads_61 : decode cX25_leads 61 = .ok (.istore 4, 2) := dk_54 4 (dk_at dksX25_leads_2 14 rfl rfl)
theorem dX25_leads_63 : decode cX25_leads 63 = .ok (.iconst 0, 1) := dk_3 (dk_at dksX25_leads_2 16 rfl rfl)
theorem dX25_leads_64 : decode cX25_leads 64 = .ok (.istore 5, 2) := dk_54 5 (dk_at dksX25_leads_2 17 rfl rfl)
theorem dX25_leads_66 : decode cX25_leads 66 = .ok (.iload 5, 2) := dk_21 5 (dk_at dksX25_leads_2 19 rfl rfl)
theorem dX25_leads_68 : decode cX25_leads 68 = .ok (.aload_n 0, 1) := dk_42 (dk_at dksX25_leads_2 21 rfl rfl)
theorem dX25_leads_69 : decode cX25_leads 69 = .ok (.getfield 29, 3) := dk_180 0 29 (dk_at dksX25_leads_3 0 rfl rfl)
theorem dX25_leads_72 : decode cX25_leads 72 = .ok (.arraylength, 1) := dk_190 (dk_at dksX25_leads_3 3 rfl rfl)
theorem dX25_leads_73 : decode cX25_leads 73 = .ok (.if_icmp .ge 127, 3) := dk_162 0 127 (dk_at dksX25_leads_3 4 rfl rfl)
theorem dX25_leads_76 : decode cX25_leads 76 = .ok (.iload 5, 2) := dk_21 5 (dk_at dksX25_leads_3 7 rfl rfl)
theorem dX25_leads_78 : decode cX25_leads 78 = .ok (.iload 4, 2) := dk_21 4 (dk_at dksX25_leads_3 9 rfl rfl)
theorem dX25_leads_80 : decode cX25_leads 80 = .ok (.if_icmp .eq 114, 3) := dk_159 0 114 (dk_at dksX25_leads_3 11 rfl rfl)
theorem dX25_leads_83 : decode cX25_leads 83 = .ok (.aload_n 0, 1) := dk_42 (dk_at dksX25_leads_3 14 rfl rfl)
theorem dX25_leads_84 : decode cX25_leads 84 = .ok (.getfield 1, 3) := dk_180 0 1 (dk_at dksX25_leads_3 15 rfl rfl)
theorem dX25_leads_87 : decode cX25_leads 87 = .ok (.aload_n 0, 1) := dk_42 (dk_at dksX25_leads_3 18 rfl rfl)
theorem dX25_leads_88 : decode cX25_leads 88 = .ok (.getfield 13, 3) := dk_180 0 13 (dk_at dksX25_leads_3 19 rfl rfl)
theorem dX25_leads_91 : decode cX25_leads 91 = .ok (.getfield 56, 3) := dk_180 0 56 (dk_at dksX25_leads_4 0 rfl rfl)
theorem dX25_leads_94 : decode cX25_leads 94 = .ok (.aload_n 0, 1) := dk_42 (dk_at dksX25_leads_4 3 rfl rfl)
theorem dX25_leads_95 : decode cX25_leads 95 = .ok (.getfield 13, 3) := dk_180 0 13 (dk_at dksX25_leads_4 4 rfl rfl)
theorem dX25_leads_98 : decode cX25_leads 98 = .ok (.getfield 17, 3) := dk_180 0 17 (dk_at dksX25_leads_4 7 rfl rfl)
theorem dX25_leads_101 : decode cX25_leads 101 = .ok (.iload 4, 2) := dk_21 4 (dk_at dksX25_leads_4 10 rfl rfl)
theorem dX25_leads_103 : decode cX25_leads 103 = .ok (.invokevirtual 44, 3) := dk_182 0 44 (dk_at dksX25_leads_4 12 rfl rfl)
theorem dX25_leads_106 : decode cX25_leads 106 = .ok (.checkcast 67, 3) := dk_192 0 67 (dk_at dksX25_leads_4 15 rfl rfl)
theorem dX25_leads_109 : decode cX25_leads 109 = .ok (.aload_n 0, 1) := dk_42 (dk_at dksX25_leads_4 18 rfl rfl)
theorem dX25_leads_110 : decode cX25_leads 110 = .ok (.getfield 13, 3) := dk_180 0 13 (dk_at dksX25_leads_4 19 rfl rfl)
theorem dX25_leads_113 : decode cX25_leads 113 = .ok (.getfield 17, 3) := dk_180 0 17 (dk_at dksX25_leads_5 0 rfl rfl)
theorem dX25_leads_116 : decode cX25_leads 116 = .ok (.iload 5, 2) := dk_21 5 (dk_at dksX25_leads_5 3 rfl rfl)
theorem dX25_leads_118 : decode cX25_leads 118 = .ok (.invokevirtual 44, 3) := dk_182 0 44 (dk_at dksX25_leads_5 5 rfl rfl)
theorem dX25_leads_121 : decode cX25_leads 121 = .ok (.checkcast 67, 3) := dk_192 0 67 (dk_at dksX25_leads_5 8 rfl rfl)
theorem dX25_leads_124 : decode cX25_leads 124 = .ok (.invokevirtual 69, 3) := dk_182 0 69 (dk_at dksX25_leads_5 11 rfl rfl)
theorem dX25_leads_127 : decode cX25_leads 127 = .ok (.ifCond .eq 6, 3) := dk_153 0 6 (dk_at dksX25_leads_5 14 rfl rfl)
theorem dX25_leads_130 : decode cX25_leads 130 = .ok (.goto 64, 3) := dk_167 0 64 (dk_at dksX25_leads_5 17 rfl rfl)
theorem dX25_leads_133 : decode cX25_leads 133 = .ok (.aload_n 0, 1) := dk_42 (dk_at dksX25_leads_5 20 rfl rfl)
theorem dX25_leads_134 : decode cX25_leads 134 = .ok (.getfield 29, 3) := dk_180 0 29 (dk_at dksX25_leads_5 21 rfl rfl)
theorem dX25_leads_137 : decode cX25_leads 137 = .ok (.iload 5, 2) := dk_21 5 (dk_at dksX25_leads_6 0 rfl rfl)
theorem dX25_leads_139 : decode cX25_leads 139 = .ok (.iaload, 1) := dk_46 (dk_at dksX25_leads_6 2 rfl rfl)
theorem dX25_leads_140 : decode cX25_leads 140 = .ok (.aload_n 0, 1) := dk_42 (dk_at dksX25_leads_6 3 rfl rfl)
theorem dX25_leads_141 : decode cX25_leads 141 = .ok (.getfield 29, 3) := dk_180 0 29 (dk_at dksX25_leads_6 4 rfl rfl)
theorem dX25_leads_144 : decode cX25_leads 144 = .ok (.iload 4, 2) := dk_21 4 (dk_at dksX25_leads_6 7 rfl rfl)
theorem dX25_leads_146 : decode cX25_leads 146 = .ok (.iaload, 1) := dk_46 (dk_at dksX25_leads_6 9 rfl rfl)
theorem dX25_leads_147 : decode cX25_leads 147 = .ok (.if_icmp .ne 8, 3) := dk_160 0 8 (dk_at dksX25_leads_6 10 rfl rfl)
theorem dX25_leads_150 : decode cX25_leads 150 = .ok (.aload_n 0, 1) := dk_42 (dk_at dksX25_leads_6 13 rfl rfl)
theorem dX25_leads_151 : decode cX25_leads 151 = .ok (.iconst 0, 1) := dk_3 (dk_at dksX25_leads_6 14 rfl rfl)
theorem dX25_leads_152 : decode cX25_leads 152 = .ok (.putfield 41, 3) := dk_181 0 41 (dk_at dksX25_leads_6 15 rfl rfl)
theorem dX25_leads_155 : decode cX25_leads 155 = .ok (.aload_n 0, 1) := dk_42 (dk_at dksX25_leads_6 18 rfl rfl)
theorem dX25_leads_156 : decode cX25_leads 156 = .ok (.getfield 29, 3) := dk_180 0 29 (dk_at dksX25_leads_6 19 rfl rfl)
theorem dX25_leads_159 : decode cX25_leads 159 = .ok (.iload 5, 2) := dk_21 5 (dk_at dksX25_leads_6 22 rfl rfl)
theorem dX25_leads_161 : decode cX25_leads 161 = .ok (.iaload, 1) := dk_46 (dk_at dksX25_leads_7 0 rfl rfl)
theorem dX25_leads_162 : decode cX25_leads 162 = .ok (.ifCond .eq 6, 3) := dk_153 0 6 (dk_at dksX25_leads_7 1 rfl rfl)
theorem dX25_leads_165 : decode cX25_leads 165 = .ok (.goto 29, 3) := dk_167 0 29 (dk_at dksX25_leads_7 4 rfl rfl)
theorem dX25_leads_168 : decode cX25_leads 168 = .ok (.aload_n 0, 1) := dk_42 (dk_at dksX25_leads_7 7 rfl rfl)
theorem dX25_leads_169 : decode cX25_leads 169 = .ok (.getfield 29, 3) := dk_180 0 29 (dk_at dksX25_leads_7 8 rfl rfl)
theorem dX25_leads_172 : decode cX25_leads 172 = .ok (.iload 5, 2) := dk_21 5 (dk_at dksX25_leads_7 11 rfl rfl)
theorem dX25_leads_174 : decode cX25_leads 174 = .ok (.iconst 3, 1) := dk_6 (dk_at dksX25_leads_7 13 rfl rfl)
theorem dX25_leads_175 : decode cX25_leads 175 = .ok (.aload_n 0, 1) := dk_42 (dk_at dksX25_leads_7 14 rfl rfl)
theorem dX25_leads_176 : decode cX25_leads 176 = .ok (.getfield 29, 3) := dk_180 0 29 (dk_at dksX25_leads_7 15 rfl rfl)
theorem dX25_leads_179 : decode cX25_leads 179 = .ok (.iload 4, 2) := dk_21 4 (dk_at dksX25_leads_7 18 rfl rfl)
theorem dX25_leads_181 : decode cX25_leads 181 = .ok (.iaload, 1) := dk_46 (dk_at dksX25_leads_7 20 rfl rfl)
theorem dX25_leads_182 : decode cX25_leads 182 = .ok (.isub, 1) := dk_100 (dk_at dksX25_leads_7 21 rfl rfl)
theorem dX25_leads_183 : decode cX25_leads 183 = .ok (.iastore, 1) := dk_79 (dk_at dksX25_leads_7 22 rfl rfl)
theorem dX25_leads_184 : decode cX25_leads 184 = .ok (.aload_n 2, 1) := dk_44 (dk_at dksX25_leads_7 23 rfl rfl)
theorem dX25_leads_185 : decode cX25_leads 185 = .ok (.iload 5, 2) := dk_21 5 (dk_at dksX25_leads_8 0 rfl rfl)
theorem dX25_leads_187 : decode cX25_leads 187 = .ok (.invokestatic 78, 3) := dk_184 0 78 (dk_at dksX25_leads_8 2 rfl rfl)
theorem dX25_leads_190 : decode cX25_leads 190 = .ok (.invokevirtual 84, 3) := dk_182 0 84 (dk_at dksX25_leads_8 5 rfl rfl)
theorem dX25_leads_193 : decode cX25_leads 193 = .ok (.pop, 1) := dk_87 (dk_at dksX25_leads_8 8 rfl rfl)
theorem dX25_leads_194 : decode cX25_leads 194 = .ok (.iinc 5 1, 3) := dk_132 5 1 (dk_at dksX25_leads_8 9 rfl rfl)
theorem dX25_leads_197 : decode cX25_leads 197 = .ok (.goto (-131), 3) := dk_167 255 125 (dk_at dksX25_leads_8 12 rfl rfl)
theorem dX25_leads_200 : decode cX25_leads 200 = .ok (.iinc 3 1, 3) := dk_132 3 1 (dk_at dksX25_leads_8 15 rfl rfl)
theorem dX25_leads_203 : decode cX25_leads 203 = .ok (.goto (-168), 3) := dk_167 255 88 (dk_at dksX25_leads_8 18 rfl rfl)
theorem dX25_leads_206 : decode cX25_leads 206 = .ok (.return_, 1) := dk_177 (dk_at dksX25_leads_8 21 rfl rfl)
abbrev cX25_isThere : ByteArray := prog_14_method_3_code
def yX25_isThere : MethodName := ⟨RX25, "isThere", "()Z"⟩
def dkwX25_isThere_3 : List UInt8 := [153, 0, 11, 28, 153, 0, 7, 4, 167, 0, 4, 3, 172]
abbrev dktX25_isThere_3 : List UInt8 := dkwX25_isThere_3 ++ []
def dkwX25_isThere_2 : List UInt8 := [160, 0, 7, 4, 167, 0, 4, 3, 61, 132, 3, 1, 167, 255, 204, 42, 180, 0, 41, 153, 0, 15, 27]
abbrev dktX25_isThere_2 : List UInt8 := dkwX25_isThere_2 ++ dktX25_isThere_3
def dkwX25_isThere_1 : List UInt8 := [46, 4, 160, 0, 7, 4, 167, 0, 4, 3, 60, 28, 154, 0, 13, 42, 180, 0, 29, 29, 46, 5]
abbrev dktX25_isThere_1 : List UInt8 := dkwX25_isThere_1 ++ dktX25_isThere_2
def dkwX25_isThere_0 : List UInt8 := [3, 60, 3, 61, 3, 62, 29, 42, 180, 0, 29, 190, 162, 0, 49, 27, 154, 0, 13, 42, 180, 0, 29, 29]
abbrev dktX25_isThere_0 : List UInt8 := dkwX25_isThere_0 ++ dktX25_isThere_1
theorem dksX25_isThere_0 : cX25_isThere.data.toList.drop 0 = dktX25_isThere_0 := by decide +kernel
theorem dksX25_isThere_1 : cX25_isThere.data.toList.drop 24 = dktX25_isThere_1 := dk_seg dksX25_isThere_0 24 rfl rfl
theorem dksX25_isThere_2 : cX25_isThere.data.toList.drop 46 = dktX25_isThere_2 := dk_seg dksX25_isThere_1 22 rfl rfl
theorem dksX25_isThere_3 : cX25_isThere.data.toList.drop 69 = dktX25_isThere_3 := dk_seg dksX25_isThere_2 23 rfl rfl
theorem dX25_isThere_0 : decode cX25_isThere 0 = .ok (.iconst 0, 1) := dk_3 (dk_at dksX25_isThere_0 0 rfl rfl)
theorem dX25_isThere_1 : decode cX25_isThere 1 = .ok (.istore_n 1, 1) := dk_60 (dk_at dksX25_isThere_0 1 rfl rfl)
theorem dX25_isThere_2 : decode cX25_isThere 2 = .ok (.iconst 0, 1) := dk_3 (dk_at dksX25_isThere_0 2 rfl rfl)
theorem dX25_isThere_3 : decode cX25_isThere 3 = .ok (.istore_n 2, 1) := dk_61 (dk_at dksX25_isThere_0 3 rfl rfl)
theorem dX25_isThere_4 : decode cX25_isThere 4 = .ok (.iconst 0, 1) := dk_3 (dk_at dksX25_isThere_0 4 rfl rfl)
theorem dX25_isThere_5 : decode cX25_isThere 5 = .ok (.istore_n 3, 1) := dk_62 (dk_at dksX25_isThere_0 5 rfl rfl)
theorem dX25_isThere_6 : decode cX25_isThere 6 = .ok (.iload_n 3, 1) := dk_29 (dk_at dksX25_isThere_0 6 rfl rfl)
theorem dX25_isThere_7 : decode cX25_isThere 7 = .ok (.aload_n 0, 1) := dk_42 (dk_at dksX25_isThere_0 7 rfl rfl)
theorem dX25_isThere_8 : decode cX25_isThere 8 = .ok (.getfield 29, 3) := dk_180 0 29 (dk_at dksX25_isThere_0 8 rfl rfl)
theorem dX25_isThere_11 : decode cX25_isThere 11 = .ok (.arraylength, 1) := dk_190 (dk_at dksX25_isThere_0 11 rfl rfl)
theorem dX25_isThere_12 : decode cX25_isThere 12 = .ok (.if_icmp .ge 49, 3) := dk_162 0 49 (dk_at dksX25_isThere_0 12 rfl rfl)
theorem dX25_isThere_15 : decode cX25_isThere 15 = .ok (.iload_n 1, 1) := dk_27 (dk_at dksX25_isThere_0 15 rfl rfl)
theorem dX25_isThere_16 : decode cX25_isThere 16 = .ok (.ifCond .ne 13, 3) := dk_154 0 13 (dk_at dksX25_isThere_0 16 rfl rfl)
theorem dX25_isThere_19 : decode cX25_isThere 19 = .ok (.aload_n 0, 1) := dk_42 (dk_at dksX25_isThere_0 19 rfl rfl)
theorem dX25_isThere_20 : decode cX25_isThere 20 = .ok (.getfield 29, 3) := dk_180 0 29 (dk_at dksX25_isThere_0 20 rfl rfl)
theorem dX25_isThere_23 : decode cX25_isThere 23 = .ok (.iload_n 3, 1) := dk_29 (dk_at dksX25_isThere_0 23 rfl rfl)
theorem dX25_isThere_24 : decode cX25_isThere 24 = .ok (.iaload, 1) := dk_46 (dk_at dksX25_isThere_1 0 rfl rfl)
theorem dX25_isThere_25 : decode cX25_isThere 25 = .ok (.iconst 1, 1) := dk_4 (dk_at dksX25_isThere_1 1 rfl rfl)
theorem dX25_isThere_26 : decode cX25_isThere 26 = .ok (.if_icmp .ne 7, 3) := dk_160 0 7 (dk_at dksX25_isThere_1 2 rfl rfl)
theorem dX25_isThere_29 : decode cX25_isThere 29 = .ok (.iconst 1, 1) := dk_4 (dk_at dksX25_isThere_1 5 rfl rfl)
theorem dX25_isThere_30 : decode cX25_isThere 30 = .ok (.goto 4, 3) := dk_167 0 4 (dk_at dksX25_isThere_1 6 rfl rfl)
theorem dX25_isThere_33 : decode cX25_isThere 33 = .ok (.iconst 0, 1) := dk_3 (dk_at dksX25_isThere_1 9 rfl rfl)
theorem dX25_isThere_34 : decode cX25_isThere 34 = .ok (.istore_n 1, 1) := dk_60 (dk_at dksX25_isThere_1 10 rfl rfl)
theorem dX25_isThere_35 : decode cX25_isThere 35 = .ok (.iload_n 2, 1) := dk_28 (dk_at dksX25_isThere_1 11 rfl rfl)
theorem dX25_isThere_36 : decode cX25_isThere 36 = .ok (.ifCond .ne 13, 3) := dk_154 0 13 (dk_at dksX25_isThere_1 12 rfl rfl)
theorem dX25_isThere_39 : decode cX25_isThere 39 = .ok (.aload_n 0, 1) := dk_42 (dk_at dksX25_isThere_1 15 rfl rfl)
theorem dX25_isThere_40 : decode cX25_isThere 40 = .ok (.getfield 29, 3) := dk_180 0 29 (dk_at dksX25_isThere_1 16 rfl rfl)
theorem dX25_isThere_43 : decode cX25_isThere 43 = .ok (.iload_n 3, 1) := dk_29 (dk_at dksX25_isThere_1 19 rfl rfl)
theorem dX25_isThere_44 : decode cX25_isThere 44 = .ok (.iaload, 1) := dk_46 (dk_at dksX25_isThere_1 20 rfl rfl)
theorem dX25_isThere_45 : decode cX25_isThere 45 = .ok (.iconst 2, 1) := dk_5 (dk_at dksX25_isThere_1 21 rfl rfl)
theorem dX25_isThere_46 : decode cX25_isThere 46 = .ok (.if_icmp .ne 7, 3) := dk_160 0 7 (dk_at dksX25_isThere_2 0 rfl rfl)
theorem dX25_isThere_49 : decode cX25_isThere 49 = .ok (.iconst 1, 1) := dk_4 (dk_at dksX25_isThere_2 3 rfl rfl)
theorem dX25_isThere_50 : decode cX25_isThere 50 = .ok (.goto 4, 3) := dk_167 0 4 (dk_at dksX25_isThere_2 4 rfl rfl)
theorem dX25_isThere_53 : decode cX25_isThere 53 = .ok (.iconst 0, 1) := dk_3 (dk_at dksX25_isThere_2 7 rfl rfl)
theorem dX25_isThere_54 : decode cX25_isThere 54 = .ok (.istore_n 2, 1) := dk_61 (dk_at dksX25_isThere_2 8 rfl rfl)
theorem dX25_isThere_55 : decode cX25_isThere 55 = .ok (.iinc 3 1, 3) := dk_132 3 1 (dk_at dksX25_isThere_2 9 rfl rfl)
theorem dX25_isThere_58 : decode cX25_isThere 58 = .ok (.goto (-52), 3) := dk_167 255 204 (dk_at dksX25_isThere_2 12 rfl rfl)
theorem dX25_isThere_61 : decode cX25_isThere 61 = .ok (.aload_n 0, 1) := dk_42 (dk_at dksX25_isThere_2 15 rfl rfl)
theorem dX25_isThere_62 : decode cX25_isThere 62 = .ok (.getfield 41, 3) := dk_180 0 41 (dk_at dksX25_isThere_2 16 rfl rfl)
theorem dX25_isThere_65 : decode cX25_isThere 65 = .ok (.ifCond .eq 15, 3) := dk_153 0 15 (dk_at dksX25_isThere_2 19 rfl rfl)
theorem dX25_isThere_68 : decode cX25_isThere 68 = .ok (.iload_n 1, 1) := dk_27 (dk_at dksX25_isThere_2 22 rfl rfl)
theorem dX25_isThere_69 : decode cX25_isThere 69 = .ok (.ifCond .eq 11, 3) := dk_153 0 11 (dk_at dksX25_isThere_3 0 rfl rfl)
theorem dX25_isThere_72 : decode cX25_isThere 72 = .ok (.iload_n 2, 1) := dk_28 (dk_at dksX25_isThere_3 3 rfl rfl)
theorem dX25_isThere_73 : decode cX25_isThere 73 = .ok (.ifCond .eq 7, 3) := dk_153 0 7 (dk_at dksX25_isThere_3 4 rfl rfl)
theorem dX25_isThere_76 : decode cX25_isThere 76 = .ok (.iconst 1, 1) := dk_4 (dk_at dksX25_isThere_3 7 rfl rfl)
theorem dX25_isThere_77 : decode cX25_isThere 77 = .ok (.goto 4, 3) := dk_167 0 4 (dk_at dksX25_isThere_3 8 rfl rfl)
theorem dX25_isThere_80 : decode cX25_isThere 80 = .ok (.iconst 0, 1) := dk_3 (dk_at dksX25_isThere_3 11 rfl rfl)
theorem dX25_isThere_81 : decode cX25_isThere 81 = .ok (.ireturn, 1) := dk_172 (dk_at dksX25_isThere_3 12 rfl rfl)
theorem q210 : (Jvm.Cond.initialized "ToldTracks$Pair") ∈ lw_all := lw_g (lw_at lw_m1 42 rfl) rfl
theorem q388 : (Jvm.Cond.fieldLinkNest "ToldTracks$Pair" (50 : Nat) "ToldTracks" "sea" "LToldTracks$Sea;" "ToldTracks") ∈ lw_tbl := lw_at lw_m1 220 rfl
theorem q961 : (Jvm.Cond.selects "ToldTracks$Pair" ({ cls := "java/lang/Object", name := "getClass", desc := "()Ljava/lang/Class;" } : Jvm.MethodName) ({ cls := "java/lang/Object", name := "getClass", desc := "()Ljava/lang/Class;" } : Jvm.MethodName)) ∈ lw_all := lw_g (lw_at lw_m4 73 rfl) rfl
theorem q1590 : (Jvm.Cond.fieldLink "ToldTracks$Pair" (56 : Nat) "ToldTracks$Voyage" "ship" "LToldTracks$Ship;") ∈ lw_all := lw_g (lw_at lw_m6 222 rfl) rfl
theorem q1592 : (Jvm.Cond.fieldLink "ToldTracks$Pair" (17 : Nat) "ToldTracks$Voyage" "says" "Ljava/util/ArrayList;") ∈ lw_all := lw_g (lw_at lw_m6 224 rfl) rfl
theorem q1596 : (Jvm.Cond.fieldLinkNest "ToldTracks$Pair" (64 : Nat) "ToldTracks$Voyage" "books" "Ljava/util/ArrayList;" "ToldTracks") ∈ lw_tbl := lw_at lw_m6 228 rfl
theorem q1601 : (Jvm.Cond.fieldLink "ToldTracks$Pair" (33 : Nat) "ToldTracks$Voyage" "isWritten" "Z") ∈ lw_all := lw_g (lw_at lw_m6 233 rfl) rfl
theorem q1751 : (Jvm.Cond.instantiable "ToldTracks$Pair" (4 : Nat)) ∈ lw_all := lw_g (lw_at lw_m7 143 rfl) rfl
theorem q1753 : (Jvm.Cond.instanceMethod ({ cls := "ToldTracks$Pair", name := "<init>", desc := "(LToldTracks;LToldTracks$Voyage;)V" } : Jvm.MethodName)) ∈ lw_all := lw_g (lw_at lw_m7 145 rfl) rfl
theorem q1754 : (Jvm.Cond.code ({ cls := "ToldTracks$Pair", name := "<init>", desc := "(LToldTracks;LToldTracks$Voyage;)V" } : Jvm.MethodName) prog_14_method_1_code (5 : Nat) (Option.none : Option Jvm.ClassFile.FieldType)) ∈ lw_all := lw_g (lw_at lw_m7 146 rfl) rfl
theorem q1755 : (Jvm.Cond.methodLink "ToldTracks$Pair" (7 : Nat) ({ cls := "java/lang/Object", name := "<init>", desc := "()V" } : Jvm.MethodName)) ∈ lw_all := lw_g (lw_at lw_m7 147 rfl) rfl
theorem q1756 : (Jvm.Cond.methodLink "ToldTracks$Pair" (23 : Nat) ({ cls := "java/util/ArrayList", name := "size", desc := "()I" } : Jvm.MethodName)) ∈ lw_all := lw_g (lw_at lw_m7 148 rfl) rfl
theorem q1757 : (Jvm.Cond.methodLink "ToldTracks$Pair" (37 : Nat) ({ cls := "ToldTracks$Voyage", name := "fitsAll", desc := "()Z" } : Jvm.MethodName)) ∈ lw_all := lw_g (lw_at lw_m7 149 rfl) rfl
theorem q1758 : (Jvm.Cond.methodLink "ToldTracks$Pair" (44 : Nat) ({ cls := "java/util/ArrayList", name := "get", desc := "(I)Ljava/lang/Object;" } : Jvm.MethodName)) ∈ lw_all := lw_g (lw_at lw_m7 150 rfl) rfl
theorem q1759 : (Jvm.Cond.classLink "ToldTracks$Pair" (48 : Nat) "ToldTracks$Saying") ∈ lw_all := lw_g (lw_at lw_m7 151 rfl) rfl
theorem q1760 : (Jvm.Cond.methodLink "ToldTracks$Pair" (60 : Nat) ({ cls := "ToldTracks$Saying", name := "isSound", desc := "(LToldTracks$Sea;LToldTracks$Ship;)Z" } : Jvm.MethodName)) ∈ lw_all := lw_g (lw_at lw_m7 152 rfl) rfl
theorem q1761 : (Jvm.Cond.classLink "ToldTracks$Pair" (67 : Nat) "ToldTracks$Fact") ∈ lw_all := lw_g (lw_at lw_m7 153 rfl) rfl
theorem q1762 : (Jvm.Cond.methodLinkNest "ToldTracks$Pair" (69 : Nat) ({ cls := "ToldTracks", name := "isTogether", desc := "(LToldTracks$Ship;LToldTracks$Fact;LToldTracks$Fact;)Z" } : Jvm.MethodName) "ToldTracks") ∈ lw_tbl := lw_at lw_m7 154 rfl
theorem q1763 : (Jvm.Cond.methodLink "ToldTracks$Pair" (73 : Nat) ({ cls := "ToldTracks$Pair", name := "leads", desc := "(I)V" } : Jvm.MethodName)) ∈ lw_all := lw_g (lw_at lw_m7 155 rfl) rfl
theorem q1764 : (Jvm.Cond.privateMethod ({ cls := "ToldTracks$Pair", name := "leads", desc := "(I)V" } : Jvm.MethodName)) ∈ lw_tbl := lw_at lw_m7 156 rfl
theorem q1765 : (Jvm.Cond.instanceMethod ({ cls := "ToldTracks$Pair", name := "leads", desc := "(I)V" } : Jvm.MethodName)) ∈ lw_all := lw_g (lw_at lw_m7 157 rfl) rfl
theorem q1766 : (Jvm.Cond.code ({ cls := "ToldTracks$Pair", name := "leads", desc := "(I)V" } : Jvm.MethodName) prog_14_method_2_code (6 : Nat) (Option.none : Option Jvm.ClassFile.FieldType)) ∈ lw_all := lw_g (lw_at lw_m7 158 rfl) rfl
theorem q1767 : (Jvm.Cond.classLink "ToldTracks$Pair" (24 : Nat) "java/util/ArrayList") ∈ lw_all := lw_g (lw_at lw_m7 159 rfl) rfl
theorem q1768 : (Jvm.Cond.methodLink "ToldTracks$Pair" (77 : Nat) ({ cls := "java/util/ArrayList", name := "<init>", desc := "()V" } : Jvm.MethodName)) ∈ lw_all := lw_g (lw_at lw_m7 160 rfl) rfl
theorem q1769 : (Jvm.Cond.methodLink "ToldTracks$Pair" (78 : Nat) ({ cls := "java/lang/Integer", name := "valueOf", desc := "(I)Ljava/lang/Integer;" } : Jvm.MethodName)) ∈ lw_all := lw_g (lw_at lw_m7 161 rfl) rfl
theorem q1789 : (Jvm.Cond.methodLink "ToldTracks$Pair" (84 : Nat) ({ cls := "java/util/ArrayList", name := "add", desc := "(Ljava/lang/Object;)Z" } : Jvm.MethodName)) ∈ lw_all := lw_g (lw_at lw_m7 181 rfl) rfl
theorem q1790 : (Jvm.Cond.classLink "ToldTracks$Pair" (79 : Nat) "java/lang/Integer") ∈ lw_all := lw_g (lw_at lw_m7 182 rfl) rfl
theorem q1791 : (Jvm.Cond.methodLink "ToldTracks$Pair" (88 : Nat) ({ cls := "java/lang/Integer", name := "intValue", desc := "()I" } : Jvm.MethodName)) ∈ lw_all := lw_g (lw_at lw_m7 183 rfl) rfl
theorem q1795 : (Jvm.Cond.fieldLink "ToldTracks$Pair" (13 : Nat) "ToldTracks$Pair" "v" "LToldTracks$Voyage;") ∈ lw_all := lw_g (lw_at lw_m7 187 rfl) rfl
theorem q1796 : (Jvm.Cond.fieldLink "ToldTracks$Pair" (29 : Nat) "ToldTracks$Pair" "side" "[I") ∈ lw_all := lw_g (lw_at lw_m7 188 rfl) rfl
theorem q1797 : (Jvm.Cond.fieldLink "ToldTracks$Pair" (41 : Nat) "ToldTracks$Pair" "isWell" "Z") ∈ lw_all := lw_g (lw_at lw_m7 189 rfl) rfl
theorem q1798 : (Jvm.Cond.fieldLink "ToldTracks$Pair" (1 : Nat) "ToldTracks$Pair" "this$0" "LToldTracks;") ∈ lw_all := lw_g (lw_at lw_m7 190 rfl) rfl
theorem q1799 : (Jvm.Cond.laysFinal "ToldTracks$Pair" "ToldTracks$Pair" "v" "LToldTracks$Voyage;") ∈ lw_all := lw_g (lw_at lw_m7 191 rfl) rfl
theorem q1800 : (Jvm.Cond.soleField "ToldTracks$Pair" "v") ∈ lw_all := lw_g (lw_at lw_m7 192 rfl) rfl
theorem q1801 : (Jvm.Cond.laysFinal "ToldTracks$Pair" "ToldTracks$Pair" "side" "[I") ∈ lw_all := lw_g (lw_at lw_m7 193 rfl) rfl
theorem q1802 : (Jvm.Cond.soleField "ToldTracks$Pair" "side") ∈ lw_all := lw_g (lw_at lw_m7 194 rfl) rfl
theorem q1803 : (Jvm.Cond.lays "ToldTracks$Pair" "ToldTracks$Pair" "isWell" "Z") ∈ lw_all := lw_g (lw_at lw_m7 195 rfl) rfl
theorem q1804 : (Jvm.Cond.soleField "ToldTracks$Pair" "isWell") ∈ lw_all := lw_g (lw_at lw_m7 196 rfl) rfl
theorem q1805 : (Jvm.Cond.laysFinal "ToldTracks$Pair" "ToldTracks$Pair" "this$0" "LToldTracks;") ∈ lw_all := lw_g (lw_at lw_m7 197 rfl) rfl
theorem q1806 : (Jvm.Cond.soleField "ToldTracks$Pair" "this$0") ∈ lw_all := lw_g (lw_at lw_m7 198 rfl) rfl
theorem q1807 : (Jvm.Cond.superclass "ToldTracks$Pair" "java/lang/Object") ∈ lw_all := lw_g (lw_at lw_m7 199 rfl) rfl
theorem q1809 : (Jvm.Cond.instanceMethod ({ cls := "ToldTracks$Pair", name := "isThere", desc := "()Z" } : Jvm.MethodName)) ∈ lw_all := lw_g (lw_at lw_m7 201 rfl) rfl
theorem q1810 : (Jvm.Cond.selects "ToldTracks$Pair" ({ cls := "ToldTracks$Pair", name := "isThere", desc := "()Z" } : Jvm.MethodName) ({ cls := "ToldTracks$Pair", name := "isThere", desc := "()Z" } : Jvm.MethodName)) ∈ lw_all := lw_g (lw_at lw_m7 202 rfl) rfl
theorem q1811 : (Jvm.Cond.code ({ cls := "ToldTracks$Pair", name := "isThere", desc := "()Z" } : Jvm.MethodName) prog_14_method_3_code (4 : Nat) (Option.some Jvm.ClassFile.FieldType.boolean)) ∈ lw_all := lw_g (lw_at lw_m7 203 rfl) rfl
theorem q2859 : (Jvm.Cond.castable "ToldTracks$Pair" "java/lang/Object") ∈ lw_tbl := lw_at lw_m12 51 rfl
theorem in_X25 : ∀ w ∈ wsX250, w ∈ lw_all := lw_in wsX250 [1799, 1801, 1803, 1805] (by decide +kernel) (by decide +kernel)
/-! ToldTracks$Test -/
def RX26 : String := "ToldTracks$Test"
abbrev cX26_not : ByteArray := prog_24_method_2_code
def yX26_not : MethodName := ⟨RX26, "not", "()LToldTracks$Test;"⟩
def dkwX26_not_0 : List UInt8 := [187, 0, 1, 89, 42, 183, 0, 3, 176]
abbrev dktX26_not_0 : List UInt8 := dkwX26_not_0 ++ []
theorem dksX26_not_0 : cX26_not.data.toList.drop 0 = dktX26_not_0 := by decide +kernel
theorem dX26_not_0 : decode cX26_not 0 = .ok (.new 1, 3) := dk_187 0 1 (dk_at dksX26_not_0 0 rfl rfl)
theorem dX26_not_3 : decode cX26_not 3 = .ok (.dup, 1) := dk_89 (dk_at dksX26_not_0 3 rfl rfl)
theorem dX26_not_4 : decode cX26_not 4 = .ok (.aload_n 0, 1) := dk_42 (dk_at dksX26_not_0 4 rfl rfl)
theorem dX26_not_5 : decode cX26_not 5 = .ok (.invokespecial 3, 3) := dk_183 0 3 (dk_at dksX26_not_0 5 rfl rfl)
theorem dX26_not_8 : decode cX26_not 8 = .ok (.areturn, 1) := dk_176 (dk_at dksX26_not_0 8 rfl rfl)
theorem q1043 : (Jvm.Cond.interfaceMethod "ToldTracks$Test" "ToldTracks$Test" "not" "()LToldTracks$Test;") ∈ lw_tbl := lw_at lw_m4 155 rfl
theorem q1044 : (Jvm.Cond.declares ({ cls := "ToldTracks$Test", name := "not", desc := "()LToldTracks$Test;" } : Jvm.MethodName)) ∈ lw_tbl := lw_at lw_m4 156 rfl
theorem q1047 : (Jvm.Cond.instanceMethod ({ cls := "ToldTracks$Test", name := "not", desc := "()LToldTracks$Test;" } : Jvm.MethodName)) ∈ lw_all := lw_g (lw_at lw_m4 159 rfl) rfl
theorem q1048 : (Jvm.Cond.publicMethod ({ cls := "ToldTracks$Test", name := "not", desc := "()LToldTracks$Test;" } : Jvm.MethodName)) ∈ lw_tbl := lw_at lw_m4 160 rfl
theorem q1049 : (Jvm.Cond.code ({ cls := "ToldTracks$Test", name := "not", desc := "()LToldTracks$Test;" } : Jvm.MethodName) prog_24_method_2_code (1 : Nat) (Option.some (Jvm.ClassFile.FieldType.object "ToldTracks$Test"))) ∈ lw_all := lw_g (lw_at lw_m4 161 rfl) rfl
theorem q1050 : (Jvm.Cond.classLink "ToldTracks$Test" (1 : Nat) "ToldTracks$Not") ∈ lw_all := lw_g (lw_at lw_m4 162 rfl) rfl
theorem q1052 : (Jvm.Cond.methodLink "ToldTracks$Test" (3 : Nat) ({ cls := "ToldTracks$Not", name := "<init>", desc := "(LToldTracks$Test;)V" } : Jvm.MethodName)) ∈ lw_all := lw_g (lw_at lw_m4 164 rfl) rfl
theorem q1349 : (Jvm.Cond.interfaceMethod "ToldTracks$Test" "ToldTracks$Test" "holds" "(LToldTracks$Asking;)Z") ∈ lw_tbl := lw_at lw_m5 221 rfl
theorem q1350 : (Jvm.Cond.declares ({ cls := "ToldTracks$Test", name := "holds", desc := "(LToldTracks$Asking;)Z" } : Jvm.MethodName)) ∈ lw_tbl := lw_at lw_m5 222 rfl
theorem q2829 : (Jvm.Cond.initialized "ToldTracks$Test") ∈ lw_all := lw_g (lw_at lw_m12 21 rfl) rfl
/-! java/util/AbstractCollection -/
def RJ0 : String := "java/util/AbstractCollection"
abbrev cJ0_init : ByteArray := prog_50_method_1_code
def yJ0_init : MethodName := ⟨RJ0, "<init>", "()V"⟩
theorem dJ0_init_0 : decode cJ0_init 0 = .ok (.aload_n 0, 1) := by decide +kernel
theorem dJ0_init_1 : decode cJ0_init 1 = .ok (.invokespecial 1, 3) := by decide +kernel
theorem dJ0_init_4 : decode cJ0_init 4 = .ok (.return_, 1) := by decide +kernel
theorem q172 : (Jvm.Cond.initialized "java/util/AbstractCollection") ∈ lw_all := lw_g (lw_at lw_m1 4 rfl) rfl
theorem q243 : (Jvm.Cond.instanceMethod ({ cls := "java/util/AbstractCollection", name := "<init>", desc := "()V" } : Jvm.MethodName)) ∈ lw_all := lw_g (lw_at lw_m1 75 rfl) rfl
theorem q244 : (Jvm.Cond.code ({ cls := "java/util/AbstractCollection", name := "<init>", desc := "()V" } : Jvm.MethodName) prog_50_method_1_code (1 : Nat) (Option.none : Option Jvm.ClassFile.FieldType)) ∈ lw_all := lw_g (lw_at lw_m1 76 rfl) rfl
theorem q245 : (Jvm.Cond.methodLink "java/util/AbstractCollection" (1 : Nat) ({ cls := "java/lang/Object", name := "<init>", desc := "()V" } : Jvm.MethodName)) ∈ lw_all := lw_g (lw_at lw_m1 77 rfl) rfl
/-! java/util/AbstractList -/
def RJ1 : String := "java/util/AbstractList"
abbrev cJ1_init : ByteArray := prog_51_method_1_code
def yJ1_init : MethodName := ⟨RJ1, "<init>", "()V"⟩
def dkwJ1_init_0 : List UInt8 := [42, 183, 0, 1, 42, 3, 181, 0, 7, 177]
abbrev dktJ1_init_0 : List UInt8 := dkwJ1_init_0 ++ []
theorem dksJ1_init_0 : cJ1_init.data.toList.drop 0 = dktJ1_init_0 := by decide +kernel
theorem dJ1_init_0 : decode cJ1_init 0 = .ok (.aload_n 0, 1) := dk_42 (dk_at dksJ1_init_0 0 rfl rfl)
theorem dJ1_init_1 : decode cJ1_init 1 = .ok (.invokespecial 1, 3) := dk_183 0 1 (dk_at dksJ1_init_0 1 rfl rfl)
theorem dJ1_init_4 : decode cJ1_init 4 = .ok (.aload_n 0, 1) := dk_42 (dk_at dksJ1_init_0 4 rfl rfl)
theorem dJ1_init_5 : decode cJ1_init 5 = .ok (.iconst 0, 1) := dk_3 (dk_at dksJ1_init_0 5 rfl rfl)
theorem dJ1_init_6 : decode cJ1_init 6 = .ok (.putfield 7, 3) := dk_181 0 7 (dk_at dksJ1_init_0 6 rfl rfl)
theorem dJ1_init_9 : decode cJ1_init 9 = .ok (.return_, 1) := dk_177 (dk_at dksJ1_init_0 9 rfl rfl)
theorem q173 : (Jvm.Cond.initialized "java/util/AbstractList") ∈ lw_all := lw_g (lw_at lw_m1 5 rfl) rfl
theorem q240 : (Jvm.Cond.instanceMethod ({ cls := "java/util/AbstractList", name := "<init>", desc := "()V" } : Jvm.MethodName)) ∈ lw_all := lw_g (lw_at lw_m1 72 rfl) rfl
theorem q241 : (Jvm.Cond.code ({ cls := "java/util/AbstractList", name := "<init>", desc := "()V" } : Jvm.MethodName) prog_51_method_1_code (1 : Nat) (Option.none : Option Jvm.ClassFile.FieldType)) ∈ lw_all := lw_g (lw_at lw_m1 73 rfl) rfl
theorem q242 : (Jvm.Cond.methodLink "java/util/AbstractList" (1 : Nat) ({ cls := "java/util/AbstractCollection", name := "<init>", desc := "()V" } : Jvm.MethodName)) ∈ lw_all := lw_g (lw_at lw_m1 74 rfl) rfl
theorem q250 : (Jvm.Cond.fieldLink "java/util/AbstractList" (7 : Nat) "java/util/AbstractList" "modCount" "I") ∈ lw_all := lw_g (lw_at lw_m1 82 rfl) rfl
theorem q258 : (Jvm.Cond.soleField "java/util/AbstractList" "modCount") ∈ lw_all := lw_g (lw_at lw_m1 90 rfl) rfl
/-! java/util/ArrayList -/
def RJ2 : String := "java/util/ArrayList"
def TJ2 : u_T := fun k => match k with
  | 0 => ("java/util/AbstractList", "modCount", "I", false)
  | 1 => ("java/util/ArrayList", "elementData", "[Ljava/lang/Object;", false)
  | _ => ("java/util/ArrayList", "size", "I", false)
def tyJ2 : Nat → FieldType := fun k => match k with
  | 0 => .int
  | 1 => .array (.object "java/lang/Object")
  | _ => .int
abbrev wsJ20 : List Cond := u_ws RJ2 TJ2 3
theorem nmJ2 : ∀ a, a < 3 → ∀ b, b < 3 → a ≠ b → (TJ2 a).2.1 ≠ (TJ2 b).2.1 := by decide +kernel
theorem tyJ2_ok : ∀ k, k < 3 → parseFieldDescriptor (TJ2 k).2.2.1 = some (tyJ2 k) := by decide +kernel
abbrev cJ2_init : ByteArray := prog_52_method_2_code
def yJ2_init : MethodName := ⟨RJ2, "<init>", "()V"⟩
def dkwJ2_init_0 : List UInt8 := [42, 183, 0, 1, 42, 178, 0, 39, 181, 0, 9, 177]
abbrev dktJ2_init_0 : List UInt8 := dkwJ2_init_0 ++ []
theorem dksJ2_init_0 : cJ2_init.data.toList.drop 0 = dktJ2_init_0 := by decide +kernel
theorem dJ2_init_0 : decode cJ2_init 0 = .ok (.aload_n 0, 1) := dk_42 (dk_at dksJ2_init_0 0 rfl rfl)
theorem dJ2_init_1 : decode cJ2_init 1 = .ok (.invokespecial 1, 3) := dk_183 0 1 (dk_at dksJ2_init_0 1 rfl rfl)
theorem dJ2_init_4 : decode cJ2_init 4 = .ok (.aload_n 0, 1) := dk_42 (dk_at dksJ2_init_0 4 rfl rfl)
theorem dJ2_init_5 : decode cJ2_init 5 = .ok (.getstatic 39, 3) := dk_178 0 39 (dk_at dksJ2_init_0 5 rfl rfl)
theorem dJ2_init_8 : decode cJ2_init 8 = .ok (.putfield 9, 3) := dk_181 0 9 (dk_at dksJ2_init_0 8 rfl rfl)
theorem dJ2_init_11 : decode cJ2_init 11 = .ok (.return_, 1) := dk_177 (dk_at dksJ2_init_0 11 rfl rfl)
abbrev cJ2_size : ByteArray := prog_52_method_8_code
def yJ2_size : MethodName := ⟨RJ2, "size", "()I"⟩
theorem dJ2_size_0 : decode cJ2_size 0 = .ok (.aload_n 0, 1) := by decide +kernel
theorem dJ2_size_1 : decode cJ2_size 1 = .ok (.getfield 48, 3) := by decide +kernel
theorem dJ2_size_4 : decode cJ2_size 4 = .ok (.ireturn, 1) := by decide +kernel
abbrev cJ2_add : ByteArray := prog_52_method_25_code
def yJ2_add : MethodName := ⟨RJ2, "add", "(Ljava/lang/Object;)Z"⟩
def dkwJ2_add_1 : List UInt8 := [172]
abbrev dktJ2_add_1 : List UInt8 := dkwJ2_add_1 ++ []
def dkwJ2_add_0 : List UInt8 := [42, 89, 180, 0, 63, 4, 96, 181, 0, 63, 42, 43, 42, 180, 0, 9, 42, 180, 0, 48, 182, 0, 131, 4]
abbrev dktJ2_add_0 : List UInt8 := dkwJ2_add_0 ++ dktJ2_add_1
theorem dksJ2_add_0 : cJ2_add.data.toList.drop 0 = dktJ2_add_0 := by decide +kernel
theorem dksJ2_add_1 : cJ2_add.data.toList.drop 24 = dktJ2_add_1 := dk_seg dksJ2_add_0 24 rfl rfl
theorem dJ2_add_0 : decode cJ2_add 0 = .ok (.aload_n 0, 1) := dk_42 (dk_at dksJ2_add_0 0 rfl rfl)
theorem dJ2_add_1 : decode cJ2_add 1 = .ok (.dup, 1) := dk_89 (dk_at dksJ2_add_0 1 rfl rfl)
theorem dJ2_add_2 : decode cJ2_add 2 = .ok (.getfield 63, 3) := dk_180 0 63 (dk_at dksJ2_add_0 2 rfl rfl)
theorem dJ2_add_5 : decode cJ2_add 5 = .ok (.iconst 1, 1) := dk_4 (dk_at dksJ2_add_0 5 rfl rfl)
theorem dJ2_add_6 : decode cJ2_add 6 = .ok (.iadd, 1) := dk_96 (dk_at dksJ2_add_0 6 rfl rfl)
theorem dJ2_add_7 : decode cJ2_add 7 = .ok (.putfield 63, 3) := dk_181 0 63 (dk_at dksJ2_add_0 7 rfl rfl)
theorem dJ2_add_10 : decode cJ2_add 10 = .ok (.aload_n 0, 1) := dk_42 (dk_at dksJ2_add_0 10 rfl rfl)
theorem dJ2_add_11 : decode cJ2_add 11 = .ok (.aload_n 1, 1) := dk_43 (dk_at dksJ2_add_0 11 rfl rfl)
theorem dJ2_add_12 : decode cJ2_add 12 = .ok (.aload_n 0, 1) := dk_42 (dk_at dksJ2_add_0 12 rfl rfl)
theorem dJ2_add_13 : decode cJ2_add 13 = .ok (.getfield 9, 3) := dk_180 0 9 (dk_at dksJ2_add_0 13 rfl rfl)
theorem dJ2_add_16 : decode cJ2_add 16 = .ok (.aload_n 0, 1) := dk_42 (dk_at dksJ2_add_0 16 rfl rfl)
theorem dJ2_add_17 : decode cJ2_add 17 = .ok (.getfield 48, 3) := dk_180 0 48 (dk_at dksJ2_add_0 17 rfl rfl)
theorem dJ2_add_20 : decode cJ2_add 20 = .ok (.invokevirtual 131, 3) := dk_182 0 131 (dk_at dksJ2_add_0 20 rfl rfl)
theorem dJ2_add_23 : decode cJ2_add 23 = .ok (.iconst 1, 1) := dk_4 (dk_at dksJ2_add_0 23 rfl rfl)
theorem dJ2_add_24 : decode cJ2_add 24 = .ok (.ireturn, 1) := dk_172 (dk_at dksJ2_add_1 0 rfl rfl)
abbrev cJ2_add_2 : ByteArray := prog_52_method_24_code
def yJ2_add_2 : MethodName := ⟨RJ2, "add", "(Ljava/lang/Object;[Ljava/lang/Object;I)V"⟩
def dkwJ2_add_2_0 : List UInt8 := [29, 44, 190, 160, 0, 8, 42, 182, 0, 129, 77, 44, 29, 43, 83, 42, 29, 4, 96, 181, 0, 48, 177]
abbrev dktJ2_add_2_0 : List UInt8 := dkwJ2_add_2_0 ++ []
theorem dksJ2_add_2_0 : cJ2_add_2.data.toList.drop 0 = dktJ2_add_2_0 := by decide +kernel
theorem dJ2_add_2_0 : decode cJ2_add_2 0 = .ok (.iload_n 3, 1) := dk_29 (dk_at dksJ2_add_2_0 0 rfl rfl)
theorem dJ2_add_2_1 : decode cJ2_add_2 1 = .ok (.aload_n 2, 1) := dk_44 (dk_at dksJ2_add_2_0 1 rfl rfl)
theorem dJ2_add_2_2 : decode cJ2_add_2 2 = .ok (.arraylength, 1) := dk_190 (dk_at dksJ2_add_2_0 2 rfl rfl)
theorem dJ2_add_2_3 : decode cJ2_add_2 3 = .ok (.if_icmp .ne 8, 3) := dk_160 0 8 (dk_at dksJ2_add_2_0 3 rfl rfl)
theorem dJ2_add_2_6 : decode cJ2_add_2 6 = .ok (.aload_n 0, 1) := dk_42 (dk_at dksJ2_add_2_0 6 rfl rfl)
theorem dJ2_add_2_7 : decode cJ2_add_2 7 = .ok (.invokevirtual 129, 3) := dk_182 0 129 (dk_at dksJ2_add_2_0 7 rfl rfl)
theorem dJ2_add_2_10 : decode cJ2_add_2 10 = .ok (.astore_n 2, 1) := dk_77 (dk_at dksJ2_add_2_0 10 rfl rfl)
theorem dJ2_add_2_11 : decode cJ2_add_2 11 = .ok (.aload_n 2, 1) := dk_44 (dk_at dksJ2_add_2_0 11 rfl rfl)
theorem dJ2_add_2_12 : decode cJ2_add_2 12 = .ok (.iload_n 3, 1) := dk_29 (dk_at dksJ2_add_2_0 12 rfl rfl)
theorem dJ2_add_2_13 : decode cJ2_add_2 13 = .ok (.aload_n 1, 1) := dk_43 (dk_at dksJ2_add_2_0 13 rfl rfl)
theorem dJ2_add_2_14 : decode cJ2_add_2 14 = .ok (.aastore, 1) := dk_83 (dk_at dksJ2_add_2_0 14 rfl rfl)
theorem dJ2_add_2_15 : decode cJ2_add_2 15 = .ok (.aload_n 0, 1) := dk_42 (dk_at dksJ2_add_2_0 15 rfl rfl)
theorem dJ2_add_2_16 : decode cJ2_add_2 16 = .ok (.iload_n 3, 1) := dk_29 (dk_at dksJ2_add_2_0 16 rfl rfl)
theorem dJ2_add_2_17 : decode cJ2_add_2 17 = .ok (.iconst 1, 1) := dk_4 (dk_at dksJ2_add_2_0 17 rfl rfl)
theorem dJ2_add_2_18 : decode cJ2_add_2 18 = .ok (.iadd, 1) := dk_96 (dk_at dksJ2_add_2_0 18 rfl rfl)
theorem dJ2_add_2_19 : decode cJ2_add_2 19 = .ok (.putfield 48, 3) := dk_181 0 48 (dk_at dksJ2_add_2_0 19 rfl rfl)
theorem dJ2_add_2_22 : decode cJ2_add_2 22 = .ok (.return_, 1) := dk_177 (dk_at dksJ2_add_2_0 22 rfl rfl)
abbrev cJ2_grow : ByteArray := prog_52_method_7_code
def yJ2_grow : MethodName := ⟨RJ2, "grow", "()[Ljava/lang/Object;"⟩
def dkwJ2_grow_0 : List UInt8 := [42, 42, 180, 0, 48, 4, 96, 182, 0, 69, 176]
abbrev dktJ2_grow_0 : List UInt8 := dkwJ2_grow_0 ++ []
theorem dksJ2_grow_0 : cJ2_grow.data.toList.drop 0 = dktJ2_grow_0 := by decide +kernel
theorem dJ2_grow_0 : decode cJ2_grow 0 = .ok (.aload_n 0, 1) := dk_42 (dk_at dksJ2_grow_0 0 rfl rfl)
theorem dJ2_grow_1 : decode cJ2_grow 1 = .ok (.aload_n 0, 1) := dk_42 (dk_at dksJ2_grow_0 1 rfl rfl)
theorem dJ2_grow_2 : decode cJ2_grow 2 = .ok (.getfield 48, 3) := dk_180 0 48 (dk_at dksJ2_grow_0 2 rfl rfl)
theorem dJ2_grow_5 : decode cJ2_grow 5 = .ok (.iconst 1, 1) := dk_4 (dk_at dksJ2_grow_0 5 rfl rfl)
theorem dJ2_grow_6 : decode cJ2_grow 6 = .ok (.iadd, 1) := dk_96 (dk_at dksJ2_grow_0 6 rfl rfl)
theorem dJ2_grow_7 : decode cJ2_grow 7 = .ok (.invokevirtual 69, 3) := dk_182 0 69 (dk_at dksJ2_grow_0 7 rfl rfl)
theorem dJ2_grow_10 : decode cJ2_grow 10 = .ok (.areturn, 1) := dk_176 (dk_at dksJ2_grow_0 10 rfl rfl)
abbrev cJ2_grow_2 : ByteArray := prog_52_method_6_code
def yJ2_grow_2 : MethodName := ⟨RJ2, "grow", "(I)[Ljava/lang/Object;"⟩
def dkwJ2_grow_2_2 : List UInt8 := [27, 184, 0, 79, 189, 0, 7, 90, 181, 0, 9, 176]
abbrev dktJ2_grow_2_2 : List UInt8 := dkwJ2_grow_2_2 ++ []
def dkwJ2_grow_2_1 : List UInt8 := [28, 4, 122, 184, 0, 73, 62, 42, 42, 180, 0, 9, 29, 184, 0, 66, 90, 181, 0, 9, 176, 42, 16, 10]
abbrev dktJ2_grow_2_1 : List UInt8 := dkwJ2_grow_2_1 ++ dktJ2_grow_2_2
def dkwJ2_grow_2_0 : List UInt8 := [42, 180, 0, 9, 190, 61, 28, 157, 0, 13, 42, 180, 0, 9, 178, 0, 39, 165, 0, 28, 28, 27, 28, 100]
abbrev dktJ2_grow_2_0 : List UInt8 := dkwJ2_grow_2_0 ++ dktJ2_grow_2_1
theorem dksJ2_grow_2_0 : cJ2_grow_2.data.toList.drop 0 = dktJ2_grow_2_0 := by decide +kernel
theorem dksJ2_grow_2_1 : cJ2_grow_2.data.toList.drop 24 = dktJ2_grow_2_1 := dk_seg dksJ2_grow_2_0 24 rfl rfl
theorem dksJ2_grow_2_2 : cJ2_grow_2.data.toList.drop 48 = dktJ2_grow_2_2 := dk_seg dksJ2_grow_2_1 24 rfl rfl
theorem dJ2_grow_2_0 : decode cJ2_grow_2 0 = .ok (.aload_n 0, 1) := dk_42 (dk_at dksJ2_grow_2_0 0 rfl rfl)
theorem dJ2_grow_2_1 : decode cJ2_grow_2 1 = .ok (.getfield 9, 3) := dk_180 0 9 (dk_at dksJ2_grow_2_0 1 rfl rfl)
theorem dJ2_grow_2_4 : decode cJ2_grow_2 4 = .ok (.arraylength, 1) := dk_190 (dk_at dksJ2_grow_2_0 4 rfl rfl)
theorem dJ2_grow_2_5 : decode cJ2_grow_2 5 = .ok (.istore_n 2, 1) := dk_61 (dk_at dksJ2_grow_2_0 5 rfl rfl)
theorem dJ2_grow_2_6 : decode cJ2_grow_2 6 = .ok (.iload_n 2, 1) := dk_28 (dk_at dksJ2_grow_2_0 6 rfl rfl)
theorem dJ2_grow_2_7 : decode cJ2_grow_2 7 = .ok (.ifCond .gt 13, 3) := dk_157 0 13 (dk_at dksJ2_grow_2_0 7 rfl rfl)
theorem dJ2_grow_2_10 : decode cJ2_grow_2 10 = .ok (.aload_n 0, 1) := dk_42 (dk_at dksJ2_grow_2_0 10 rfl rfl)
theorem dJ2_grow_2_11 : decode cJ2_grow_2 11 = .ok (.getfield 9, 3) := dk_180 0 9 (dk_at dksJ2_grow_2_0 11 rfl rfl)
theorem dJ2_grow_2_14 : decode cJ2_grow_2 14 = .ok (.getstatic 39, 3) := dk_178 0 39 (dk_at dksJ2_grow_2_0 14 rfl rfl)
theorem dJ2_grow_2_17 : decode cJ2_grow_2 17 = .ok (.if_acmp .eq 28, 3) := dk_165 0 28 (dk_at dksJ2_grow_2_0 17 rfl rfl)
theorem dJ2_grow_2_20 : decode cJ2_grow_2 20 = .ok (.iload_n 2, 1) := dk_28 (dk_at dksJ2_grow_2_0 20 rfl rfl)
theorem dJ2_grow_2_21 : decode cJ2_grow_2 21 = .ok (.iload_n 1, 1) := dk_27 (dk_at dksJ2_grow_2_0 21 rfl rfl)
theorem dJ2_grow_2_22 : decode cJ2_grow_2 22 = .ok (.iload_n 2, 1) := dk_28 (dk_at dksJ2_grow_2_0 22 rfl rfl)
theorem dJ2_grow_2_23 : decode cJ2_grow_2 23 = .ok (.isub, 1) := dk_100 (dk_at dksJ2_grow_2_0 23 rfl rfl)
theorem dJ2_grow_2_24 : decode cJ2_grow_2 24 = .ok (.iload_n 2, 1) := dk_28 (dk_at dksJ2_grow_2_1 0 rfl rfl)
theorem dJ2_grow_2_25 : decode cJ2_grow_2 25 = .ok (.iconst 1, 1) := dk_4 (dk_at dksJ2_grow_2_1 1 rfl rfl)
theorem dJ2_grow_2_26 : decode cJ2_grow_2 26 = .ok (.ishr, 1) := dk_122 (dk_at dksJ2_grow_2_1 2 rfl rfl)
theorem dJ2_grow_2_27 : decode cJ2_grow_2 27 = .ok (.invokestatic 73, 3) := dk_184 0 73 (dk_at dksJ2_grow_2_1 3 rfl rfl)
theorem dJ2_grow_2_30 : decode cJ2_grow_2 30 = .ok (.istore_n 3, 1) := dk_62 (dk_at dksJ2_grow_2_1 6 rfl rfl)
theorem dJ2_grow_2_31 : decode cJ2_grow_2 31 = .ok (.aload_n 0, 1) := dk_42 (dk_at dksJ2_grow_2_1 7 rfl rfl)
theorem dJ2_grow_2_32 : decode cJ2_grow_2 32 = .ok (.aload_n 0, 1) := dk_42 (dk_at dksJ2_grow_2_1 8 rfl rfl)
theorem dJ2_grow_2_33 : decode cJ2_grow_2 33 = .ok (.getfield 9, 3) := dk_180 0 9 (dk_at dksJ2_grow_2_1 9 rfl rfl)
theorem dJ2_grow_2_36 : decode cJ2_grow_2 36 = .ok (.iload_n 3, 1) := dk_29 (dk_at dksJ2_grow_2_1 12 rfl rfl)
theorem dJ2_grow_2_37 : decode cJ2_grow_2 37 = .ok (.invokestatic 66, 3) := dk_184 0 66 (dk_at dksJ2_grow_2_1 13 rfl rfl)
theorem dJ2_grow_2_40 : decode cJ2_grow_2 40 = .ok (.dup_x1, 1) := dk_90 (dk_at dksJ2_grow_2_1 16 rfl rfl)
theorem dJ2_grow_2_41 : decode cJ2_grow_2 41 = .ok (.putfield 9, 3) := dk_181 0 9 (dk_at dksJ2_grow_2_1 17 rfl rfl)
theorem dJ2_grow_2_44 : decode cJ2_grow_2 44 = .ok (.areturn, 1) := dk_176 (dk_at dksJ2_grow_2_1 20 rfl rfl)
theorem dJ2_grow_2_45 : decode cJ2_grow_2 45 = .ok (.aload_n 0, 1) := dk_42 (dk_at dksJ2_grow_2_1 21 rfl rfl)
theorem dJ2_grow_2_46 : decode cJ2_grow_2 46 = .ok (.bipush 10, 2) := dk_16 10 (dk_at dksJ2_grow_2_1 22 rfl rfl)
theorem dJ2_grow_2_48 : decode cJ2_grow_2 48 = .ok (.iload_n 1, 1) := dk_27 (dk_at dksJ2_grow_2_2 0 rfl rfl)
theorem dJ2_grow_2_49 : decode cJ2_grow_2 49 = .ok (.invokestatic 79, 3) := dk_184 0 79 (dk_at dksJ2_grow_2_2 1 rfl rfl)
theorem dJ2_grow_2_52 : decode cJ2_grow_2 52 = .ok (.anewarray 7, 3) := dk_189 0 7 (dk_at dksJ2_grow_2_2 4 rfl rfl)
theorem dJ2_grow_2_55 : decode cJ2_grow_2 55 = .ok (.dup_x1, 1) := dk_90 (dk_at dksJ2_grow_2_2 7 rfl rfl)
theorem dJ2_grow_2_56 : decode cJ2_grow_2 56 = .ok (.putfield 9, 3) := dk_181 0 9 (dk_at dksJ2_grow_2_2 8 rfl rfl)
theorem dJ2_grow_2_59 : decode cJ2_grow_2 59 = .ok (.areturn, 1) := dk_176 (dk_at dksJ2_grow_2_2 11 rfl rfl)
abbrev cJ2_get : ByteArray := prog_52_method_20_code
def yJ2_get : MethodName := ⟨RJ2, "get", "(I)Ljava/lang/Object;"⟩
def dkwJ2_get_0 : List UInt8 := [27, 42, 180, 0, 48, 184, 0, 118, 87, 42, 27, 182, 0, 123, 176]
abbrev dktJ2_get_0 : List UInt8 := dkwJ2_get_0 ++ []
theorem dksJ2_get_0 : cJ2_get.data.toList.drop 0 = dktJ2_get_0 := by decide +kernel
theorem dJ2_get_0 : decode cJ2_get 0 = .ok (.iload_n 1, 1) := dk_27 (dk_at dksJ2_get_0 0 rfl rfl)
theorem dJ2_get_1 : decode cJ2_get 1 = .ok (.aload_n 0, 1) := dk_42 (dk_at dksJ2_get_0 1 rfl rfl)
theorem dJ2_get_2 : decode cJ2_get 2 = .ok (.getfield 48, 3) := dk_180 0 48 (dk_at dksJ2_get_0 2 rfl rfl)
theorem dJ2_get_5 : decode cJ2_get 5 = .ok (.invokestatic 118, 3) := dk_184 0 118 (dk_at dksJ2_get_0 5 rfl rfl)
theorem dJ2_get_8 : decode cJ2_get 8 = .ok (.pop, 1) := dk_87 (dk_at dksJ2_get_0 8 rfl rfl)
theorem dJ2_get_9 : decode cJ2_get 9 = .ok (.aload_n 0, 1) := dk_42 (dk_at dksJ2_get_0 9 rfl rfl)
theorem dJ2_get_10 : decode cJ2_get 10 = .ok (.iload_n 1, 1) := dk_27 (dk_at dksJ2_get_0 10 rfl rfl)
theorem dJ2_get_11 : decode cJ2_get 11 = .ok (.invokevirtual 123, 3) := dk_182 0 123 (dk_at dksJ2_get_0 11 rfl rfl)
theorem dJ2_get_14 : decode cJ2_get 14 = .ok (.areturn, 1) := dk_176 (dk_at dksJ2_get_0 14 rfl rfl)
abbrev cJ2_elementData : ByteArray := prog_52_method_18_code
def yJ2_elementData : MethodName := ⟨RJ2, "elementData", "(I)Ljava/lang/Object;"⟩
def dkwJ2_elementData_0 : List UInt8 := [42, 180, 0, 9, 27, 50, 176]
abbrev dktJ2_elementData_0 : List UInt8 := dkwJ2_elementData_0 ++ []
theorem dksJ2_elementData_0 : cJ2_elementData.data.toList.drop 0 = dktJ2_elementData_0 := by decide +kernel
theorem dJ2_elementData_0 : decode cJ2_elementData 0 = .ok (.aload_n 0, 1) := dk_42 (dk_at dksJ2_elementData_0 0 rfl rfl)
theorem dJ2_elementData_1 : decode cJ2_elementData 1 = .ok (.getfield 9, 3) := dk_180 0 9 (dk_at dksJ2_elementData_0 1 rfl rfl)
theorem dJ2_elementData_4 : decode cJ2_elementData 4 = .ok (.iload_n 1, 1) := dk_27 (dk_at dksJ2_elementData_0 4 rfl rfl)
theorem dJ2_elementData_5 : decode cJ2_elementData 5 = .ok (.aaload, 1) := dk_50 (dk_at dksJ2_elementData_0 5 rfl rfl)
theorem dJ2_elementData_6 : decode cJ2_elementData 6 = .ok (.areturn, 1) := dk_176 (dk_at dksJ2_elementData_0 6 rfl rfl)
abbrev cJ2_add_3 : ByteArray := prog_52_method_26_code
def yJ2_add_3 : MethodName := ⟨RJ2, "add", "(ILjava/lang/Object;)V"⟩
def dkwJ2_add_3_2 : List UInt8 := [29, 27, 100, 184, 0, 112, 25, 4, 27, 44, 83, 42, 29, 4, 96, 181, 0, 48, 177]
abbrev dktJ2_add_3_2 : List UInt8 := dkwJ2_add_3_2 ++ []
def dkwJ2_add_3_1 : List UInt8 := [180, 0, 9, 89, 58, 4, 190, 160, 0, 9, 42, 182, 0, 129, 58, 4, 25, 4, 27, 25, 4, 27, 4, 96]
abbrev dktJ2_add_3_1 : List UInt8 := dkwJ2_add_3_1 ++ dktJ2_add_3_2
def dkwJ2_add_3_0 : List UInt8 := [42, 27, 182, 0, 135, 42, 89, 180, 0, 63, 4, 96, 181, 0, 63, 42, 180, 0, 48, 89, 62, 42]
abbrev dktJ2_add_3_0 : List UInt8 := dkwJ2_add_3_0 ++ dktJ2_add_3_1
theorem dksJ2_add_3_0 : cJ2_add_3.data.toList.drop 0 = dktJ2_add_3_0 := by decide +kernel
theorem dksJ2_add_3_1 : cJ2_add_3.data.toList.drop 22 = dktJ2_add_3_1 := dk_seg dksJ2_add_3_0 22 rfl rfl
theorem dksJ2_add_3_2 : cJ2_add_3.data.toList.drop 46 = dktJ2_add_3_2 := dk_seg dksJ2_add_3_1 24 rfl rfl
theorem dJ2_add_3_0 : decode cJ2_add_3 0 = .ok (.aload_n 0, 1) := dk_42 (dk_at dksJ2_add_3_0 0 rfl rfl)
theorem dJ2_add_3_1 : decode cJ2_add_3 1 = .ok (.iload_n 1, 1) := dk_27 (dk_at dksJ2_add_3_0 1 rfl rfl)
theorem dJ2_add_3_2 : decode cJ2_add_3 2 = .ok (.invokevirtual 135, 3) := dk_182 0 135 (dk_at dksJ2_add_3_0 2 rfl rfl)
theorem dJ2_add_3_5 : decode cJ2_add_3 5 = .ok (.aload_n 0, 1) := dk_42 (dk_at dksJ2_add_3_0 5 rfl rfl)
theorem dJ2_add_3_6 : decode cJ2_add_3 6 = .ok (.dup, 1) := dk_89 (dk_at dksJ2_add_3_0 6 rfl rfl)
theorem dJ2_add_3_7 : decode cJ2_add_3 7 = .ok (.getfield 63, 3) := dk_180 0 63 (dk_at dksJ2_add_3_0 7 rfl rfl)
theorem dJ2_add_3_10 : decode cJ2_add_3 10 = .ok (.iconst 1, 1) := dk_4 (dk_at dksJ2_add_3_0 10 rfl rfl)
theorem dJ2_add_3_11 : decode cJ2_add_3 11 = .ok (.iadd, 1) := dk_96 (dk_at dksJ2_add_3_0 11 rfl rfl)
theorem dJ2_add_3_12 : decode cJ2_add_3 12 = .ok (.putfield 63, 3) := dk_181 0 63 (dk_at dksJ2_add_3_0 12 rfl rfl)
theorem dJ2_add_3_15 : decode cJ2_add_3 15 = .ok (.aload_n 0, 1) := dk_42 (dk_at dksJ2_add_3_0 15 rfl rfl)
theorem dJ2_add_3_16 : decode cJ2_add_3 16 = .ok (.getfield 48, 3) := dk_180 0 48 (dk_at dksJ2_add_3_0 16 rfl rfl)
theorem dJ2_add_3_19 : decode cJ2_add_3 19 = .ok (.dup, 1) := dk_89 (dk_at dksJ2_add_3_0 19 rfl rfl)
theorem dJ2_add_3_20 : decode cJ2_add_3 20 = .ok (.istore_n 3, 1) := dk_62 (dk_at dksJ2_add_3_0 20 rfl rfl)
theorem dJ2_add_3_21 : decode cJ2_add_3 21 = .ok (.aload_n 0, 1) := dk_42 (dk_at dksJ2_add_3_0 21 rfl rfl)
theorem dJ2_add_3_22 : decode cJ2_add_3 22 = .ok (.getfield 9, 3) := dk_180 0 9 (dk_at dksJ2_add_3_1 0 rfl rfl)
theorem dJ2_add_3_25 : decode cJ2_add_3 25 = .ok (.dup, 1) := dk_89 (dk_at dksJ2_add_3_1 3 rfl rfl)
theorem dJ2_add_3_26 : decode cJ2_add_3 26 = .ok (.astore 4, 2) := dk_58 4 (dk_at dksJ2_add_3_1 4 rfl rfl)
theorem dJ2_add_3_28 : decode cJ2_add_3 28 = .ok (.arraylength, 1) := dk_190 (dk_at dksJ2_add_3_1 6 rfl rfl)
theorem dJ2_add_3_29 : decode cJ2_add_3 29 = .ok (.if_icmp .ne 9, 3) := dk_160 0 9 (dk_at dksJ2_add_3_1 7 rfl rfl)
theorem dJ2_add_3_32 : decode cJ2_add_3 32 = .ok (.aload_n 0, 1) := dk_42 (dk_at dksJ2_add_3_1 10 rfl rfl)
theorem dJ2_add_3_33 : decode cJ2_add_3 33 = .ok (.invokevirtual 129, 3) := dk_182 0 129 (dk_at dksJ2_add_3_1 11 rfl rfl)
theorem dJ2_add_3_36 : decode cJ2_add_3 36 = .ok (.astore 4, 2) := dk_58 4 (dk_at dksJ2_add_3_1 14 rfl rfl)
theorem dJ2_add_3_38 : decode cJ2_add_3 38 = .ok (.aload 4, 2) := dk_25 4 (dk_at dksJ2_add_3_1 16 rfl rfl)
theorem dJ2_add_3_40 : decode cJ2_add_3 40 = .ok (.iload_n 1, 1) := dk_27 (dk_at dksJ2_add_3_1 18 rfl rfl)
theorem dJ2_add_3_41 : decode cJ2_add_3 41 = .ok (.aload 4, 2) := dk_25 4 (dk_at dksJ2_add_3_1 19 rfl rfl)
theorem dJ2_add_3_43 : decode cJ2_add_3 43 = .ok (.iload_n 1, 1) := dk_27 (dk_at dksJ2_add_3_1 21 rfl rfl)
theorem dJ2_add_3_44 : decode cJ2_add_3 44 = .ok (.iconst 1, 1) := dk_4 (dk_at dksJ2_add_3_1 22 rfl rfl)
theorem dJ2_add_3_45 : decode cJ2_add_3 45 = .ok (.iadd, 1) := dk_96 (dk_at dksJ2_add_3_1 23 rfl rfl)
theorem dJ2_add_3_46 : decode cJ2_add_3 46 = .ok (.iload_n 3, 1) := dk_29 (dk_at dksJ2_add_3_2 0 rfl rfl)
theorem dJ2_add_3_47 : decode cJ2_add_3 47 = .ok (.iload_n 1, 1) := dk_27 (dk_at dksJ2_add_3_2 1 rfl rfl)
theorem dJ2_add_3_48 : decode cJ2_add_3 48 = .ok (.isub, 1) := dk_100 (dk_at dksJ2_add_3_2 2 rfl rfl)
theorem dJ2_add_3_49 : decode cJ2_add_3 49 = .ok (.invokestatic 112, 3) := dk_184 0 112 (dk_at dksJ2_add_3_2 3 rfl rfl)
theorem dJ2_add_3_52 : decode cJ2_add_3 52 = .ok (.aload 4, 2) := dk_25 4 (dk_at dksJ2_add_3_2 6 rfl rfl)
theorem dJ2_add_3_54 : decode cJ2_add_3 54 = .ok (.iload_n 1, 1) := dk_27 (dk_at dksJ2_add_3_2 8 rfl rfl)
theorem dJ2_add_3_55 : decode cJ2_add_3 55 = .ok (.aload_n 2, 1) := dk_44 (dk_at dksJ2_add_3_2 9 rfl rfl)
theorem dJ2_add_3_56 : decode cJ2_add_3 56 = .ok (.aastore, 1) := dk_83 (dk_at dksJ2_add_3_2 10 rfl rfl)
theorem dJ2_add_3_57 : decode cJ2_add_3 57 = .ok (.aload_n 0, 1) := dk_42 (dk_at dksJ2_add_3_2 11 rfl rfl)
theorem dJ2_add_3_58 : decode cJ2_add_3 58 = .ok (.iload_n 3, 1) := dk_29 (dk_at dksJ2_add_3_2 12 rfl rfl)
theorem dJ2_add_3_59 : decode cJ2_add_3 59 = .ok (.iconst 1, 1) := dk_4 (dk_at dksJ2_add_3_2 13 rfl rfl)
theorem dJ2_add_3_60 : decode cJ2_add_3 60 = .ok (.iadd, 1) := dk_96 (dk_at dksJ2_add_3_2 14 rfl rfl)
theorem dJ2_add_3_61 : decode cJ2_add_3 61 = .ok (.putfield 48, 3) := dk_181 0 48 (dk_at dksJ2_add_3_2 15 rfl rfl)
theorem dJ2_add_3_64 : decode cJ2_add_3 64 = .ok (.return_, 1) := dk_177 (dk_at dksJ2_add_3_2 18 rfl rfl)
abbrev cJ2_rangeCheckForAdd : ByteArray := prog_52_method_45_code
def yJ2_rangeCheckForAdd : MethodName := ⟨RJ2, "rangeCheckForAdd", "(I)V"⟩
def dkwJ2_rangeCheckForAdd_1 : List UInt8 := [191, 177]
abbrev dktJ2_rangeCheckForAdd_1 : List UInt8 := dkwJ2_rangeCheckForAdd_1 ++ []
def dkwJ2_rangeCheckForAdd_0 : List UInt8 := [27, 42, 180, 0, 48, 163, 0, 7, 27, 156, 0, 16, 187, 0, 187, 89, 42, 27, 182, 0, 198, 183, 0, 193]
abbrev dktJ2_rangeCheckForAdd_0 : List UInt8 := dkwJ2_rangeCheckForAdd_0 ++ dktJ2_rangeCheckForAdd_1
theorem dksJ2_rangeCheckForAdd_0 : cJ2_rangeCheckForAdd.data.toList.drop 0 = dktJ2_rangeCheckForAdd_0 := by decide +kernel
theorem dksJ2_rangeCheckForAdd_1 : cJ2_rangeCheckForAdd.data.toList.drop 24 = dktJ2_rangeCheckForAdd_1 := dk_seg dksJ2_rangeCheckForAdd_0 24 rfl rfl
theorem dJ2_rangeCheckForAdd_0 : decode cJ2_rangeCheckForAdd 0 = .ok (.iload_n 1, 1) := dk_27 (dk_at dksJ2_rangeCheckForAdd_0 0 rfl rfl)
theorem dJ2_rangeCheckForAdd_1 : decode cJ2_rangeCheckForAdd 1 = .ok (.aload_n 0, 1) := dk_42 (dk_at dksJ2_rangeCheckForAdd_0 1 rfl rfl)
theorem dJ2_rangeCheckForAdd_2 : decode cJ2_rangeCheckForAdd 2 = .ok (.getfield 48, 3) := dk_180 0 48 (dk_at dksJ2_rangeCheckForAdd_0 2 rfl rfl)
theorem dJ2_rangeCheckForAdd_5 : decode cJ2_rangeCheckForAdd 5 = .ok (.if_icmp .gt 7, 3) := dk_163 0 7 (dk_at dksJ2_rangeCheckForAdd_0 5 rfl rfl)
theorem dJ2_rangeCheckForAdd_8 : decode cJ2_rangeCheckForAdd 8 = .ok (.iload_n 1, 1) := dk_27 (dk_at dksJ2_rangeCheckForAdd_0 8 rfl rfl)
theorem dJ2_rangeCheckForAdd_9 : decode cJ2_rangeCheckForAdd 9 = .ok (.ifCond .ge 16, 3) := dk_156 0 16 (dk_at dksJ2_rangeCheckForAdd_0 9 rfl rfl)
theorem dJ2_rangeCheckForAdd_12 : decode cJ2_rangeCheckForAdd 12 = .ok (.new 187, 3) := dk_187 0 187 (dk_at dksJ2_rangeCheckForAdd_0 12 rfl rfl)
theorem dJ2_rangeCheckForAdd_15 : decode cJ2_rangeCheckForAdd 15 = .ok (.dup, 1) := dk_89 (dk_at dksJ2_rangeCheckForAdd_0 15 rfl rfl)
theorem dJ2_rangeCheckForAdd_16 : decode cJ2_rangeCheckForAdd 16 = .ok (.aload_n 0, 1) := dk_42 (dk_at dksJ2_rangeCheckForAdd_0 16 rfl rfl)
theorem dJ2_rangeCheckForAdd_17 : decode cJ2_rangeCheckForAdd 17 = .ok (.iload_n 1, 1) := dk_27 (dk_at dksJ2_rangeCheckForAdd_0 17 rfl rfl)
theorem dJ2_rangeCheckForAdd_18 : decode cJ2_rangeCheckForAdd 18 = .ok (.invokevirtual 198, 3) := dk_182 0 198 (dk_at dksJ2_rangeCheckForAdd_0 18 rfl rfl)
theorem dJ2_rangeCheckForAdd_21 : decode cJ2_rangeCheckForAdd 21 = .ok (.invokespecial 193, 3) := dk_183 0 193 (dk_at dksJ2_rangeCheckForAdd_0 21 rfl rfl)
theorem dJ2_rangeCheckForAdd_24 : decode cJ2_rangeCheckForAdd 24 = .ok (.athrow, 1) := dk_191 (dk_at dksJ2_rangeCheckForAdd_1 0 rfl rfl)
theorem dJ2_rangeCheckForAdd_25 : decode cJ2_rangeCheckForAdd 25 = .ok (.return_, 1) := dk_177 (dk_at dksJ2_rangeCheckForAdd_1 1 rfl rfl)
abbrev cJ2_clear : ByteArray := prog_52_method_40_code
def yJ2_clear : MethodName := ⟨RJ2, "clear", "()V"⟩
def dkwJ2_clear_1 : List UInt8 := [181, 0, 48, 62, 29, 28, 162, 0, 13, 43, 29, 1, 83, 132, 3, 1, 167, 255, 244, 177]
abbrev dktJ2_clear_1 : List UInt8 := dkwJ2_clear_1 ++ []
def dkwJ2_clear_0 : List UInt8 := [42, 89, 180, 0, 63, 4, 96, 181, 0, 63, 42, 180, 0, 9, 76, 42, 180, 0, 48, 61, 42, 3, 90]
abbrev dktJ2_clear_0 : List UInt8 := dkwJ2_clear_0 ++ dktJ2_clear_1
theorem dksJ2_clear_0 : cJ2_clear.data.toList.drop 0 = dktJ2_clear_0 := by decide +kernel
theorem dksJ2_clear_1 : cJ2_clear.data.toList.drop 23 = dktJ2_clear_1 := dk_seg dksJ2_clear_0 23 rfl rfl
theorem dJ2_clear_0 : decode cJ2_clear 0 = .ok (.aload_n 0, 1) := dk_42 (dk_at dksJ2_clear_0 0 rfl rfl)
theorem dJ2_clear_1 : decode cJ2_clear 1 = .ok (.dup, 1) := dk_89 (dk_at dksJ2_clear_0 1 rfl rfl)
theorem dJ2_clear_2 : decode cJ2_clear 2 = .ok (.getfield 63, 3) := dk_180 0 63 (dk_at dksJ2_clear_0 2 rfl rfl)
theorem dJ2_clear_5 : decode cJ2_clear 5 = .ok (.iconst 1, 1) := dk_4 (dk_at dksJ2_clear_0 5 rfl rfl)
theorem dJ2_clear_6 : decode cJ2_clear 6 = .ok (.iadd, 1) := dk_96 (dk_at dksJ2_clear_0 6 rfl rfl)
theorem dJ2_clear_7 : decode cJ2_clear 7 = .ok (.putfield 63, 3) := dk_181 0 63 (dk_at dksJ2_clear_0 7 rfl rfl)
theorem dJ2_clear_10 : decode cJ2_clear 10 = .ok (.aload_n 0, 1) := dk_42 (dk_at dksJ2_clear_0 10 rfl rfl)
theorem dJ2_clear_11 : decode cJ2_clear 11 = .ok (.getfield 9, 3) := dk_180 0 9 (dk_at dksJ2_clear_0 11 rfl rfl)
theorem dJ2_clear_14 : decode cJ2_clear 14 = .ok (.astore_n 1, 1) := dk_76 (dk_at dksJ2_clear_0 14 rfl rfl)
theorem dJ2_clear_15 : decode cJ2_clear 15 = .ok (.aload_n 0, 1) := dk_42 (dk_at dksJ2_clear_0 15 rfl rfl)
theorem dJ2_clear_16 : decode cJ2_clear 16 = .ok (.getfield 48, 3) := dk_180 0 48 (dk_at dksJ2_clear_0 16 rfl rfl)
theorem dJ2_clear_19 : decode cJ2_clear 19 = .ok (.istore_n 2, 1) := dk_61 (dk_at dksJ2_clear_0 19 rfl rfl)
theorem dJ2_clear_20 : decode cJ2_clear 20 = .ok (.aload_n 0, 1) := dk_42 (dk_at dksJ2_clear_0 20 rfl rfl)
theorem dJ2_clear_21 : decode cJ2_clear 21 = .ok (.iconst 0, 1) := dk_3 (dk_at dksJ2_clear_0 21 rfl rfl)
theorem dJ2_clear_22 : decode cJ2_clear 22 = .ok (.dup_x1, 1) := dk_90 (dk_at dksJ2_clear_0 22 rfl rfl)
theorem dJ2_clear_23 : decode cJ2_clear 23 = .ok (.putfield 48, 3) := dk_181 0 48 (dk_at dksJ2_clear_1 0 rfl rfl)
theorem dJ2_clear_26 : decode cJ2_clear 26 = .ok (.istore_n 3, 1) := dk_62 (dk_at dksJ2_clear_1 3 rfl rfl)
theorem dJ2_clear_27 : decode cJ2_clear 27 = .ok (.iload_n 3, 1) := dk_29 (dk_at dksJ2_clear_1 4 rfl rfl)
theorem dJ2_clear_28 : decode cJ2_clear 28 = .ok (.iload_n 2, 1) := dk_28 (dk_at dksJ2_clear_1 5 rfl rfl)
theorem dJ2_clear_29 : decode cJ2_clear 29 = .ok (.if_icmp .ge 13, 3) := dk_162 0 13 (dk_at dksJ2_clear_1 6 rfl rfl)
theorem dJ2_clear_32 : decode cJ2_clear 32 = .ok (.aload_n 1, 1) := dk_43 (dk_at dksJ2_clear_1 9 rfl rfl)
theorem dJ2_clear_33 : decode cJ2_clear 33 = .ok (.iload_n 3, 1) := dk_29 (dk_at dksJ2_clear_1 10 rfl rfl)
theorem dJ2_clear_34 : decode cJ2_clear 34 = .ok (.aconst_null, 1) := dk_1 (dk_at dksJ2_clear_1 11 rfl rfl)
theorem dJ2_clear_35 : decode cJ2_clear 35 = .ok (.aastore, 1) := dk_83 (dk_at dksJ2_clear_1 12 rfl rfl)
theorem dJ2_clear_36 : decode cJ2_clear 36 = .ok (.iinc 3 1, 3) := dk_132 3 1 (dk_at dksJ2_clear_1 13 rfl rfl)
theorem dJ2_clear_39 : decode cJ2_clear 39 = .ok (.goto (-12), 3) := dk_167 255 244 (dk_at dksJ2_clear_1 16 rfl rfl)
theorem dJ2_clear_42 : decode cJ2_clear 42 = .ok (.return_, 1) := dk_177 (dk_at dksJ2_clear_1 19 rfl rfl)
abbrev cJ2_isEmpty : ByteArray := prog_52_method_9_code
def yJ2_isEmpty : MethodName := ⟨RJ2, "isEmpty", "()Z"⟩
def dkwJ2_isEmpty_0 : List UInt8 := [42, 180, 0, 48, 154, 0, 7, 4, 167, 0, 4, 3, 172]
abbrev dktJ2_isEmpty_0 : List UInt8 := dkwJ2_isEmpty_0 ++ []
theorem dksJ2_isEmpty_0 : cJ2_isEmpty.data.toList.drop 0 = dktJ2_isEmpty_0 := by decide +kernel
theorem dJ2_isEmpty_0 : decode cJ2_isEmpty 0 = .ok (.aload_n 0, 1) := dk_42 (dk_at dksJ2_isEmpty_0 0 rfl rfl)
theorem dJ2_isEmpty_1 : decode cJ2_isEmpty 1 = .ok (.getfield 48, 3) := dk_180 0 48 (dk_at dksJ2_isEmpty_0 1 rfl rfl)
theorem dJ2_isEmpty_4 : decode cJ2_isEmpty 4 = .ok (.ifCond .ne 7, 3) := dk_154 0 7 (dk_at dksJ2_isEmpty_0 4 rfl rfl)
theorem dJ2_isEmpty_7 : decode cJ2_isEmpty 7 = .ok (.iconst 1, 1) := dk_4 (dk_at dksJ2_isEmpty_0 7 rfl rfl)
theorem dJ2_isEmpty_8 : decode cJ2_isEmpty 8 = .ok (.goto 4, 3) := dk_167 0 4 (dk_at dksJ2_isEmpty_0 8 rfl rfl)
theorem dJ2_isEmpty_11 : decode cJ2_isEmpty 11 = .ok (.iconst 0, 1) := dk_3 (dk_at dksJ2_isEmpty_0 11 rfl rfl)
theorem dJ2_isEmpty_12 : decode cJ2_isEmpty 12 = .ok (.ireturn, 1) := dk_172 (dk_at dksJ2_isEmpty_0 12 rfl rfl)
abbrev cJ2_set : ByteArray := prog_52_method_23_code
def yJ2_set : MethodName := ⟨RJ2, "set", "(ILjava/lang/Object;)Ljava/lang/Object;"⟩
def dkwJ2_set_0 : List UInt8 := [27, 42, 180, 0, 48, 184, 0, 118, 87, 42, 27, 182, 0, 123, 78, 42, 180, 0, 9, 27, 44, 83, 45, 176]
abbrev dktJ2_set_0 : List UInt8 := dkwJ2_set_0 ++ []
theorem dksJ2_set_0 : cJ2_set.data.toList.drop 0 = dktJ2_set_0 := by decide +kernel
theorem dJ2_set_0 : decode cJ2_set 0 = .ok (.iload_n 1, 1) := dk_27 (dk_at dksJ2_set_0 0 rfl rfl)
theorem dJ2_set_1 : decode cJ2_set 1 = .ok (.aload_n 0, 1) := dk_42 (dk_at dksJ2_set_0 1 rfl rfl)
theorem dJ2_set_2 : decode cJ2_set 2 = .ok (.getfield 48, 3) := dk_180 0 48 (dk_at dksJ2_set_0 2 rfl rfl)
theorem dJ2_set_5 : decode cJ2_set 5 = .ok (.invokestatic 118, 3) := dk_184 0 118 (dk_at dksJ2_set_0 5 rfl rfl)
theorem dJ2_set_8 : decode cJ2_set 8 = .ok (.pop, 1) := dk_87 (dk_at dksJ2_set_0 8 rfl rfl)
theorem dJ2_set_9 : decode cJ2_set 9 = .ok (.aload_n 0, 1) := dk_42 (dk_at dksJ2_set_0 9 rfl rfl)
theorem dJ2_set_10 : decode cJ2_set 10 = .ok (.iload_n 1, 1) := dk_27 (dk_at dksJ2_set_0 10 rfl rfl)
theorem dJ2_set_11 : decode cJ2_set 11 = .ok (.invokevirtual 123, 3) := dk_182 0 123 (dk_at dksJ2_set_0 11 rfl rfl)
theorem dJ2_set_14 : decode cJ2_set 14 = .ok (.astore_n 3, 1) := dk_78 (dk_at dksJ2_set_0 14 rfl rfl)
theorem dJ2_set_15 : decode cJ2_set 15 = .ok (.aload_n 0, 1) := dk_42 (dk_at dksJ2_set_0 15 rfl rfl)
theorem dJ2_set_16 : decode cJ2_set 16 = .ok (.getfield 9, 3) := dk_180 0 9 (dk_at dksJ2_set_0 16 rfl rfl)
theorem dJ2_set_19 : decode cJ2_set 19 = .ok (.iload_n 1, 1) := dk_27 (dk_at dksJ2_set_0 19 rfl rfl)
theorem dJ2_set_20 : decode cJ2_set 20 = .ok (.aload_n 2, 1) := dk_44 (dk_at dksJ2_set_0 20 rfl rfl)
theorem dJ2_set_21 : decode cJ2_set 21 = .ok (.aastore, 1) := dk_83 (dk_at dksJ2_set_0 21 rfl rfl)
theorem dJ2_set_22 : decode cJ2_set 22 = .ok (.aload_n 3, 1) := dk_45 (dk_at dksJ2_set_0 22 rfl rfl)
theorem dJ2_set_23 : decode cJ2_set 23 = .ok (.areturn, 1) := dk_176 (dk_at dksJ2_set_0 23 rfl rfl)
abbrev cJ2_remove : ByteArray := prog_52_method_29_code
def yJ2_remove : MethodName := ⟨RJ2, "remove", "(I)Ljava/lang/Object;"⟩
def dkwJ2_remove_1 : List UInt8 := [45, 176]
abbrev dktJ2_remove_1 : List UInt8 := dkwJ2_remove_1 ++ []
def dkwJ2_remove_0 : List UInt8 := [27, 42, 180, 0, 48, 184, 0, 118, 87, 42, 180, 0, 9, 77, 44, 27, 50, 78, 42, 44, 27, 182, 0, 144]
abbrev dktJ2_remove_0 : List UInt8 := dkwJ2_remove_0 ++ dktJ2_remove_1
theorem dksJ2_remove_0 : cJ2_remove.data.toList.drop 0 = dktJ2_remove_0 := by decide +kernel
theorem dksJ2_remove_1 : cJ2_remove.data.toList.drop 24 = dktJ2_remove_1 := dk_seg dksJ2_remove_0 24 rfl rfl
theorem dJ2_remove_0 : decode cJ2_remove 0 = .ok (.iload_n 1, 1) := dk_27 (dk_at dksJ2_remove_0 0 rfl rfl)
theorem dJ2_remove_1 : decode cJ2_remove 1 = .ok (.aload_n 0, 1) := dk_42 (dk_at dksJ2_remove_0 1 rfl rfl)
theorem dJ2_remove_2 : decode cJ2_remove 2 = .ok (.getfield 48, 3) := dk_180 0 48 (dk_at dksJ2_remove_0 2 rfl rfl)
theorem dJ2_remove_5 : decode cJ2_remove 5 = .ok (.invokestatic 118, 3) := dk_184 0 118 (dk_at dksJ2_remove_0 5 rfl rfl)
theorem dJ2_remove_8 : decode cJ2_remove 8 = .ok (.pop, 1) := dk_87 (dk_at dksJ2_remove_0 8 rfl rfl)
theorem dJ2_remove_9 : decode cJ2_remove 9 = .ok (.aload_n 0, 1) := dk_42 (dk_at dksJ2_remove_0 9 rfl rfl)
theorem dJ2_remove_10 : decode cJ2_remove 10 = .ok (.getfield 9, 3) := dk_180 0 9 (dk_at dksJ2_remove_0 10 rfl rfl)
theorem dJ2_remove_13 : decode cJ2_remove 13 = .ok (.astore_n 2, 1) := dk_77 (dk_at dksJ2_remove_0 13 rfl rfl)
theorem dJ2_remove_14 : decode cJ2_remove 14 = .ok (.aload_n 2, 1) := dk_44 (dk_at dksJ2_remove_0 14 rfl rfl)
theorem dJ2_remove_15 : decode cJ2_remove 15 = .ok (.iload_n 1, 1) := dk_27 (dk_at dksJ2_remove_0 15 rfl rfl)
theorem dJ2_remove_16 : decode cJ2_remove 16 = .ok (.aaload, 1) := dk_50 (dk_at dksJ2_remove_0 16 rfl rfl)
theorem dJ2_remove_17 : decode cJ2_remove 17 = .ok (.astore_n 3, 1) := dk_78 (dk_at dksJ2_remove_0 17 rfl rfl)
theorem dJ2_remove_18 : decode cJ2_remove 18 = .ok (.aload_n 0, 1) := dk_42 (dk_at dksJ2_remove_0 18 rfl rfl)
theorem dJ2_remove_19 : decode cJ2_remove 19 = .ok (.aload_n 2, 1) := dk_44 (dk_at dksJ2_remove_0 19 rfl rfl)
theorem dJ2_remove_20 : decode cJ2_remove 20 = .ok (.iload_n 1, 1) := dk_27 (dk_at dksJ2_remove_0 20 rfl rfl)
theorem dJ2_remove_21 : decode cJ2_remove 21 = .ok (.invokevirtual 144, 3) := dk_182 0 144 (dk_at dksJ2_remove_0 21 rfl rfl)
theorem dJ2_remove_24 : decode cJ2_remove 24 = .ok (.aload_n 3, 1) := dk_45 (dk_at dksJ2_remove_1 0 rfl rfl)
theorem dJ2_remove_25 : decode cJ2_remove 25 = .ok (.areturn, 1) := dk_176 (dk_at dksJ2_remove_1 1 rfl rfl)
abbrev cJ2_fastRemove : ByteArray := prog_52_method_39_code
def yJ2_fastRemove : MethodName := ⟨RJ2, "fastRemove", "([Ljava/lang/Object;I)V"⟩
def dkwJ2_fastRemove_1 : List UInt8 := [4, 96, 43, 28, 29, 28, 100, 184, 0, 112, 43, 42, 29, 90, 181, 0, 48, 1, 83, 177]
abbrev dktJ2_fastRemove_1 : List UInt8 := dkwJ2_fastRemove_1 ++ []
def dkwJ2_fastRemove_0 : List UInt8 := [42, 89, 180, 0, 63, 4, 96, 181, 0, 63, 42, 180, 0, 48, 4, 100, 89, 62, 28, 164, 0, 15, 43, 28]
abbrev dktJ2_fastRemove_0 : List UInt8 := dkwJ2_fastRemove_0 ++ dktJ2_fastRemove_1
theorem dksJ2_fastRemove_0 : cJ2_fastRemove.data.toList.drop 0 = dktJ2_fastRemove_0 := by decide +kernel
theorem dksJ2_fastRemove_1 : cJ2_fastRemove.data.toList.drop 24 = dktJ2_fastRemove_1 := dk_seg dksJ2_fastRemove_0 24 rfl rfl
theorem dJ2_fastRemove_0 : decode cJ2_fastRemove 0 = .ok (.aload_n 0, 1) := dk_42 (dk_at dksJ2_fastRemove_0 0 rfl rfl)
theorem dJ2_fastRemove_1 : decode cJ2_fastRemove 1 = .ok (.dup, 1) := dk_89 (dk_at dksJ2_fastRemove_0 1 rfl rfl)
theorem dJ2_fastRemove_2 : decode cJ2_fastRemove 2 = .ok (.getfield 63, 3) := dk_180 0 63 (dk_at dksJ2_fastRemove_0 2 rfl rfl)
theorem dJ2_fastRemove_5 : decode cJ2_fastRemove 5 = .ok (.iconst 1, 1) := dk_4 (dk_at dksJ2_fastRemove_0 5 rfl rfl)
theorem dJ2_fastRemove_6 : decode cJ2_fastRemove 6 = .ok (.iadd, 1) := dk_96 (dk_at dksJ2_fastRemove_0 6 rfl rfl)
theorem dJ2_fastRemove_7 : decode cJ2_fastRemove 7 = .ok (.putfield 63, 3) := dk_181 0 63 (dk_at dksJ2_fastRemove_0 7 rfl rfl)
theorem dJ2_fastRemove_10 : decode cJ2_fastRemove 10 = .ok (.aload_n 0, 1) := dk_42 (dk_at dksJ2_fastRemove_0 10 rfl rfl)
theorem dJ2_fastRemove_11 : decode cJ2_fastRemove 11 = .ok (.getfield 48, 3) := dk_180 0 48 (dk_at dksJ2_fastRemove_0 11 rfl rfl)
theorem dJ2_fastRemove_14 : decode cJ2_fastRemove 14 = .ok (.iconst 1, 1) := dk_4 (dk_at dksJ2_fastRemove_0 14 rfl rfl)
theorem dJ2_fastRemove_15 : decode cJ2_fastRemove 15 = .ok (.isub, 1) := dk_100 (dk_at dksJ2_fastRemove_0 15 rfl rfl)
theorem dJ2_fastRemove_16 : decode cJ2_fastRemove 16 = .ok (.dup, 1) := dk_89 (dk_at dksJ2_fastRemove_0 16 rfl rfl)
theorem dJ2_fastRemove_17 : decode cJ2_fastRemove 17 = .ok (.istore_n 3, 1) := dk_62 (dk_at dksJ2_fastRemove_0 17 rfl rfl)
theorem dJ2_fastRemove_18 : decode cJ2_fastRemove 18 = .ok (.iload_n 2, 1) := dk_28 (dk_at dksJ2_fastRemove_0 18 rfl rfl)
theorem dJ2_fastRemove_19 : decode cJ2_fastRemove 19 = .ok (.if_icmp .le 15, 3) := dk_164 0 15 (dk_at dksJ2_fastRemove_0 19 rfl rfl)
theorem dJ2_fastRemove_22 : decode cJ2_fastRemove 22 = .ok (.aload_n 1, 1) := dk_43 (dk_at dksJ2_fastRemove_0 22 rfl rfl)
theorem dJ2_fastRemove_23 : decode cJ2_fastRemove 23 = .ok (.iload_n 2, 1) := dk_28 (dk_at dksJ2_fastRemove_0 23 rfl rfl)
theorem dJ2_fastRemove_24 : decode cJ2_fastRemove 24 = .ok (.iconst 1, 1) := dk_4 (dk_at dksJ2_fastRemove_1 0 rfl rfl)
theorem dJ2_fastRemove_25 : decode cJ2_fastRemove 25 = .ok (.iadd, 1) := dk_96 (dk_at dksJ2_fastRemove_1 1 rfl rfl)
theorem dJ2_fastRemove_26 : decode cJ2_fastRemove 26 = .ok (.aload_n 1, 1) := dk_43 (dk_at dksJ2_fastRemove_1 2 rfl rfl)
theorem dJ2_fastRemove_27 : decode cJ2_fastRemove 27 = .ok (.iload_n 2, 1) := dk_28 (dk_at dksJ2_fastRemove_1 3 rfl rfl)
theorem dJ2_fastRemove_28 : decode cJ2_fastRemove 28 = .ok (.iload_n 3, 1) := dk_29 (dk_at dksJ2_fastRemove_1 4 rfl rfl)
theorem dJ2_fastRemove_29 : decode cJ2_fastRemove 29 = .ok (.iload_n 2, 1) := dk_28 (dk_at dksJ2_fastRemove_1 5 rfl rfl)
theorem dJ2_fastRemove_30 : decode cJ2_fastRemove 30 = .ok (.isub, 1) := dk_100 (dk_at dksJ2_fastRemove_1 6 rfl rfl)
theorem dJ2_fastRemove_31 : decode cJ2_fastRemove 31 = .ok (.invokestatic 112, 3) := dk_184 0 112 (dk_at dksJ2_fastRemove_1 7 rfl rfl)
theorem dJ2_fastRemove_34 : decode cJ2_fastRemove 34 = .ok (.aload_n 1, 1) := dk_43 (dk_at dksJ2_fastRemove_1 10 rfl rfl)
theorem dJ2_fastRemove_35 : decode cJ2_fastRemove 35 = .ok (.aload_n 0, 1) := dk_42 (dk_at dksJ2_fastRemove_1 11 rfl rfl)
theorem dJ2_fastRemove_36 : decode cJ2_fastRemove 36 = .ok (.iload_n 3, 1) := dk_29 (dk_at dksJ2_fastRemove_1 12 rfl rfl)
theorem dJ2_fastRemove_37 : decode cJ2_fastRemove 37 = .ok (.dup_x1, 1) := dk_90 (dk_at dksJ2_fastRemove_1 13 rfl rfl)
theorem dJ2_fastRemove_38 : decode cJ2_fastRemove 38 = .ok (.putfield 48, 3) := dk_181 0 48 (dk_at dksJ2_fastRemove_1 14 rfl rfl)
theorem dJ2_fastRemove_41 : decode cJ2_fastRemove 41 = .ok (.aconst_null, 1) := dk_1 (dk_at dksJ2_fastRemove_1 17 rfl rfl)
theorem dJ2_fastRemove_42 : decode cJ2_fastRemove 42 = .ok (.aastore, 1) := dk_83 (dk_at dksJ2_fastRemove_1 18 rfl rfl)
theorem dJ2_fastRemove_43 : decode cJ2_fastRemove 43 = .ok (.return_, 1) := dk_177 (dk_at dksJ2_fastRemove_1 19 rfl rfl)
theorem q174 : (Jvm.Cond.initialized "java/util/ArrayList") ∈ lw_all := lw_g (lw_at lw_m1 6 rfl) rfl
theorem q235 : (Jvm.Cond.instantiable "java/util/ArrayList" (3 : Nat)) ∈ lw_all := lw_g (lw_at lw_m1 67 rfl) rfl
theorem q237 : (Jvm.Cond.instanceMethod ({ cls := "java/util/ArrayList", name := "<init>", desc := "()V" } : Jvm.MethodName)) ∈ lw_all := lw_g (lw_at lw_m1 69 rfl) rfl
theorem q238 : (Jvm.Cond.code ({ cls := "java/util/ArrayList", name := "<init>", desc := "()V" } : Jvm.MethodName) prog_52_method_2_code (1 : Nat) (Option.none : Option Jvm.ClassFile.FieldType)) ∈ lw_all := lw_g (lw_at lw_m1 70 rfl) rfl
theorem q239 : (Jvm.Cond.methodLink "java/util/ArrayList" (1 : Nat) ({ cls := "java/util/AbstractList", name := "<init>", desc := "()V" } : Jvm.MethodName)) ∈ lw_all := lw_g (lw_at lw_m1 71 rfl) rfl
theorem q246 : (Jvm.Cond.fieldLink "java/util/ArrayList" (39 : Nat) "java/util/ArrayList" "DEFAULTCAPACITY_EMPTY_ELEMENTDATA" "[Ljava/lang/Object;") ∈ lw_all := lw_g (lw_at lw_m1 78 rfl) rfl
theorem q247 : (Jvm.Cond.laysStatic "java/util/ArrayList" "DEFAULTCAPACITY_EMPTY_ELEMENTDATA" "[Ljava/lang/Object;") ∈ lw_tbl := lw_at lw_m1 79 rfl
theorem q248 : (Jvm.Cond.fieldLink "java/util/ArrayList" (9 : Nat) "java/util/ArrayList" "elementData" "[Ljava/lang/Object;") ∈ lw_all := lw_g (lw_at lw_m1 80 rfl) rfl
theorem q249 : (Jvm.Cond.fieldLink "java/util/ArrayList" (48 : Nat) "java/util/ArrayList" "size" "I") ∈ lw_all := lw_g (lw_at lw_m1 81 rfl) rfl
theorem q251 : (Jvm.Cond.fieldLink "java/util/ArrayList" (63 : Nat) "java/util/ArrayList" "modCount" "I") ∈ lw_all := lw_g (lw_at lw_m1 83 rfl) rfl
theorem q252 : (Jvm.Cond.sameField "java/util/ArrayList" "java/util/AbstractList" "modCount" "I") ∈ lw_all := lw_g (lw_at lw_m1 84 rfl) rfl
theorem q253 : (Jvm.Cond.lays "java/util/ArrayList" "java/util/ArrayList" "elementData" "[Ljava/lang/Object;") ∈ lw_all := lw_g (lw_at lw_m1 85 rfl) rfl
theorem q254 : (Jvm.Cond.soleField "java/util/ArrayList" "elementData") ∈ lw_all := lw_g (lw_at lw_m1 86 rfl) rfl
theorem q255 : (Jvm.Cond.lays "java/util/ArrayList" "java/util/ArrayList" "size" "I") ∈ lw_all := lw_g (lw_at lw_m1 87 rfl) rfl
theorem q256 : (Jvm.Cond.soleField "java/util/ArrayList" "size") ∈ lw_all := lw_g (lw_at lw_m1 88 rfl) rfl
theorem q257 : (Jvm.Cond.lays "java/util/ArrayList" "java/util/AbstractList" "modCount" "I") ∈ lw_all := lw_g (lw_at lw_m1 89 rfl) rfl
theorem q259 : (Jvm.Cond.superclass "java/util/ArrayList" "java/util/AbstractList") ∈ lw_all := lw_g (lw_at lw_m1 91 rfl) rfl
theorem q747 : (Jvm.Cond.instanceMethod ({ cls := "java/util/ArrayList", name := "size", desc := "()I" } : Jvm.MethodName)) ∈ lw_all := lw_g (lw_at lw_m3 99 rfl) rfl
theorem q748 : (Jvm.Cond.selects "java/util/ArrayList" ({ cls := "java/util/ArrayList", name := "size", desc := "()I" } : Jvm.MethodName) ({ cls := "java/util/ArrayList", name := "size", desc := "()I" } : Jvm.MethodName)) ∈ lw_all := lw_g (lw_at lw_m3 100 rfl) rfl
theorem q749 : (Jvm.Cond.code ({ cls := "java/util/ArrayList", name := "size", desc := "()I" } : Jvm.MethodName) prog_52_method_8_code (1 : Nat) (Option.some Jvm.ClassFile.FieldType.int)) ∈ lw_all := lw_g (lw_at lw_m3 101 rfl) rfl
theorem q928 : (Jvm.Cond.instanceMethod ({ cls := "java/util/ArrayList", name := "add", desc := "(Ljava/lang/Object;)Z" } : Jvm.MethodName)) ∈ lw_all := lw_g (lw_at lw_m4 40 rfl) rfl
theorem q929 : (Jvm.Cond.selects "java/util/ArrayList" ({ cls := "java/util/ArrayList", name := "add", desc := "(Ljava/lang/Object;)Z" } : Jvm.MethodName) ({ cls := "java/util/ArrayList", name := "add", desc := "(Ljava/lang/Object;)Z" } : Jvm.MethodName)) ∈ lw_all := lw_g (lw_at lw_m4 41 rfl) rfl
theorem q930 : (Jvm.Cond.code ({ cls := "java/util/ArrayList", name := "add", desc := "(Ljava/lang/Object;)Z" } : Jvm.MethodName) prog_52_method_25_code (2 : Nat) (Option.some Jvm.ClassFile.FieldType.boolean)) ∈ lw_all := lw_g (lw_at lw_m4 42 rfl) rfl
theorem q931 : (Jvm.Cond.methodLink "java/util/ArrayList" (131 : Nat) ({ cls := "java/util/ArrayList", name := "add", desc := "(Ljava/lang/Object;[Ljava/lang/Object;I)V" } : Jvm.MethodName)) ∈ lw_all := lw_g (lw_at lw_m4 43 rfl) rfl
theorem q932 : (Jvm.Cond.privateMethod ({ cls := "java/util/ArrayList", name := "add", desc := "(Ljava/lang/Object;[Ljava/lang/Object;I)V" } : Jvm.MethodName)) ∈ lw_tbl := lw_at lw_m4 44 rfl
theorem q933 : (Jvm.Cond.instanceMethod ({ cls := "java/util/ArrayList", name := "add", desc := "(Ljava/lang/Object;[Ljava/lang/Object;I)V" } : Jvm.MethodName)) ∈ lw_all := lw_g (lw_at lw_m4 45 rfl) rfl
theorem q934 : (Jvm.Cond.code ({ cls := "java/util/ArrayList", name := "add", desc := "(Ljava/lang/Object;[Ljava/lang/Object;I)V" } : Jvm.MethodName) prog_52_method_24_code (4 : Nat) (Option.none : Option Jvm.ClassFile.FieldType)) ∈ lw_all := lw_g (lw_at lw_m4 46 rfl) rfl
theorem q935 : (Jvm.Cond.methodLink "java/util/ArrayList" (129 : Nat) ({ cls := "java/util/ArrayList", name := "grow", desc := "()[Ljava/lang/Object;" } : Jvm.MethodName)) ∈ lw_all := lw_g (lw_at lw_m4 47 rfl) rfl
theorem q936 : (Jvm.Cond.privateMethod ({ cls := "java/util/ArrayList", name := "grow", desc := "()[Ljava/lang/Object;" } : Jvm.MethodName)) ∈ lw_tbl := lw_at lw_m4 48 rfl
theorem q937 : (Jvm.Cond.instanceMethod ({ cls := "java/util/ArrayList", name := "grow", desc := "()[Ljava/lang/Object;" } : Jvm.MethodName)) ∈ lw_all := lw_g (lw_at lw_m4 49 rfl) rfl
theorem q938 : (Jvm.Cond.code ({ cls := "java/util/ArrayList", name := "grow", desc := "()[Ljava/lang/Object;" } : Jvm.MethodName) prog_52_method_7_code (1 : Nat) (Option.some (Jvm.ClassFile.FieldType.array (Jvm.ClassFile.FieldType.object "java/lang/Object")))) ∈ lw_all := lw_g (lw_at lw_m4 50 rfl) rfl
theorem q939 : (Jvm.Cond.methodLink "java/util/ArrayList" (69 : Nat) ({ cls := "java/util/ArrayList", name := "grow", desc := "(I)[Ljava/lang/Object;" } : Jvm.MethodName)) ∈ lw_all := lw_g (lw_at lw_m4 51 rfl) rfl
theorem q940 : (Jvm.Cond.privateMethod ({ cls := "java/util/ArrayList", name := "grow", desc := "(I)[Ljava/lang/Object;" } : Jvm.MethodName)) ∈ lw_tbl := lw_at lw_m4 52 rfl
theorem q941 : (Jvm.Cond.instanceMethod ({ cls := "java/util/ArrayList", name := "grow", desc := "(I)[Ljava/lang/Object;" } : Jvm.MethodName)) ∈ lw_all := lw_g (lw_at lw_m4 53 rfl) rfl
theorem q942 : (Jvm.Cond.code ({ cls := "java/util/ArrayList", name := "grow", desc := "(I)[Ljava/lang/Object;" } : Jvm.MethodName) prog_52_method_6_code (4 : Nat) (Option.some (Jvm.ClassFile.FieldType.array (Jvm.ClassFile.FieldType.object "java/lang/Object")))) ∈ lw_all := lw_g (lw_at lw_m4 54 rfl) rfl
theorem q943 : (Jvm.Cond.methodLink "java/util/ArrayList" (73 : Nat) ({ cls := "jdk/internal/util/ArraysSupport", name := "newLength", desc := "(III)I" } : Jvm.MethodName)) ∈ lw_all := lw_g (lw_at lw_m4 55 rfl) rfl
theorem q944 : (Jvm.Cond.methodLink "java/util/ArrayList" (66 : Nat) ({ cls := "java/util/Arrays", name := "copyOf", desc := "([Ljava/lang/Object;I)[Ljava/lang/Object;" } : Jvm.MethodName)) ∈ lw_all := lw_g (lw_at lw_m4 56 rfl) rfl
theorem q977 : (Jvm.Cond.selects "java/util/ArrayList" ({ cls := "java/lang/Object", name := "getClass", desc := "()Ljava/lang/Class;" } : Jvm.MethodName) ({ cls := "java/lang/Object", name := "getClass", desc := "()Ljava/lang/Class;" } : Jvm.MethodName)) ∈ lw_all := lw_g (lw_at lw_m4 89 rfl) rfl
theorem q985 : (Jvm.Cond.methodLink "java/util/ArrayList" (79 : Nat) ({ cls := "java/lang/Math", name := "max", desc := "(II)I" } : Jvm.MethodName)) ∈ lw_all := lw_g (lw_at lw_m4 97 rfl) rfl
theorem q986 : (Jvm.Cond.classLink "java/util/ArrayList" (7 : Nat) "java/lang/Object") ∈ lw_all := lw_g (lw_at lw_m4 98 rfl) rfl
theorem q1128 : (Jvm.Cond.instanceMethod ({ cls := "java/util/ArrayList", name := "get", desc := "(I)Ljava/lang/Object;" } : Jvm.MethodName)) ∈ lw_all := lw_g (lw_at lw_m5 0 rfl) rfl
theorem q1129 : (Jvm.Cond.selects "java/util/ArrayList" ({ cls := "java/util/ArrayList", name := "get", desc := "(I)Ljava/lang/Object;" } : Jvm.MethodName) ({ cls := "java/util/ArrayList", name := "get", desc := "(I)Ljava/lang/Object;" } : Jvm.MethodName)) ∈ lw_all := lw_g (lw_at lw_m5 1 rfl) rfl
theorem q1130 : (Jvm.Cond.code ({ cls := "java/util/ArrayList", name := "get", desc := "(I)Ljava/lang/Object;" } : Jvm.MethodName) prog_52_method_20_code (2 : Nat) (Option.some (Jvm.ClassFile.FieldType.object "java/lang/Object"))) ∈ lw_all := lw_g (lw_at lw_m5 2 rfl) rfl
theorem q1131 : (Jvm.Cond.methodLink "java/util/ArrayList" (118 : Nat) ({ cls := "java/util/Objects", name := "checkIndex", desc := "(II)I" } : Jvm.MethodName)) ∈ lw_all := lw_g (lw_at lw_m5 3 rfl) rfl
theorem q1135 : (Jvm.Cond.methodLink "java/util/ArrayList" (123 : Nat) ({ cls := "java/util/ArrayList", name := "elementData", desc := "(I)Ljava/lang/Object;" } : Jvm.MethodName)) ∈ lw_all := lw_g (lw_at lw_m5 7 rfl) rfl
theorem q1136 : (Jvm.Cond.instanceMethod ({ cls := "java/util/ArrayList", name := "elementData", desc := "(I)Ljava/lang/Object;" } : Jvm.MethodName)) ∈ lw_all := lw_g (lw_at lw_m5 8 rfl) rfl
theorem q1137 : (Jvm.Cond.selects "java/util/ArrayList" ({ cls := "java/util/ArrayList", name := "elementData", desc := "(I)Ljava/lang/Object;" } : Jvm.MethodName) ({ cls := "java/util/ArrayList", name := "elementData", desc := "(I)Ljava/lang/Object;" } : Jvm.MethodName)) ∈ lw_all := lw_g (lw_at lw_m5 9 rfl) rfl
theorem q1138 : (Jvm.Cond.code ({ cls := "java/util/ArrayList", name := "elementData", desc := "(I)Ljava/lang/Object;" } : Jvm.MethodName) prog_52_method_18_code (2 : Nat) (Option.some (Jvm.ClassFile.FieldType.object "java/lang/Object"))) ∈ lw_all := lw_g (lw_at lw_m5 10 rfl) rfl
theorem q1264 : (Jvm.Cond.instanceMethod ({ cls := "java/util/ArrayList", name := "add", desc := "(ILjava/lang/Object;)V" } : Jvm.MethodName)) ∈ lw_all := lw_g (lw_at lw_m5 136 rfl) rfl
theorem q1265 : (Jvm.Cond.selects "java/util/ArrayList" ({ cls := "java/util/ArrayList", name := "add", desc := "(ILjava/lang/Object;)V" } : Jvm.MethodName) ({ cls := "java/util/ArrayList", name := "add", desc := "(ILjava/lang/Object;)V" } : Jvm.MethodName)) ∈ lw_all := lw_g (lw_at lw_m5 137 rfl) rfl
theorem q1266 : (Jvm.Cond.code ({ cls := "java/util/ArrayList", name := "add", desc := "(ILjava/lang/Object;)V" } : Jvm.MethodName) prog_52_method_26_code (5 : Nat) (Option.none : Option Jvm.ClassFile.FieldType)) ∈ lw_all := lw_g (lw_at lw_m5 138 rfl) rfl
theorem q1267 : (Jvm.Cond.methodLink "java/util/ArrayList" (135 : Nat) ({ cls := "java/util/ArrayList", name := "rangeCheckForAdd", desc := "(I)V" } : Jvm.MethodName)) ∈ lw_all := lw_g (lw_at lw_m5 139 rfl) rfl
theorem q1268 : (Jvm.Cond.privateMethod ({ cls := "java/util/ArrayList", name := "rangeCheckForAdd", desc := "(I)V" } : Jvm.MethodName)) ∈ lw_tbl := lw_at lw_m5 140 rfl
theorem q1269 : (Jvm.Cond.instanceMethod ({ cls := "java/util/ArrayList", name := "rangeCheckForAdd", desc := "(I)V" } : Jvm.MethodName)) ∈ lw_all := lw_g (lw_at lw_m5 141 rfl) rfl
theorem q1270 : (Jvm.Cond.code ({ cls := "java/util/ArrayList", name := "rangeCheckForAdd", desc := "(I)V" } : Jvm.MethodName) prog_52_method_45_code (2 : Nat) (Option.none : Option Jvm.ClassFile.FieldType)) ∈ lw_all := lw_g (lw_at lw_m5 142 rfl) rfl
theorem q1271 : (Jvm.Cond.methodLink "java/util/ArrayList" (112 : Nat) ({ cls := "java/lang/System", name := "arraycopy", desc := "(Ljava/lang/Object;ILjava/lang/Object;II)V" } : Jvm.MethodName)) ∈ lw_all := lw_g (lw_at lw_m5 143 rfl) rfl
theorem q1456 : (Jvm.Cond.instanceMethod ({ cls := "java/util/ArrayList", name := "clear", desc := "()V" } : Jvm.MethodName)) ∈ lw_all := lw_g (lw_at lw_m6 88 rfl) rfl
theorem q1457 : (Jvm.Cond.selects "java/util/ArrayList" ({ cls := "java/util/ArrayList", name := "clear", desc := "()V" } : Jvm.MethodName) ({ cls := "java/util/ArrayList", name := "clear", desc := "()V" } : Jvm.MethodName)) ∈ lw_all := lw_g (lw_at lw_m6 89 rfl) rfl
theorem q1458 : (Jvm.Cond.code ({ cls := "java/util/ArrayList", name := "clear", desc := "()V" } : Jvm.MethodName) prog_52_method_40_code (4 : Nat) (Option.none : Option Jvm.ClassFile.FieldType)) ∈ lw_all := lw_g (lw_at lw_m6 90 rfl) rfl
theorem q1474 : (Jvm.Cond.instanceMethod ({ cls := "java/util/ArrayList", name := "isEmpty", desc := "()Z" } : Jvm.MethodName)) ∈ lw_all := lw_g (lw_at lw_m6 106 rfl) rfl
theorem q1475 : (Jvm.Cond.selects "java/util/ArrayList" ({ cls := "java/util/ArrayList", name := "isEmpty", desc := "()Z" } : Jvm.MethodName) ({ cls := "java/util/ArrayList", name := "isEmpty", desc := "()Z" } : Jvm.MethodName)) ∈ lw_all := lw_g (lw_at lw_m6 107 rfl) rfl
theorem q1476 : (Jvm.Cond.code ({ cls := "java/util/ArrayList", name := "isEmpty", desc := "()Z" } : Jvm.MethodName) prog_52_method_9_code (1 : Nat) (Option.some Jvm.ClassFile.FieldType.boolean)) ∈ lw_all := lw_g (lw_at lw_m6 108 rfl) rfl
theorem q1626 : (Jvm.Cond.instanceMethod ({ cls := "java/util/ArrayList", name := "set", desc := "(ILjava/lang/Object;)Ljava/lang/Object;" } : Jvm.MethodName)) ∈ lw_all := lw_g (lw_at lw_m7 18 rfl) rfl
theorem q1627 : (Jvm.Cond.selects "java/util/ArrayList" ({ cls := "java/util/ArrayList", name := "set", desc := "(ILjava/lang/Object;)Ljava/lang/Object;" } : Jvm.MethodName) ({ cls := "java/util/ArrayList", name := "set", desc := "(ILjava/lang/Object;)Ljava/lang/Object;" } : Jvm.MethodName)) ∈ lw_all := lw_g (lw_at lw_m7 19 rfl) rfl
theorem q1628 : (Jvm.Cond.code ({ cls := "java/util/ArrayList", name := "set", desc := "(ILjava/lang/Object;)Ljava/lang/Object;" } : Jvm.MethodName) prog_52_method_23_code (4 : Nat) (Option.some (Jvm.ClassFile.FieldType.object "java/lang/Object"))) ∈ lw_all := lw_g (lw_at lw_m7 20 rfl) rfl
theorem q1950 : (Jvm.Cond.instanceMethod ({ cls := "java/util/ArrayList", name := "remove", desc := "(I)Ljava/lang/Object;" } : Jvm.MethodName)) ∈ lw_all := lw_g (lw_at lw_m8 102 rfl) rfl
theorem q1951 : (Jvm.Cond.selects "java/util/ArrayList" ({ cls := "java/util/ArrayList", name := "remove", desc := "(I)Ljava/lang/Object;" } : Jvm.MethodName) ({ cls := "java/util/ArrayList", name := "remove", desc := "(I)Ljava/lang/Object;" } : Jvm.MethodName)) ∈ lw_all := lw_g (lw_at lw_m8 103 rfl) rfl
theorem q1952 : (Jvm.Cond.code ({ cls := "java/util/ArrayList", name := "remove", desc := "(I)Ljava/lang/Object;" } : Jvm.MethodName) prog_52_method_29_code (4 : Nat) (Option.some (Jvm.ClassFile.FieldType.object "java/lang/Object"))) ∈ lw_all := lw_g (lw_at lw_m8 104 rfl) rfl
theorem q1953 : (Jvm.Cond.methodLink "java/util/ArrayList" (144 : Nat) ({ cls := "java/util/ArrayList", name := "fastRemove", desc := "([Ljava/lang/Object;I)V" } : Jvm.MethodName)) ∈ lw_all := lw_g (lw_at lw_m8 105 rfl) rfl
theorem q1954 : (Jvm.Cond.privateMethod ({ cls := "java/util/ArrayList", name := "fastRemove", desc := "([Ljava/lang/Object;I)V" } : Jvm.MethodName)) ∈ lw_tbl := lw_at lw_m8 106 rfl
theorem q1955 : (Jvm.Cond.instanceMethod ({ cls := "java/util/ArrayList", name := "fastRemove", desc := "([Ljava/lang/Object;I)V" } : Jvm.MethodName)) ∈ lw_all := lw_g (lw_at lw_m8 107 rfl) rfl
theorem q1956 : (Jvm.Cond.code ({ cls := "java/util/ArrayList", name := "fastRemove", desc := "([Ljava/lang/Object;I)V" } : Jvm.MethodName) prog_52_method_39_code (4 : Nat) (Option.none : Option Jvm.ClassFile.FieldType)) ∈ lw_all := lw_g (lw_at lw_m8 108 rfl) rfl
theorem q2837 : (Jvm.Cond.castable "java/util/ArrayList" "java/lang/Object") ∈ lw_tbl := lw_at lw_m12 29 rfl
theorem in_J2 : ∀ w ∈ wsJ20, w ∈ lw_all := lw_in wsJ20 [257, 253, 255] (by decide +kernel) (by decide +kernel)
/-! java/lang/Throwable -/
def RJ3 : String := "java/lang/Throwable"
def TJ3 : u_T := fun k => match k with
  | 0 => ("java/lang/Throwable", "cause", "Ljava/lang/Throwable;", false)
  | 1 => ("java/lang/Throwable", "stackTrace", "[Ljava/lang/StackTraceElement;", false)
  | 2 => ("java/lang/Throwable", "suppressedExceptions", "Ljava/util/List;", false)
  | 3 => ("java/lang/Throwable", "detailMessage", "Ljava/lang/String;", false)
  | _ => ("java/lang/Throwable", "backtrace", "Ljava/lang/Object;", false)
def tyJ3 : Nat → FieldType := fun k => match k with
  | 0 => .object "java/lang/Throwable"
  | 1 => .array (.object "java/lang/StackTraceElement")
  | 2 => .object "java/util/List"
  | 3 => .object "java/lang/String"
  | _ => .object "java/lang/Object"
abbrev wsJ30 : List Cond := u_ws RJ3 TJ3 5
theorem nmJ3 : ∀ a, a < 5 → ∀ b, b < 5 → a ≠ b → (TJ3 a).2.1 ≠ (TJ3 b).2.1 := by decide +kernel
theorem tyJ3_ok : ∀ k, k < 5 → parseFieldDescriptor (TJ3 k).2.2.1 = some (tyJ3 k) := by decide +kernel
abbrev cJ3_init : ByteArray := prog_47_method_1_code
def yJ3_init : MethodName := ⟨RJ3, "<init>", "()V"⟩
def dkwJ3_init_1 : List UInt8 := [182, 0, 27, 87, 177]
abbrev dktJ3_init_1 : List UInt8 := dkwJ3_init_1 ++ []
def dkwJ3_init_0 : List UInt8 := [42, 183, 0, 1, 42, 42, 181, 0, 7, 42, 178, 0, 13, 181, 0, 17, 42, 178, 0, 20, 181, 0, 24, 42]
abbrev dktJ3_init_0 : List UInt8 := dkwJ3_init_0 ++ dktJ3_init_1
theorem dksJ3_init_0 : cJ3_init.data.toList.drop 0 = dktJ3_init_0 := by decide +kernel
theorem dksJ3_init_1 : cJ3_init.data.toList.drop 24 = dktJ3_init_1 := dk_seg dksJ3_init_0 24 rfl rfl
theorem dJ3_init_0 : decode cJ3_init 0 = .ok (.aload_n 0, 1) := dk_42 (dk_at dksJ3_init_0 0 rfl rfl)
theorem dJ3_init_1 : decode cJ3_init 1 = .ok (.invokespecial 1, 3) := dk_183 0 1 (dk_at dksJ3_init_0 1 rfl rfl)
theorem dJ3_init_4 : decode cJ3_init 4 = .ok (.aload_n 0, 1) := dk_42 (dk_at dksJ3_init_0 4 rfl rfl)
theorem dJ3_init_5 : decode cJ3_init 5 = .ok (.aload_n 0, 1) := dk_42 (dk_at dksJ3_init_0 5 rfl rfl)
theorem dJ3_init_6 : decode cJ3_init 6 = .ok (.putfield 7, 3) := dk_181 0 7 (dk_at dksJ3_init_0 6 rfl rfl)
theorem dJ3_init_9 : decode cJ3_init 9 = .ok (.aload_n 0, 1) := dk_42 (dk_at dksJ3_init_0 9 rfl rfl)
theorem dJ3_init_10 : decode cJ3_init 10 = .ok (.getstatic 13, 3) := dk_178 0 13 (dk_at dksJ3_init_0 10 rfl rfl)
theorem dJ3_init_13 : decode cJ3_init 13 = .ok (.putfield 17, 3) := dk_181 0 17 (dk_at dksJ3_init_0 13 rfl rfl)
theorem dJ3_init_16 : decode cJ3_init 16 = .ok (.aload_n 0, 1) := dk_42 (dk_at dksJ3_init_0 16 rfl rfl)
theorem dJ3_init_17 : decode cJ3_init 17 = .ok (.getstatic 20, 3) := dk_178 0 20 (dk_at dksJ3_init_0 17 rfl rfl)
theorem dJ3_init_20 : decode cJ3_init 20 = .ok (.putfield 24, 3) := dk_181 0 24 (dk_at dksJ3_init_0 20 rfl rfl)
theorem dJ3_init_23 : decode cJ3_init 23 = .ok (.aload_n 0, 1) := dk_42 (dk_at dksJ3_init_0 23 rfl rfl)
theorem dJ3_init_24 : decode cJ3_init 24 = .ok (.invokevirtual 27, 3) := dk_182 0 27 (dk_at dksJ3_init_1 0 rfl rfl)
theorem dJ3_init_27 : decode cJ3_init 27 = .ok (.pop, 1) := dk_87 (dk_at dksJ3_init_1 3 rfl rfl)
theorem dJ3_init_28 : decode cJ3_init 28 = .ok (.return_, 1) := dk_177 (dk_at dksJ3_init_1 4 rfl rfl)
theorem q180 : (Jvm.Cond.initialized "java/lang/Throwable") ∈ lw_all := lw_g (lw_at lw_m1 12 rfl) rfl
theorem q533 : (Jvm.Cond.declares ({ cls := "java/lang/Throwable", name := "<init>", desc := "()V" } : Jvm.MethodName)) ∈ lw_tbl := lw_at lw_m2 125 rfl
theorem q534 : (Jvm.Cond.declares ({ cls := "java/lang/Throwable", name := "<init>", desc := "(Ljava/lang/String;)V" } : Jvm.MethodName)) ∈ lw_tbl := lw_at lw_m2 126 rfl
theorem q538 : (Jvm.Cond.lays "java/lang/Throwable" "java/lang/Throwable" "cause" "Ljava/lang/Throwable;") ∈ lw_all := lw_g (lw_at lw_m2 130 rfl) rfl
theorem q540 : (Jvm.Cond.lays "java/lang/Throwable" "java/lang/Throwable" "stackTrace" "[Ljava/lang/StackTraceElement;") ∈ lw_all := lw_g (lw_at lw_m2 132 rfl) rfl
theorem q542 : (Jvm.Cond.lays "java/lang/Throwable" "java/lang/Throwable" "suppressedExceptions" "Ljava/util/List;") ∈ lw_all := lw_g (lw_at lw_m2 134 rfl) rfl
theorem q544 : (Jvm.Cond.lays "java/lang/Throwable" "java/lang/Throwable" "detailMessage" "Ljava/lang/String;") ∈ lw_all := lw_g (lw_at lw_m2 136 rfl) rfl
theorem q546 : (Jvm.Cond.lays "java/lang/Throwable" "java/lang/Throwable" "backtrace" "Ljava/lang/Object;") ∈ lw_all := lw_g (lw_at lw_m2 138 rfl) rfl
theorem q547 : (Jvm.Cond.fieldLink "java/lang/Throwable" (198 : Nat) "java/lang/Throwable" "backtrace" "Ljava/lang/Object;") ∈ lw_all := lw_g (lw_at lw_m2 139 rfl) rfl
theorem q548 : (Jvm.Cond.superclass "java/lang/Throwable" "java/lang/Object") ∈ lw_all := lw_g (lw_at lw_m2 140 rfl) rfl
theorem q549 : (Jvm.Cond.instanceMethod ({ cls := "java/lang/Throwable", name := "<init>", desc := "()V" } : Jvm.MethodName)) ∈ lw_all := lw_g (lw_at lw_m2 141 rfl) rfl
theorem q550 : (Jvm.Cond.code ({ cls := "java/lang/Throwable", name := "<init>", desc := "()V" } : Jvm.MethodName) prog_47_method_1_code (1 : Nat) (Option.none : Option Jvm.ClassFile.FieldType)) ∈ lw_all := lw_g (lw_at lw_m2 142 rfl) rfl
theorem q551 : (Jvm.Cond.methodLink "java/lang/Throwable" (1 : Nat) ({ cls := "java/lang/Object", name := "<init>", desc := "()V" } : Jvm.MethodName)) ∈ lw_all := lw_g (lw_at lw_m2 143 rfl) rfl
theorem q552 : (Jvm.Cond.fieldLink "java/lang/Throwable" (13 : Nat) "java/lang/Throwable" "UNASSIGNED_STACK" "[Ljava/lang/StackTraceElement;") ∈ lw_all := lw_g (lw_at lw_m2 144 rfl) rfl
theorem q553 : (Jvm.Cond.laysStatic "java/lang/Throwable" "UNASSIGNED_STACK" "[Ljava/lang/StackTraceElement;") ∈ lw_tbl := lw_at lw_m2 145 rfl
theorem q554 : (Jvm.Cond.fieldLink "java/lang/Throwable" (20 : Nat) "java/lang/Throwable" "SUPPRESSED_SENTINEL" "Ljava/util/List;") ∈ lw_all := lw_g (lw_at lw_m2 146 rfl) rfl
theorem q555 : (Jvm.Cond.laysStatic "java/lang/Throwable" "SUPPRESSED_SENTINEL" "Ljava/util/List;") ∈ lw_tbl := lw_at lw_m2 147 rfl
theorem q556 : (Jvm.Cond.methodLink "java/lang/Throwable" (27 : Nat) ({ cls := "java/lang/Throwable", name := "fillInStackTrace", desc := "()Ljava/lang/Throwable;" } : Jvm.MethodName)) ∈ lw_all := lw_g (lw_at lw_m2 148 rfl) rfl
theorem q557 : (Jvm.Cond.instanceMethod ({ cls := "java/lang/Throwable", name := "fillInStackTrace", desc := "()Ljava/lang/Throwable;" } : Jvm.MethodName)) ∈ lw_all := lw_g (lw_at lw_m2 149 rfl) rfl
theorem q558 : (Jvm.Cond.sameMethod "java/lang/Throwable" "java/lang/Throwable" "fillInStackTrace" "()Ljava/lang/Throwable;") ∈ lw_all := lw_g (lw_at lw_m2 150 rfl) rfl
theorem q559 : (Jvm.Cond.codeSync ({ cls := "java/lang/Throwable", name := "fillInStackTrace", desc := "()Ljava/lang/Throwable;" } : Jvm.MethodName) prog_47_method_18_code (1 : Nat) (Option.some (Jvm.ClassFile.FieldType.object "java/lang/Throwable"))) ∈ lw_all := lw_g (lw_at lw_m2 151 rfl) rfl
theorem q560 : (Jvm.Cond.methodLink "java/lang/Throwable" (202 : Nat) ({ cls := "java/lang/Throwable", name := "fillInStackTrace", desc := "(I)Ljava/lang/Throwable;" } : Jvm.MethodName)) ∈ lw_all := lw_g (lw_at lw_m2 152 rfl) rfl
theorem q561 : (Jvm.Cond.privateMethod ({ cls := "java/lang/Throwable", name := "fillInStackTrace", desc := "(I)Ljava/lang/Throwable;" } : Jvm.MethodName)) ∈ lw_tbl := lw_at lw_m2 153 rfl
theorem q562 : (Jvm.Cond.instanceMethod ({ cls := "java/lang/Throwable", name := "fillInStackTrace", desc := "(I)Ljava/lang/Throwable;" } : Jvm.MethodName)) ∈ lw_all := lw_g (lw_at lw_m2 154 rfl) rfl
theorem q563 : (Jvm.Cond.instantiable "java/lang/Throwable" (6 : Nat)) ∈ lw_all := lw_g (lw_at lw_m2 155 rfl) rfl
theorem q564 : (Jvm.Cond.native ({ cls := "java/lang/Throwable", name := "fillInStackTrace", desc := "(I)Ljava/lang/Throwable;" } : Jvm.MethodName)) ∈ lw_all := lw_g (lw_at lw_m2 156 rfl) rfl
theorem q576 : (Jvm.Cond.fieldLink "java/lang/Throwable" (198 : Nat) "java/lang/Throwable" "backtrace" "Ljava/lang/Object;") ∈ lw_all := lw_g (lw_at lw_m2 168 rfl) rfl
theorem q577 : (Jvm.Cond.fieldLink "java/lang/Throwable" (7 : Nat) "java/lang/Throwable" "cause" "Ljava/lang/Throwable;") ∈ lw_all := lw_g (lw_at lw_m2 169 rfl) rfl
theorem q578 : (Jvm.Cond.fieldLink "java/lang/Throwable" (17 : Nat) "java/lang/Throwable" "stackTrace" "[Ljava/lang/StackTraceElement;") ∈ lw_all := lw_g (lw_at lw_m2 170 rfl) rfl
theorem q579 : (Jvm.Cond.fieldLink "java/lang/Throwable" (24 : Nat) "java/lang/Throwable" "suppressedExceptions" "Ljava/util/List;") ∈ lw_all := lw_g (lw_at lw_m2 171 rfl) rfl
theorem q584 : (Jvm.Cond.soleField "java/lang/Throwable" "backtrace") ∈ lw_all := lw_g (lw_at lw_m2 176 rfl) rfl
theorem q585 : (Jvm.Cond.soleField "java/lang/Throwable" "detailMessage") ∈ lw_all := lw_g (lw_at lw_m2 177 rfl) rfl
theorem q586 : (Jvm.Cond.soleField "java/lang/Throwable" "cause") ∈ lw_all := lw_g (lw_at lw_m2 178 rfl) rfl
theorem q587 : (Jvm.Cond.soleField "java/lang/Throwable" "stackTrace") ∈ lw_all := lw_g (lw_at lw_m2 179 rfl) rfl
theorem q589 : (Jvm.Cond.soleField "java/lang/Throwable" "depth") ∈ lw_all := lw_g (lw_at lw_m2 181 rfl) rfl
theorem q590 : (Jvm.Cond.soleField "java/lang/Throwable" "suppressedExceptions") ∈ lw_all := lw_g (lw_at lw_m2 182 rfl) rfl
theorem q2821 : (Jvm.Cond.sameMethod "java/lang/Throwable" "java/lang/Throwable" "fillInStackTrace" "(I)Ljava/lang/Throwable;") ∈ lw_all := lw_g (lw_at lw_m12 13 rfl) rfl
theorem q2861 : (Jvm.Cond.castable "java/lang/Throwable" "java/lang/Object") ∈ lw_tbl := lw_at lw_m12 53 rfl
theorem in_J3 : ∀ w ∈ wsJ30, w ∈ lw_all := lw_in wsJ30 [538, 540, 542, 544, 546] (by decide +kernel) (by decide +kernel)
/-! java/lang/Exception -/
def RJ4 : String := "java/lang/Exception"
abbrev cJ4_init : ByteArray := prog_36_method_1_code
def yJ4_init : MethodName := ⟨RJ4, "<init>", "()V"⟩
theorem dJ4_init_0 : decode cJ4_init 0 = .ok (.aload_n 0, 1) := by decide +kernel
theorem dJ4_init_1 : decode cJ4_init 1 = .ok (.invokespecial 1, 3) := by decide +kernel
theorem dJ4_init_4 : decode cJ4_init 4 = .ok (.return_, 1) := by decide +kernel
theorem q181 : (Jvm.Cond.initialized "java/lang/Exception") ∈ lw_all := lw_g (lw_at lw_m1 13 rfl) rfl
theorem q531 : (Jvm.Cond.declares ({ cls := "java/lang/Exception", name := "<init>", desc := "()V" } : Jvm.MethodName)) ∈ lw_tbl := lw_at lw_m2 123 rfl
theorem q532 : (Jvm.Cond.declares ({ cls := "java/lang/Exception", name := "<init>", desc := "(Ljava/lang/String;)V" } : Jvm.MethodName)) ∈ lw_tbl := lw_at lw_m2 124 rfl
theorem q569 : (Jvm.Cond.instanceMethod ({ cls := "java/lang/Exception", name := "<init>", desc := "()V" } : Jvm.MethodName)) ∈ lw_all := lw_g (lw_at lw_m2 161 rfl) rfl
theorem q570 : (Jvm.Cond.code ({ cls := "java/lang/Exception", name := "<init>", desc := "()V" } : Jvm.MethodName) prog_36_method_1_code (1 : Nat) (Option.none : Option Jvm.ClassFile.FieldType)) ∈ lw_all := lw_g (lw_at lw_m2 162 rfl) rfl
theorem q571 : (Jvm.Cond.methodLink "java/lang/Exception" (1 : Nat) ({ cls := "java/lang/Throwable", name := "<init>", desc := "()V" } : Jvm.MethodName)) ∈ lw_all := lw_g (lw_at lw_m2 163 rfl) rfl
/-! java/lang/String -/
def RJ5 : String := "java/lang/String"
def TJ5 : u_T := fun k => match k with
  | 0 => ("java/lang/String", "value", "[B", true)
  | 1 => ("java/lang/String", "coder", "B", true)
  | 2 => ("java/lang/String", "hash", "I", false)
  | _ => ("java/lang/String", "hashIsZero", "Z", false)
def tyJ5 : Nat → FieldType := fun k => match k with
  | 0 => .array .byte
  | 1 => .byte
  | 2 => .int
  | _ => .boolean
abbrev wsJ50 : List Cond := u_ws RJ5 TJ5 4
theorem nmJ5 : ∀ a, a < 4 → ∀ b, b < 4 → a ≠ b → (TJ5 a).2.1 ≠ (TJ5 b).2.1 := by decide +kernel
theorem tyJ5_ok : ∀ k, k < 4 → parseFieldDescriptor (TJ5 k).2.2.1 = some (tyJ5 k) := by decide +kernel
abbrev cJ5_init : ByteArray := prog_42_method_4_code
def yJ5_init : MethodName := ⟨RJ5, "<init>", "([CII)V"⟩
def dkwJ5_init_0 : List UInt8 := [42, 43, 28, 29, 43, 28, 29, 184, 0, 30, 183, 0, 27, 177]
abbrev dktJ5_init_0 : List UInt8 := dkwJ5_init_0 ++ []
theorem dksJ5_init_0 : cJ5_init.data.toList.drop 0 = dktJ5_init_0 := by decide +kernel
theorem dJ5_init_0 : decode cJ5_init 0 = .ok (.aload_n 0, 1) := dk_42 (dk_at dksJ5_init_0 0 rfl rfl)
theorem dJ5_init_1 : decode cJ5_init 1 = .ok (.aload_n 1, 1) := dk_43 (dk_at dksJ5_init_0 1 rfl rfl)
theorem dJ5_init_2 : decode cJ5_init 2 = .ok (.iload_n 2, 1) := dk_28 (dk_at dksJ5_init_0 2 rfl rfl)
theorem dJ5_init_3 : decode cJ5_init 3 = .ok (.iload_n 3, 1) := dk_29 (dk_at dksJ5_init_0 3 rfl rfl)
theorem dJ5_init_4 : decode cJ5_init 4 = .ok (.aload_n 1, 1) := dk_43 (dk_at dksJ5_init_0 4 rfl rfl)
theorem dJ5_init_5 : decode cJ5_init 5 = .ok (.iload_n 2, 1) := dk_28 (dk_at dksJ5_init_0 5 rfl rfl)
theorem dJ5_init_6 : decode cJ5_init 6 = .ok (.iload_n 3, 1) := dk_29 (dk_at dksJ5_init_0 6 rfl rfl)
theorem dJ5_init_7 : decode cJ5_init 7 = .ok (.invokestatic 30, 3) := dk_184 0 30 (dk_at dksJ5_init_0 7 rfl rfl)
theorem dJ5_init_10 : decode cJ5_init 10 = .ok (.invokespecial 27, 3) := dk_183 0 27 (dk_at dksJ5_init_0 10 rfl rfl)
theorem dJ5_init_13 : decode cJ5_init 13 = .ok (.return_, 1) := dk_177 (dk_at dksJ5_init_0 13 rfl rfl)
abbrev cJ5_rangeCheck : ByteArray := prog_42_method_5_code
def yJ5_rangeCheck : MethodName := ⟨RJ5, "rangeCheck", "([CII)Ljava/lang/Void;"⟩
def dkwJ5_rangeCheck_0 : List UInt8 := [27, 28, 42, 190, 184, 0, 34, 87, 1, 176]
abbrev dktJ5_rangeCheck_0 : List UInt8 := dkwJ5_rangeCheck_0 ++ []
theorem dksJ5_rangeCheck_0 : cJ5_rangeCheck.data.toList.drop 0 = dktJ5_rangeCheck_0 := by decide +kernel
theorem dJ5_rangeCheck_0 : decode cJ5_rangeCheck 0 = .ok (.iload_n 1, 1) := dk_27 (dk_at dksJ5_rangeCheck_0 0 rfl rfl)
theorem dJ5_rangeCheck_1 : decode cJ5_rangeCheck 1 = .ok (.iload_n 2, 1) := dk_28 (dk_at dksJ5_rangeCheck_0 1 rfl rfl)
theorem dJ5_rangeCheck_2 : decode cJ5_rangeCheck 2 = .ok (.aload_n 0, 1) := dk_42 (dk_at dksJ5_rangeCheck_0 2 rfl rfl)
theorem dJ5_rangeCheck_3 : decode cJ5_rangeCheck 3 = .ok (.arraylength, 1) := dk_190 (dk_at dksJ5_rangeCheck_0 3 rfl rfl)
theorem dJ5_rangeCheck_4 : decode cJ5_rangeCheck 4 = .ok (.invokestatic 34, 3) := dk_184 0 34 (dk_at dksJ5_rangeCheck_0 4 rfl rfl)
theorem dJ5_rangeCheck_7 : decode cJ5_rangeCheck 7 = .ok (.pop, 1) := dk_87 (dk_at dksJ5_rangeCheck_0 7 rfl rfl)
theorem dJ5_rangeCheck_8 : decode cJ5_rangeCheck 8 = .ok (.aconst_null, 1) := dk_1 (dk_at dksJ5_rangeCheck_0 8 rfl rfl)
theorem dJ5_rangeCheck_9 : decode cJ5_rangeCheck 9 = .ok (.areturn, 1) := dk_176 (dk_at dksJ5_rangeCheck_0 9 rfl rfl)
abbrev cJ5_checkBoundsOffCount : ByteArray := prog_42_method_157_code
def yJ5_checkBoundsOffCount : MethodName := ⟨RJ5, "checkBoundsOffCount", "(III)I"⟩
def dkwJ5_checkBoundsOffCount_0 : List UInt8 := [26, 27, 28, 178, 4, 29, 184, 4, 41, 172]
abbrev dktJ5_checkBoundsOffCount_0 : List UInt8 := dkwJ5_checkBoundsOffCount_0 ++ []
theorem dksJ5_checkBoundsOffCount_0 : cJ5_checkBoundsOffCount.data.toList.drop 0 = dktJ5_checkBoundsOffCount_0 := by decide +kernel
theorem dJ5_checkBoundsOffCount_0 : decode cJ5_checkBoundsOffCount 0 = .ok (.iload_n 0, 1) := dk_26 (dk_at dksJ5_checkBoundsOffCount_0 0 rfl rfl)
theorem dJ5_checkBoundsOffCount_1 : decode cJ5_checkBoundsOffCount 1 = .ok (.iload_n 1, 1) := dk_27 (dk_at dksJ5_checkBoundsOffCount_0 1 rfl rfl)
theorem dJ5_checkBoundsOffCount_2 : decode cJ5_checkBoundsOffCount 2 = .ok (.iload_n 2, 1) := dk_28 (dk_at dksJ5_checkBoundsOffCount_0 2 rfl rfl)
theorem dJ5_checkBoundsOffCount_3 : decode cJ5_checkBoundsOffCount 3 = .ok (.getstatic 1053, 3) := dk_178 4 29 (dk_at dksJ5_checkBoundsOffCount_0 3 rfl rfl)
theorem dJ5_checkBoundsOffCount_6 : decode cJ5_checkBoundsOffCount 6 = .ok (.invokestatic 1065, 3) := dk_184 4 41 (dk_at dksJ5_checkBoundsOffCount_0 6 rfl rfl)
theorem dJ5_checkBoundsOffCount_9 : decode cJ5_checkBoundsOffCount 9 = .ok (.ireturn, 1) := dk_172 (dk_at dksJ5_checkBoundsOffCount_0 9 rfl rfl)
abbrev cJ5_init_2 : ByteArray := prog_42_method_149_code
def yJ5_init_2 : MethodName := ⟨RJ5, "<init>", "([CIILjava/lang/Void;)V"⟩
def dkwJ5_init_2_3 : List UInt8 := [184, 0, 180, 181, 0, 9, 177]
abbrev dktJ5_init_2_3 : List UInt8 := dkwJ5_init_2_3 ++ []
def dkwJ5_init_2_2 : List UInt8 := [184, 0, 47, 181, 0, 15, 42, 25, 5, 181, 0, 9, 177, 42, 4, 181, 0, 15, 42, 43, 28, 29]
abbrev dktJ5_init_2_2 : List UInt8 := dkwJ5_init_2_2 ++ dktJ5_init_2_3
def dkwJ5_init_2_1 : List UInt8 := [181, 0, 15, 177, 178, 0, 38, 153, 0, 28, 43, 28, 29, 184, 0, 177, 58, 5, 42, 25, 5, 29]
abbrev dktJ5_init_2_1 : List UInt8 := dkwJ5_init_2_1 ++ dktJ5_init_2_2
def dkwJ5_init_2_0 : List UInt8 := [42, 183, 0, 1, 29, 154, 0, 22, 42, 18, 7, 180, 0, 9, 181, 0, 9, 42, 18, 7, 180, 0, 15]
abbrev dktJ5_init_2_0 : List UInt8 := dkwJ5_init_2_0 ++ dktJ5_init_2_1
theorem dksJ5_init_2_0 : cJ5_init_2.data.toList.drop 0 = dktJ5_init_2_0 := by decide +kernel
theorem dksJ5_init_2_1 : cJ5_init_2.data.toList.drop 23 = dktJ5_init_2_1 := dk_seg dksJ5_init_2_0 23 rfl rfl
theorem dksJ5_init_2_2 : cJ5_init_2.data.toList.drop 45 = dktJ5_init_2_2 := dk_seg dksJ5_init_2_1 22 rfl rfl
theorem dksJ5_init_2_3 : cJ5_init_2.data.toList.drop 67 = dktJ5_init_2_3 := dk_seg dksJ5_init_2_2 22 rfl rfl
theorem dJ5_init_2_0 : decode cJ5_init_2 0 = .ok (.aload_n 0, 1) := dk_42 (dk_at dksJ5_init_2_0 0 rfl rfl)
theorem dJ5_init_2_1 : decode cJ5_init_2 1 = .ok (.invokespecial 1, 3) := dk_183 0 1 (dk_at dksJ5_init_2_0 1 rfl rfl)
theorem dJ5_init_2_4 : decode cJ5_init_2 4 = .ok (.iload_n 3, 1) := dk_29 (dk_at dksJ5_init_2_0 4 rfl rfl)
theorem dJ5_init_2_5 : decode cJ5_init_2 5 = .ok (.ifCond .ne 22, 3) := dk_154 0 22 (dk_at dksJ5_init_2_0 5 rfl rfl)
theorem dJ5_init_2_8 : decode cJ5_init_2 8 = .ok (.aload_n 0, 1) := dk_42 (dk_at dksJ5_init_2_0 8 rfl rfl)
theorem dJ5_init_2_9 : decode cJ5_init_2 9 = .ok (.ldc 7, 2) := dk_18 7 (dk_at dksJ5_init_2_0 9 rfl rfl)
theorem dJ5_init_2_11 : decode cJ5_init_2 11 = .ok (.getfield 9, 3) := dk_180 0 9 (dk_at dksJ5_init_2_0 11 rfl rfl)
theorem dJ5_init_2_14 : decode cJ5_init_2 14 = .ok (.putfield 9, 3) := dk_181 0 9 (dk_at dksJ5_init_2_0 14 rfl rfl)
theorem dJ5_init_2_17 : decode cJ5_init_2 17 = .ok (.aload_n 0, 1) := dk_42 (dk_at dksJ5_init_2_0 17 rfl rfl)
theorem dJ5_init_2_18 : decode cJ5_init_2 18 = .ok (.ldc 7, 2) := dk_18 7 (dk_at dksJ5_init_2_0 18 rfl rfl)
theorem dJ5_init_2_20 : decode cJ5_init_2 20 = .ok (.getfield 15, 3) := dk_180 0 15 (dk_at dksJ5_init_2_0 20 rfl rfl)
theorem dJ5_init_2_23 : decode cJ5_init_2 23 = .ok (.putfield 15, 3) := dk_181 0 15 (dk_at dksJ5_init_2_1 0 rfl rfl)
theorem dJ5_init_2_26 : decode cJ5_init_2 26 = .ok (.return_, 1) := dk_177 (dk_at dksJ5_init_2_1 3 rfl rfl)
theorem dJ5_init_2_27 : decode cJ5_init_2 27 = .ok (.getstatic 38, 3) := dk_178 0 38 (dk_at dksJ5_init_2_1 4 rfl rfl)
theorem dJ5_init_2_30 : decode cJ5_init_2 30 = .ok (.ifCond .eq 28, 3) := dk_153 0 28 (dk_at dksJ5_init_2_1 7 rfl rfl)
theorem dJ5_init_2_33 : decode cJ5_init_2 33 = .ok (.aload_n 1, 1) := dk_43 (dk_at dksJ5_init_2_1 10 rfl rfl)
theorem dJ5_init_2_34 : decode cJ5_init_2 34 = .ok (.iload_n 2, 1) := dk_28 (dk_at dksJ5_init_2_1 11 rfl rfl)
theorem dJ5_init_2_35 : decode cJ5_init_2 35 = .ok (.iload_n 3, 1) := dk_29 (dk_at dksJ5_init_2_1 12 rfl rfl)
theorem dJ5_init_2_36 : decode cJ5_init_2 36 = .ok (.invokestatic 177, 3) := dk_184 0 177 (dk_at dksJ5_init_2_1 13 rfl rfl)
theorem dJ5_init_2_39 : decode cJ5_init_2 39 = .ok (.astore 5, 2) := dk_58 5 (dk_at dksJ5_init_2_1 16 rfl rfl)
theorem dJ5_init_2_41 : decode cJ5_init_2 41 = .ok (.aload_n 0, 1) := dk_42 (dk_at dksJ5_init_2_1 18 rfl rfl)
theorem dJ5_init_2_42 : decode cJ5_init_2 42 = .ok (.aload 5, 2) := dk_25 5 (dk_at dksJ5_init_2_1 19 rfl rfl)
theorem dJ5_init_2_44 : decode cJ5_init_2 44 = .ok (.iload_n 3, 1) := dk_29 (dk_at dksJ5_init_2_1 21 rfl rfl)
theorem dJ5_init_2_45 : decode cJ5_init_2 45 = .ok (.invokestatic 47, 3) := dk_184 0 47 (dk_at dksJ5_init_2_2 0 rfl rfl)
theorem dJ5_init_2_48 : decode cJ5_init_2 48 = .ok (.putfield 15, 3) := dk_181 0 15 (dk_at dksJ5_init_2_2 3 rfl rfl)
theorem dJ5_init_2_51 : decode cJ5_init_2 51 = .ok (.aload_n 0, 1) := dk_42 (dk_at dksJ5_init_2_2 6 rfl rfl)
theorem dJ5_init_2_52 : decode cJ5_init_2 52 = .ok (.aload 5, 2) := dk_25 5 (dk_at dksJ5_init_2_2 7 rfl rfl)
theorem dJ5_init_2_54 : decode cJ5_init_2 54 = .ok (.putfield 9, 3) := dk_181 0 9 (dk_at dksJ5_init_2_2 9 rfl rfl)
theorem dJ5_init_2_57 : decode cJ5_init_2 57 = .ok (.return_, 1) := dk_177 (dk_at dksJ5_init_2_2 12 rfl rfl)
theorem dJ5_init_2_58 : decode cJ5_init_2 58 = .ok (.aload_n 0, 1) := dk_42 (dk_at dksJ5_init_2_2 13 rfl rfl)
theorem dJ5_init_2_59 : decode cJ5_init_2 59 = .ok (.iconst 1, 1) := dk_4 (dk_at dksJ5_init_2_2 14 rfl rfl)
theorem dJ5_init_2_60 : decode cJ5_init_2 60 = .ok (.putfield 15, 3) := dk_181 0 15 (dk_at dksJ5_init_2_2 15 rfl rfl)
theorem dJ5_init_2_63 : decode cJ5_init_2 63 = .ok (.aload_n 0, 1) := dk_42 (dk_at dksJ5_init_2_2 18 rfl rfl)
theorem dJ5_init_2_64 : decode cJ5_init_2 64 = .ok (.aload_n 1, 1) := dk_43 (dk_at dksJ5_init_2_2 19 rfl rfl)
theorem dJ5_init_2_65 : decode cJ5_init_2 65 = .ok (.iload_n 2, 1) := dk_28 (dk_at dksJ5_init_2_2 20 rfl rfl)
theorem dJ5_init_2_66 : decode cJ5_init_2 66 = .ok (.iload_n 3, 1) := dk_29 (dk_at dksJ5_init_2_2 21 rfl rfl)
theorem dJ5_init_2_67 : decode cJ5_init_2 67 = .ok (.invokestatic 180, 3) := dk_184 0 180 (dk_at dksJ5_init_2_3 0 rfl rfl)
theorem dJ5_init_2_70 : decode cJ5_init_2 70 = .ok (.putfield 9, 3) := dk_181 0 9 (dk_at dksJ5_init_2_3 3 rfl rfl)
theorem dJ5_init_2_73 : decode cJ5_init_2 73 = .ok (.return_, 1) := dk_177 (dk_at dksJ5_init_2_3 6 rfl rfl)
abbrev cJ5_length : ByteArray := prog_42_method_54_code
def yJ5_length : MethodName := ⟨RJ5, "length", "()I"⟩
def dkwJ5_length_0 : List UInt8 := [42, 180, 0, 9, 190, 42, 182, 1, 79, 122, 172]
abbrev dktJ5_length_0 : List UInt8 := dkwJ5_length_0 ++ []
theorem dksJ5_length_0 : cJ5_length.data.toList.drop 0 = dktJ5_length_0 := by decide +kernel
theorem dJ5_length_0 : decode cJ5_length 0 = .ok (.aload_n 0, 1) := dk_42 (dk_at dksJ5_length_0 0 rfl rfl)
theorem dJ5_length_1 : decode cJ5_length 1 = .ok (.getfield 9, 3) := dk_180 0 9 (dk_at dksJ5_length_0 1 rfl rfl)
theorem dJ5_length_4 : decode cJ5_length 4 = .ok (.arraylength, 1) := dk_190 (dk_at dksJ5_length_0 4 rfl rfl)
theorem dJ5_length_5 : decode cJ5_length 5 = .ok (.aload_n 0, 1) := dk_42 (dk_at dksJ5_length_0 5 rfl rfl)
theorem dJ5_length_6 : decode cJ5_length 6 = .ok (.invokevirtual 335, 3) := dk_182 1 79 (dk_at dksJ5_length_0 6 rfl rfl)
theorem dJ5_length_9 : decode cJ5_length 9 = .ok (.ishr, 1) := dk_122 (dk_at dksJ5_length_0 9 rfl rfl)
theorem dJ5_length_10 : decode cJ5_length 10 = .ok (.ireturn, 1) := dk_172 (dk_at dksJ5_length_0 10 rfl rfl)
abbrev cJ5_coder : ByteArray := prog_42_method_152_code
def yJ5_coder : MethodName := ⟨RJ5, "coder", "()B"⟩
def dkwJ5_coder_0 : List UInt8 := [178, 0, 38, 153, 0, 10, 42, 180, 0, 15, 167, 0, 4, 4, 172]
abbrev dktJ5_coder_0 : List UInt8 := dkwJ5_coder_0 ++ []
theorem dksJ5_coder_0 : cJ5_coder.data.toList.drop 0 = dktJ5_coder_0 := by decide +kernel
theorem dJ5_coder_0 : decode cJ5_coder 0 = .ok (.getstatic 38, 3) := dk_178 0 38 (dk_at dksJ5_coder_0 0 rfl rfl)
theorem dJ5_coder_3 : decode cJ5_coder 3 = .ok (.ifCond .eq 10, 3) := dk_153 0 10 (dk_at dksJ5_coder_0 3 rfl rfl)
theorem dJ5_coder_6 : decode cJ5_coder 6 = .ok (.aload_n 0, 1) := dk_42 (dk_at dksJ5_coder_0 6 rfl rfl)
theorem dJ5_coder_7 : decode cJ5_coder 7 = .ok (.getfield 15, 3) := dk_180 0 15 (dk_at dksJ5_coder_0 7 rfl rfl)
theorem dJ5_coder_10 : decode cJ5_coder 10 = .ok (.goto 4, 3) := dk_167 0 4 (dk_at dksJ5_coder_0 10 rfl rfl)
theorem dJ5_coder_13 : decode cJ5_coder 13 = .ok (.iconst 1, 1) := dk_4 (dk_at dksJ5_coder_0 13 rfl rfl)
theorem dJ5_coder_14 : decode cJ5_coder 14 = .ok (.ireturn, 1) := dk_172 (dk_at dksJ5_coder_0 14 rfl rfl)
abbrev cJ5_charAt : ByteArray := prog_42_method_56_code
def yJ5_charAt : MethodName := ⟨RJ5, "charAt", "(I)C"⟩
def dkwJ5_charAt_1 : List UInt8 := [172]
abbrev dktJ5_charAt_1 : List UInt8 := dkwJ5_charAt_1 ++ []
def dkwJ5_charAt_0 : List UInt8 := [42, 182, 1, 236, 153, 0, 12, 42, 180, 0, 9, 27, 184, 1, 239, 172, 42, 180, 0, 9, 27, 184, 1, 242]
abbrev dktJ5_charAt_0 : List UInt8 := dkwJ5_charAt_0 ++ dktJ5_charAt_1
theorem dksJ5_charAt_0 : cJ5_charAt.data.toList.drop 0 = dktJ5_charAt_0 := by decide +kernel
theorem dksJ5_charAt_1 : cJ5_charAt.data.toList.drop 24 = dktJ5_charAt_1 := dk_seg dksJ5_charAt_0 24 rfl rfl
theorem dJ5_charAt_0 : decode cJ5_charAt 0 = .ok (.aload_n 0, 1) := dk_42 (dk_at dksJ5_charAt_0 0 rfl rfl)
theorem dJ5_charAt_1 : decode cJ5_charAt 1 = .ok (.invokevirtual 492, 3) := dk_182 1 236 (dk_at dksJ5_charAt_0 1 rfl rfl)
theorem dJ5_charAt_4 : decode cJ5_charAt 4 = .ok (.ifCond .eq 12, 3) := dk_153 0 12 (dk_at dksJ5_charAt_0 4 rfl rfl)
theorem dJ5_charAt_7 : decode cJ5_charAt 7 = .ok (.aload_n 0, 1) := dk_42 (dk_at dksJ5_charAt_0 7 rfl rfl)
theorem dJ5_charAt_8 : decode cJ5_charAt 8 = .ok (.getfield 9, 3) := dk_180 0 9 (dk_at dksJ5_charAt_0 8 rfl rfl)
theorem dJ5_charAt_11 : decode cJ5_charAt 11 = .ok (.iload_n 1, 1) := dk_27 (dk_at dksJ5_charAt_0 11 rfl rfl)
theorem dJ5_charAt_12 : decode cJ5_charAt 12 = .ok (.invokestatic 495, 3) := dk_184 1 239 (dk_at dksJ5_charAt_0 12 rfl rfl)
theorem dJ5_charAt_15 : decode cJ5_charAt 15 = .ok (.ireturn, 1) := dk_172 (dk_at dksJ5_charAt_0 15 rfl rfl)
theorem dJ5_charAt_16 : decode cJ5_charAt 16 = .ok (.aload_n 0, 1) := dk_42 (dk_at dksJ5_charAt_0 16 rfl rfl)
theorem dJ5_charAt_17 : decode cJ5_charAt 17 = .ok (.getfield 9, 3) := dk_180 0 9 (dk_at dksJ5_charAt_0 17 rfl rfl)
theorem dJ5_charAt_20 : decode cJ5_charAt 20 = .ok (.iload_n 1, 1) := dk_27 (dk_at dksJ5_charAt_0 20 rfl rfl)
theorem dJ5_charAt_21 : decode cJ5_charAt 21 = .ok (.invokestatic 498, 3) := dk_184 1 242 (dk_at dksJ5_charAt_0 21 rfl rfl)
theorem dJ5_charAt_24 : decode cJ5_charAt 24 = .ok (.ireturn, 1) := dk_172 (dk_at dksJ5_charAt_1 0 rfl rfl)
abbrev cJ5_isLatin1 : ByteArray := prog_42_method_154_code
def yJ5_isLatin1 : MethodName := ⟨RJ5, "isLatin1", "()Z"⟩
def dkwJ5_isLatin1_0 : List UInt8 := [178, 0, 38, 153, 0, 14, 42, 180, 0, 15, 154, 0, 7, 4, 167, 0, 4, 3, 172]
abbrev dktJ5_isLatin1_0 : List UInt8 := dkwJ5_isLatin1_0 ++ []
theorem dksJ5_isLatin1_0 : cJ5_isLatin1.data.toList.drop 0 = dktJ5_isLatin1_0 := by decide +kernel
theorem dJ5_isLatin1_0 : decode cJ5_isLatin1 0 = .ok (.getstatic 38, 3) := dk_178 0 38 (dk_at dksJ5_isLatin1_0 0 rfl rfl)
theorem dJ5_isLatin1_3 : decode cJ5_isLatin1 3 = .ok (.ifCond .eq 14, 3) := dk_153 0 14 (dk_at dksJ5_isLatin1_0 3 rfl rfl)
theorem dJ5_isLatin1_6 : decode cJ5_isLatin1 6 = .ok (.aload_n 0, 1) := dk_42 (dk_at dksJ5_isLatin1_0 6 rfl rfl)
theorem dJ5_isLatin1_7 : decode cJ5_isLatin1 7 = .ok (.getfield 15, 3) := dk_180 0 15 (dk_at dksJ5_isLatin1_0 7 rfl rfl)
theorem dJ5_isLatin1_10 : decode cJ5_isLatin1 10 = .ok (.ifCond .ne 7, 3) := dk_154 0 7 (dk_at dksJ5_isLatin1_0 10 rfl rfl)
theorem dJ5_isLatin1_13 : decode cJ5_isLatin1 13 = .ok (.iconst 1, 1) := dk_4 (dk_at dksJ5_isLatin1_0 13 rfl rfl)
theorem dJ5_isLatin1_14 : decode cJ5_isLatin1 14 = .ok (.goto 4, 3) := dk_167 0 4 (dk_at dksJ5_isLatin1_0 14 rfl rfl)
theorem dJ5_isLatin1_17 : decode cJ5_isLatin1 17 = .ok (.iconst 0, 1) := dk_3 (dk_at dksJ5_isLatin1_0 17 rfl rfl)
theorem dJ5_isLatin1_18 : decode cJ5_isLatin1 18 = .ok (.ireturn, 1) := dk_172 (dk_at dksJ5_isLatin1_0 18 rfl rfl)
abbrev cJ5_checkIndex : ByteArray := prog_42_method_155_code
def yJ5_checkIndex : MethodName := ⟨RJ5, "checkIndex", "(II)V"⟩
def dkwJ5_checkIndex_0 : List UInt8 := [26, 27, 178, 4, 29, 184, 4, 35, 87, 177]
abbrev dktJ5_checkIndex_0 : List UInt8 := dkwJ5_checkIndex_0 ++ []
theorem dksJ5_checkIndex_0 : cJ5_checkIndex.data.toList.drop 0 = dktJ5_checkIndex_0 := by decide +kernel
theorem dJ5_checkIndex_0 : decode cJ5_checkIndex 0 = .ok (.iload_n 0, 1) := dk_26 (dk_at dksJ5_checkIndex_0 0 rfl rfl)
theorem dJ5_checkIndex_1 : decode cJ5_checkIndex 1 = .ok (.iload_n 1, 1) := dk_27 (dk_at dksJ5_checkIndex_0 1 rfl rfl)
theorem dJ5_checkIndex_2 : decode cJ5_checkIndex 2 = .ok (.getstatic 1053, 3) := dk_178 4 29 (dk_at dksJ5_checkIndex_0 2 rfl rfl)
theorem dJ5_checkIndex_5 : decode cJ5_checkIndex 5 = .ok (.invokestatic 1059, 3) := dk_184 4 35 (dk_at dksJ5_checkIndex_0 5 rfl rfl)
theorem dJ5_checkIndex_8 : decode cJ5_checkIndex 8 = .ok (.pop, 1) := dk_87 (dk_at dksJ5_checkIndex_0 8 rfl rfl)
theorem dJ5_checkIndex_9 : decode cJ5_checkIndex 9 = .ok (.return_, 1) := dk_177 (dk_at dksJ5_checkIndex_0 9 rfl rfl)
abbrev cJ5_equals : ByteArray := prog_42_method_66_code
def yJ5_equals : MethodName := ⟨RJ5, "equals", "(Ljava/lang/Object;)Z"⟩
def dkwJ5_equals_2 : List UInt8 := [184, 2, 29, 153, 0, 7, 4, 167, 0, 4, 3, 172]
abbrev dktJ5_equals_2 : List UInt8 := dkwJ5_equals_2 ++ []
def dkwJ5_equals_1 : List UInt8 := [153, 0, 14, 42, 180, 0, 15, 44, 180, 0, 15, 160, 0, 21, 42, 180, 0, 9, 44, 180, 0, 9]
abbrev dktJ5_equals_1 : List UInt8 := dkwJ5_equals_1 ++ dktJ5_equals_2
def dkwJ5_equals_0 : List UInt8 := [42, 43, 166, 0, 5, 4, 172, 43, 193, 0, 10, 153, 0, 43, 43, 192, 0, 10, 77, 178, 0, 38]
abbrev dktJ5_equals_0 : List UInt8 := dkwJ5_equals_0 ++ dktJ5_equals_1
theorem dksJ5_equals_0 : cJ5_equals.data.toList.drop 0 = dktJ5_equals_0 := by decide +kernel
theorem dksJ5_equals_1 : cJ5_equals.data.toList.drop 22 = dktJ5_equals_1 := dk_seg dksJ5_equals_0 22 rfl rfl
theorem dksJ5_equals_2 : cJ5_equals.data.toList.drop 44 = dktJ5_equals_2 := dk_seg dksJ5_equals_1 22 rfl rfl
theorem dJ5_equals_0 : decode cJ5_equals 0 = .ok (.aload_n 0, 1) := dk_42 (dk_at dksJ5_equals_0 0 rfl rfl)
theorem dJ5_equals_1 : decode cJ5_equals 1 = .ok (.aload_n 1, 1) := dk_43 (dk_at dksJ5_equals_0 1 rfl rfl)
theorem dJ5_equals_2 : decode cJ5_equals 2 = .ok (.if_acmp .ne 5, 3) := dk_166 0 5 (dk_at dksJ5_equals_0 2 rfl rfl)
theorem dJ5_equals_5 : decode cJ5_equals 5 = .ok (.iconst 1, 1) := dk_4 (dk_at dksJ5_equals_0 5 rfl rfl)
theorem dJ5_equals_6 : decode cJ5_equals 6 = .ok (.ireturn, 1) := dk_172 (dk_at dksJ5_equals_0 6 rfl rfl)
theorem dJ5_equals_7 : decode cJ5_equals 7 = .ok (.aload_n 1, 1) := dk_43 (dk_at dksJ5_equals_0 7 rfl rfl)
theorem dJ5_equals_8 : decode cJ5_equals 8 = .ok (.instanceof 10, 3) := dk_193 0 10 (dk_at dksJ5_equals_0 8 rfl rfl)
theorem dJ5_equals_11 : decode cJ5_equals 11 = .ok (.ifCond .eq 43, 3) := dk_153 0 43 (dk_at dksJ5_equals_0 11 rfl rfl)
theorem dJ5_equals_14 : decode cJ5_equals 14 = .ok (.aload_n 1, 1) := dk_43 (dk_at dksJ5_equals_0 14 rfl rfl)
theorem dJ5_equals_15 : decode cJ5_equals 15 = .ok (.checkcast 10, 3) := dk_192 0 10 (dk_at dksJ5_equals_0 15 rfl rfl)
theorem dJ5_equals_18 : decode cJ5_equals 18 = .ok (.astore_n 2, 1) := dk_77 (dk_at dksJ5_equals_0 18 rfl rfl)
theorem dJ5_equals_19 : decode cJ5_equals 19 = .ok (.getstatic 38, 3) := dk_178 0 38 (dk_at dksJ5_equals_0 19 rfl rfl)
theorem dJ5_equals_22 : decode cJ5_equals 22 = .ok (.ifCond .eq 14, 3) := dk_153 0 14 (dk_at dksJ5_equals_1 0 rfl rfl)
theorem dJ5_equals_25 : decode cJ5_equals 25 = .ok (.aload_n 0, 1) := dk_42 (dk_at dksJ5_equals_1 3 rfl rfl)
theorem dJ5_equals_26 : decode cJ5_equals 26 = .ok (.getfield 15, 3) := dk_180 0 15 (dk_at dksJ5_equals_1 4 rfl rfl)
theorem dJ5_equals_29 : decode cJ5_equals 29 = .ok (.aload_n 2, 1) := dk_44 (dk_at dksJ5_equals_1 7 rfl rfl)
theorem dJ5_equals_30 : decode cJ5_equals 30 = .ok (.getfield 15, 3) := dk_180 0 15 (dk_at dksJ5_equals_1 8 rfl rfl)
theorem dJ5_equals_33 : decode cJ5_equals 33 = .ok (.if_icmp .ne 21, 3) := dk_160 0 21 (dk_at dksJ5_equals_1 11 rfl rfl)
theorem dJ5_equals_36 : decode cJ5_equals 36 = .ok (.aload_n 0, 1) := dk_42 (dk_at dksJ5_equals_1 14 rfl rfl)
theorem dJ5_equals_37 : decode cJ5_equals 37 = .ok (.getfield 9, 3) := dk_180 0 9 (dk_at dksJ5_equals_1 15 rfl rfl)
theorem dJ5_equals_40 : decode cJ5_equals 40 = .ok (.aload_n 2, 1) := dk_44 (dk_at dksJ5_equals_1 18 rfl rfl)
theorem dJ5_equals_41 : decode cJ5_equals 41 = .ok (.getfield 9, 3) := dk_180 0 9 (dk_at dksJ5_equals_1 19 rfl rfl)
theorem dJ5_equals_44 : decode cJ5_equals 44 = .ok (.invokestatic 541, 3) := dk_184 2 29 (dk_at dksJ5_equals_2 0 rfl rfl)
theorem dJ5_equals_47 : decode cJ5_equals 47 = .ok (.ifCond .eq 7, 3) := dk_153 0 7 (dk_at dksJ5_equals_2 3 rfl rfl)
theorem dJ5_equals_50 : decode cJ5_equals 50 = .ok (.iconst 1, 1) := dk_4 (dk_at dksJ5_equals_2 6 rfl rfl)
theorem dJ5_equals_51 : decode cJ5_equals 51 = .ok (.goto 4, 3) := dk_167 0 4 (dk_at dksJ5_equals_2 7 rfl rfl)
theorem dJ5_equals_54 : decode cJ5_equals 54 = .ok (.iconst 0, 1) := dk_3 (dk_at dksJ5_equals_2 10 rfl rfl)
theorem dJ5_equals_55 : decode cJ5_equals 55 = .ok (.ireturn, 1) := dk_172 (dk_at dksJ5_equals_2 11 rfl rfl)
theorem q183 : (Jvm.Cond.initialized "java/lang/String") ∈ lw_all := lw_g (lw_at lw_m1 15 rfl) rfl
theorem q594 : (Jvm.Cond.instantiable "java/lang/String" (4 : Nat)) ∈ lw_all := lw_g (lw_at lw_m2 186 rfl) rfl
theorem q596 : (Jvm.Cond.instanceMethod ({ cls := "java/lang/String", name := "<init>", desc := "([CII)V" } : Jvm.MethodName)) ∈ lw_all := lw_g (lw_at lw_m2 188 rfl) rfl
theorem q597 : (Jvm.Cond.code ({ cls := "java/lang/String", name := "<init>", desc := "([CII)V" } : Jvm.MethodName) prog_42_method_4_code (4 : Nat) (Option.none : Option Jvm.ClassFile.FieldType)) ∈ lw_all := lw_g (lw_at lw_m2 189 rfl) rfl
theorem q598 : (Jvm.Cond.methodLink "java/lang/String" (30 : Nat) ({ cls := "java/lang/String", name := "rangeCheck", desc := "([CII)Ljava/lang/Void;" } : Jvm.MethodName)) ∈ lw_all := lw_g (lw_at lw_m2 190 rfl) rfl
theorem q599 : (Jvm.Cond.static ({ cls := "java/lang/String", name := "rangeCheck", desc := "([CII)Ljava/lang/Void;" } : Jvm.MethodName)) ∈ lw_all := lw_g (lw_at lw_m2 191 rfl) rfl
theorem q600 : (Jvm.Cond.code ({ cls := "java/lang/String", name := "rangeCheck", desc := "([CII)Ljava/lang/Void;" } : Jvm.MethodName) prog_42_method_5_code (3 : Nat) (Option.some (Jvm.ClassFile.FieldType.object "java/lang/Void"))) ∈ lw_all := lw_g (lw_at lw_m2 192 rfl) rfl
theorem q601 : (Jvm.Cond.methodLink "java/lang/String" (34 : Nat) ({ cls := "java/lang/String", name := "checkBoundsOffCount", desc := "(III)I" } : Jvm.MethodName)) ∈ lw_all := lw_g (lw_at lw_m2 193 rfl) rfl
theorem q602 : (Jvm.Cond.static ({ cls := "java/lang/String", name := "checkBoundsOffCount", desc := "(III)I" } : Jvm.MethodName)) ∈ lw_all := lw_g (lw_at lw_m2 194 rfl) rfl
theorem q603 : (Jvm.Cond.code ({ cls := "java/lang/String", name := "checkBoundsOffCount", desc := "(III)I" } : Jvm.MethodName) prog_42_method_157_code (3 : Nat) (Option.some Jvm.ClassFile.FieldType.int)) ∈ lw_all := lw_g (lw_at lw_m2 195 rfl) rfl
theorem q604 : (Jvm.Cond.fieldLink "java/lang/String" (1053 : Nat) "jdk/internal/util/Preconditions" "SIOOBE_FORMATTER" "Ljava/util/function/BiFunction;") ∈ lw_all := lw_g (lw_at lw_m2 196 rfl) rfl
theorem q606 : (Jvm.Cond.methodLink "java/lang/String" (1065 : Nat) ({ cls := "jdk/internal/util/Preconditions", name := "checkFromIndexSize", desc := "(IIILjava/util/function/BiFunction;)I" } : Jvm.MethodName)) ∈ lw_all := lw_g (lw_at lw_m2 198 rfl) rfl
theorem q609 : (Jvm.Cond.methodLink "java/lang/String" (27 : Nat) ({ cls := "java/lang/String", name := "<init>", desc := "([CIILjava/lang/Void;)V" } : Jvm.MethodName)) ∈ lw_all := lw_g (lw_at lw_m2 201 rfl) rfl
theorem q610 : (Jvm.Cond.instanceMethod ({ cls := "java/lang/String", name := "<init>", desc := "([CIILjava/lang/Void;)V" } : Jvm.MethodName)) ∈ lw_all := lw_g (lw_at lw_m2 202 rfl) rfl
theorem q611 : (Jvm.Cond.code ({ cls := "java/lang/String", name := "<init>", desc := "([CIILjava/lang/Void;)V" } : Jvm.MethodName) prog_42_method_149_code (6 : Nat) (Option.none : Option Jvm.ClassFile.FieldType)) ∈ lw_all := lw_g (lw_at lw_m2 203 rfl) rfl
theorem q612 : (Jvm.Cond.methodLink "java/lang/String" (1 : Nat) ({ cls := "java/lang/Object", name := "<init>", desc := "()V" } : Jvm.MethodName)) ∈ lw_all := lw_g (lw_at lw_m2 204 rfl) rfl
theorem q613 : (Jvm.Cond.stringRef "java/lang/String" (7 : Nat) "") ∈ lw_tbl := lw_at lw_m2 205 rfl
theorem q614 : (Jvm.Cond.fieldLink "java/lang/String" (38 : Nat) "java/lang/String" "COMPACT_STRINGS" "Z") ∈ lw_all := lw_g (lw_at lw_m2 206 rfl) rfl
theorem q615 : (Jvm.Cond.laysStatic "java/lang/String" "COMPACT_STRINGS" "Z") ∈ lw_tbl := lw_at lw_m2 207 rfl
theorem q616 : (Jvm.Cond.methodLink "java/lang/String" (177 : Nat) ({ cls := "java/lang/StringUTF16", name := "compress", desc := "([CII)[B" } : Jvm.MethodName)) ∈ lw_all := lw_g (lw_at lw_m2 208 rfl) rfl
theorem q654 : (Jvm.Cond.methodLink "java/lang/String" (47 : Nat) ({ cls := "java/lang/StringUTF16", name := "coderFromArrayLen", desc := "([BI)B" } : Jvm.MethodName)) ∈ lw_all := lw_g (lw_at lw_m3 6 rfl) rfl
theorem q657 : (Jvm.Cond.methodLink "java/lang/String" (180 : Nat) ({ cls := "java/lang/StringUTF16", name := "toBytes", desc := "([CII)[B" } : Jvm.MethodName)) ∈ lw_all := lw_g (lw_at lw_m3 9 rfl) rfl
theorem q658 : (Jvm.Cond.fieldLink "java/lang/String" (9 : Nat) "java/lang/String" "value" "[B") ∈ lw_all := lw_g (lw_at lw_m3 10 rfl) rfl
theorem q659 : (Jvm.Cond.fieldLink "java/lang/String" (15 : Nat) "java/lang/String" "coder" "B") ∈ lw_all := lw_g (lw_at lw_m3 11 rfl) rfl
theorem q660 : (Jvm.Cond.laysFinal "java/lang/String" "java/lang/String" "value" "[B") ∈ lw_all := lw_g (lw_at lw_m3 12 rfl) rfl
theorem q661 : (Jvm.Cond.soleField "java/lang/String" "value") ∈ lw_all := lw_g (lw_at lw_m3 13 rfl) rfl
theorem q662 : (Jvm.Cond.laysFinal "java/lang/String" "java/lang/String" "coder" "B") ∈ lw_all := lw_g (lw_at lw_m3 14 rfl) rfl
theorem q663 : (Jvm.Cond.soleField "java/lang/String" "coder") ∈ lw_all := lw_g (lw_at lw_m3 15 rfl) rfl
theorem q664 : (Jvm.Cond.lays "java/lang/String" "java/lang/String" "hash" "I") ∈ lw_all := lw_g (lw_at lw_m3 16 rfl) rfl
theorem q665 : (Jvm.Cond.soleField "java/lang/String" "hash") ∈ lw_all := lw_g (lw_at lw_m3 17 rfl) rfl
theorem q666 : (Jvm.Cond.lays "java/lang/String" "java/lang/String" "hashIsZero" "Z") ∈ lw_all := lw_g (lw_at lw_m3 18 rfl) rfl
theorem q667 : (Jvm.Cond.soleField "java/lang/String" "hashIsZero") ∈ lw_all := lw_g (lw_at lw_m3 19 rfl) rfl
theorem q668 : (Jvm.Cond.superclass "java/lang/String" "java/lang/Object") ∈ lw_all := lw_g (lw_at lw_m3 20 rfl) rfl
theorem q673 : (Jvm.Cond.instanceMethod ({ cls := "java/lang/String", name := "length", desc := "()I" } : Jvm.MethodName)) ∈ lw_all := lw_g (lw_at lw_m3 25 rfl) rfl
theorem q674 : (Jvm.Cond.selects "java/lang/String" ({ cls := "java/lang/String", name := "length", desc := "()I" } : Jvm.MethodName) ({ cls := "java/lang/String", name := "length", desc := "()I" } : Jvm.MethodName)) ∈ lw_all := lw_g (lw_at lw_m3 26 rfl) rfl
theorem q675 : (Jvm.Cond.code ({ cls := "java/lang/String", name := "length", desc := "()I" } : Jvm.MethodName) prog_42_method_54_code (1 : Nat) (Option.some Jvm.ClassFile.FieldType.int)) ∈ lw_all := lw_g (lw_at lw_m3 27 rfl) rfl
theorem q676 : (Jvm.Cond.methodLink "java/lang/String" (335 : Nat) ({ cls := "java/lang/String", name := "coder", desc := "()B" } : Jvm.MethodName)) ∈ lw_all := lw_g (lw_at lw_m3 28 rfl) rfl
theorem q677 : (Jvm.Cond.instanceMethod ({ cls := "java/lang/String", name := "coder", desc := "()B" } : Jvm.MethodName)) ∈ lw_all := lw_g (lw_at lw_m3 29 rfl) rfl
theorem q678 : (Jvm.Cond.selects "java/lang/String" ({ cls := "java/lang/String", name := "coder", desc := "()B" } : Jvm.MethodName) ({ cls := "java/lang/String", name := "coder", desc := "()B" } : Jvm.MethodName)) ∈ lw_all := lw_g (lw_at lw_m3 30 rfl) rfl
theorem q679 : (Jvm.Cond.code ({ cls := "java/lang/String", name := "coder", desc := "()B" } : Jvm.MethodName) prog_42_method_152_code (1 : Nat) (Option.some Jvm.ClassFile.FieldType.byte)) ∈ lw_all := lw_g (lw_at lw_m3 31 rfl) rfl
theorem q681 : (Jvm.Cond.instanceMethod ({ cls := "java/lang/String", name := "charAt", desc := "(I)C" } : Jvm.MethodName)) ∈ lw_all := lw_g (lw_at lw_m3 33 rfl) rfl
theorem q682 : (Jvm.Cond.selects "java/lang/String" ({ cls := "java/lang/String", name := "charAt", desc := "(I)C" } : Jvm.MethodName) ({ cls := "java/lang/String", name := "charAt", desc := "(I)C" } : Jvm.MethodName)) ∈ lw_all := lw_g (lw_at lw_m3 34 rfl) rfl
theorem q683 : (Jvm.Cond.code ({ cls := "java/lang/String", name := "charAt", desc := "(I)C" } : Jvm.MethodName) prog_42_method_56_code (2 : Nat) (Option.some Jvm.ClassFile.FieldType.char)) ∈ lw_all := lw_g (lw_at lw_m3 35 rfl) rfl
theorem q684 : (Jvm.Cond.methodLink "java/lang/String" (492 : Nat) ({ cls := "java/lang/String", name := "isLatin1", desc := "()Z" } : Jvm.MethodName)) ∈ lw_all := lw_g (lw_at lw_m3 36 rfl) rfl
theorem q685 : (Jvm.Cond.instanceMethod ({ cls := "java/lang/String", name := "isLatin1", desc := "()Z" } : Jvm.MethodName)) ∈ lw_all := lw_g (lw_at lw_m3 37 rfl) rfl
theorem q686 : (Jvm.Cond.selects "java/lang/String" ({ cls := "java/lang/String", name := "isLatin1", desc := "()Z" } : Jvm.MethodName) ({ cls := "java/lang/String", name := "isLatin1", desc := "()Z" } : Jvm.MethodName)) ∈ lw_all := lw_g (lw_at lw_m3 38 rfl) rfl
theorem q687 : (Jvm.Cond.code ({ cls := "java/lang/String", name := "isLatin1", desc := "()Z" } : Jvm.MethodName) prog_42_method_154_code (1 : Nat) (Option.some Jvm.ClassFile.FieldType.boolean)) ∈ lw_all := lw_g (lw_at lw_m3 39 rfl) rfl
theorem q688 : (Jvm.Cond.methodLink "java/lang/String" (495 : Nat) ({ cls := "java/lang/StringLatin1", name := "charAt", desc := "([BI)C" } : Jvm.MethodName)) ∈ lw_all := lw_g (lw_at lw_m3 40 rfl) rfl
theorem q692 : (Jvm.Cond.static ({ cls := "java/lang/String", name := "checkIndex", desc := "(II)V" } : Jvm.MethodName)) ∈ lw_all := lw_g (lw_at lw_m3 44 rfl) rfl
theorem q693 : (Jvm.Cond.code ({ cls := "java/lang/String", name := "checkIndex", desc := "(II)V" } : Jvm.MethodName) prog_42_method_155_code (2 : Nat) (Option.none : Option Jvm.ClassFile.FieldType)) ∈ lw_all := lw_g (lw_at lw_m3 45 rfl) rfl
theorem q694 : (Jvm.Cond.methodLink "java/lang/String" (1059 : Nat) ({ cls := "jdk/internal/util/Preconditions", name := "checkIndex", desc := "(IILjava/util/function/BiFunction;)I" } : Jvm.MethodName)) ∈ lw_all := lw_g (lw_at lw_m3 46 rfl) rfl
theorem q697 : (Jvm.Cond.methodLink "java/lang/String" (498 : Nat) ({ cls := "java/lang/StringUTF16", name := "charAt", desc := "([BI)C" } : Jvm.MethodName)) ∈ lw_all := lw_g (lw_at lw_m3 49 rfl) rfl
theorem q705 : (Jvm.Cond.instanceMethod ({ cls := "java/lang/String", name := "equals", desc := "(Ljava/lang/Object;)Z" } : Jvm.MethodName)) ∈ lw_all := lw_g (lw_at lw_m3 57 rfl) rfl
theorem q706 : (Jvm.Cond.selects "java/lang/String" ({ cls := "java/lang/String", name := "equals", desc := "(Ljava/lang/Object;)Z" } : Jvm.MethodName) ({ cls := "java/lang/String", name := "equals", desc := "(Ljava/lang/Object;)Z" } : Jvm.MethodName)) ∈ lw_all := lw_g (lw_at lw_m3 58 rfl) rfl
theorem q707 : (Jvm.Cond.code ({ cls := "java/lang/String", name := "equals", desc := "(Ljava/lang/Object;)Z" } : Jvm.MethodName) prog_42_method_66_code (3 : Nat) (Option.some Jvm.ClassFile.FieldType.boolean)) ∈ lw_all := lw_g (lw_at lw_m3 59 rfl) rfl
theorem q708 : (Jvm.Cond.classLink "java/lang/String" (10 : Nat) "java/lang/String") ∈ lw_all := lw_g (lw_at lw_m3 60 rfl) rfl
theorem q709 : (Jvm.Cond.methodLink "java/lang/String" (541 : Nat) ({ cls := "java/lang/StringLatin1", name := "equals", desc := "([B[B)Z" } : Jvm.MethodName)) ∈ lw_all := lw_g (lw_at lw_m3 61 rfl) rfl
theorem q975 : (Jvm.Cond.selects "java/lang/String" ({ cls := "java/lang/Object", name := "getClass", desc := "()Ljava/lang/Class;" } : Jvm.MethodName) ({ cls := "java/lang/Object", name := "getClass", desc := "()Ljava/lang/Class;" } : Jvm.MethodName)) ∈ lw_all := lw_g (lw_at lw_m4 87 rfl) rfl
theorem q2833 : (Jvm.Cond.castable "java/lang/String" "java/lang/Object") ∈ lw_tbl := lw_at lw_m12 25 rfl
theorem in_J5 : ∀ w ∈ wsJ50, w ∈ lw_all := lw_in wsJ50 [660, 662, 664, 666] (by decide +kernel) (by decide +kernel)
/-! jdk/internal/util/Preconditions -/
def RJ6 : String := "jdk/internal/util/Preconditions"
abbrev cJ6_checkFromIndexSize : ByteArray := prog_60_method_13_code
def yJ6_checkFromIndexSize : MethodName := ⟨RJ6, "checkFromIndexSize", "(IIILjava/util/function/BiFunction;)I"⟩
def dkwJ6_checkFromIndexSize_1 : List UInt8 := [172]
abbrev dktJ6_checkFromIndexSize_1 : List UInt8 := dkwJ6_checkFromIndexSize_1 ++ []
def dkwJ6_checkFromIndexSize_0 : List UInt8 := [28, 26, 128, 27, 128, 155, 0, 10, 27, 28, 26, 100, 164, 0, 11, 45, 26, 27, 28, 184, 0, 103, 191, 26]
abbrev dktJ6_checkFromIndexSize_0 : List UInt8 := dkwJ6_checkFromIndexSize_0 ++ dktJ6_checkFromIndexSize_1
theorem dksJ6_checkFromIndexSize_0 : cJ6_checkFromIndexSize.data.toList.drop 0 = dktJ6_checkFromIndexSize_0 := by decide +kernel
theorem dksJ6_checkFromIndexSize_1 : cJ6_checkFromIndexSize.data.toList.drop 24 = dktJ6_checkFromIndexSize_1 := dk_seg dksJ6_checkFromIndexSize_0 24 rfl rfl
theorem dJ6_checkFromIndexSize_0 : decode cJ6_checkFromIndexSize 0 = .ok (.iload_n 2, 1) := dk_28 (dk_at dksJ6_checkFromIndexSize_0 0 rfl rfl)
theorem dJ6_checkFromIndexSize_1 : decode cJ6_checkFromIndexSize 1 = .ok (.iload_n 0, 1) := dk_26 (dk_at dksJ6_checkFromIndexSize_0 1 rfl rfl)
theorem dJ6_checkFromIndexSize_2 : decode cJ6_checkFromIndexSize 2 = .ok (.ior, 1) := dk_128 (dk_at dksJ6_checkFromIndexSize_0 2 rfl rfl)
theorem dJ6_checkFromIndexSize_3 : decode cJ6_checkFromIndexSize 3 = .ok (.iload_n 1, 1) := dk_27 (dk_at dksJ6_checkFromIndexSize_0 3 rfl rfl)
theorem dJ6_checkFromIndexSize_4 : decode cJ6_checkFromIndexSize 4 = .ok (.ior, 1) := dk_128 (dk_at dksJ6_checkFromIndexSize_0 4 rfl rfl)
theorem dJ6_checkFromIndexSize_5 : decode cJ6_checkFromIndexSize 5 = .ok (.ifCond .lt 10, 3) := dk_155 0 10 (dk_at dksJ6_checkFromIndexSize_0 5 rfl rfl)
theorem dJ6_checkFromIndexSize_8 : decode cJ6_checkFromIndexSize 8 = .ok (.iload_n 1, 1) := dk_27 (dk_at dksJ6_checkFromIndexSize_0 8 rfl rfl)
theorem dJ6_checkFromIndexSize_9 : decode cJ6_checkFromIndexSize 9 = .ok (.iload_n 2, 1) := dk_28 (dk_at dksJ6_checkFromIndexSize_0 9 rfl rfl)
theorem dJ6_checkFromIndexSize_10 : decode cJ6_checkFromIndexSize 10 = .ok (.iload_n 0, 1) := dk_26 (dk_at dksJ6_checkFromIndexSize_0 10 rfl rfl)
theorem dJ6_checkFromIndexSize_11 : decode cJ6_checkFromIndexSize 11 = .ok (.isub, 1) := dk_100 (dk_at dksJ6_checkFromIndexSize_0 11 rfl rfl)
theorem dJ6_checkFromIndexSize_12 : decode cJ6_checkFromIndexSize 12 = .ok (.if_icmp .le 11, 3) := dk_164 0 11 (dk_at dksJ6_checkFromIndexSize_0 12 rfl rfl)
theorem dJ6_checkFromIndexSize_15 : decode cJ6_checkFromIndexSize 15 = .ok (.aload_n 3, 1) := dk_45 (dk_at dksJ6_checkFromIndexSize_0 15 rfl rfl)
theorem dJ6_checkFromIndexSize_16 : decode cJ6_checkFromIndexSize 16 = .ok (.iload_n 0, 1) := dk_26 (dk_at dksJ6_checkFromIndexSize_0 16 rfl rfl)
theorem dJ6_checkFromIndexSize_17 : decode cJ6_checkFromIndexSize 17 = .ok (.iload_n 1, 1) := dk_27 (dk_at dksJ6_checkFromIndexSize_0 17 rfl rfl)
theorem dJ6_checkFromIndexSize_18 : decode cJ6_checkFromIndexSize 18 = .ok (.iload_n 2, 1) := dk_28 (dk_at dksJ6_checkFromIndexSize_0 18 rfl rfl)
theorem dJ6_checkFromIndexSize_19 : decode cJ6_checkFromIndexSize 19 = .ok (.invokestatic 103, 3) := dk_184 0 103 (dk_at dksJ6_checkFromIndexSize_0 19 rfl rfl)
theorem dJ6_checkFromIndexSize_22 : decode cJ6_checkFromIndexSize 22 = .ok (.athrow, 1) := dk_191 (dk_at dksJ6_checkFromIndexSize_0 22 rfl rfl)
theorem dJ6_checkFromIndexSize_23 : decode cJ6_checkFromIndexSize 23 = .ok (.iload_n 0, 1) := dk_26 (dk_at dksJ6_checkFromIndexSize_0 23 rfl rfl)
theorem dJ6_checkFromIndexSize_24 : decode cJ6_checkFromIndexSize 24 = .ok (.ireturn, 1) := dk_172 (dk_at dksJ6_checkFromIndexSize_1 0 rfl rfl)
abbrev cJ6_checkIndex : ByteArray := prog_60_method_11_code
def yJ6_checkIndex : MethodName := ⟨RJ6, "checkIndex", "(IILjava/util/function/BiFunction;)I"⟩
def dkwJ6_checkIndex_0 : List UInt8 := [26, 155, 0, 8, 26, 27, 161, 0, 10, 44, 26, 27, 184, 0, 95, 191, 26, 172]
abbrev dktJ6_checkIndex_0 : List UInt8 := dkwJ6_checkIndex_0 ++ []
theorem dksJ6_checkIndex_0 : cJ6_checkIndex.data.toList.drop 0 = dktJ6_checkIndex_0 := by decide +kernel
theorem dJ6_checkIndex_0 : decode cJ6_checkIndex 0 = .ok (.iload_n 0, 1) := dk_26 (dk_at dksJ6_checkIndex_0 0 rfl rfl)
theorem dJ6_checkIndex_1 : decode cJ6_checkIndex 1 = .ok (.ifCond .lt 8, 3) := dk_155 0 8 (dk_at dksJ6_checkIndex_0 1 rfl rfl)
theorem dJ6_checkIndex_4 : decode cJ6_checkIndex 4 = .ok (.iload_n 0, 1) := dk_26 (dk_at dksJ6_checkIndex_0 4 rfl rfl)
theorem dJ6_checkIndex_5 : decode cJ6_checkIndex 5 = .ok (.iload_n 1, 1) := dk_27 (dk_at dksJ6_checkIndex_0 5 rfl rfl)
theorem dJ6_checkIndex_6 : decode cJ6_checkIndex 6 = .ok (.if_icmp .lt 10, 3) := dk_161 0 10 (dk_at dksJ6_checkIndex_0 6 rfl rfl)
theorem dJ6_checkIndex_9 : decode cJ6_checkIndex 9 = .ok (.aload_n 2, 1) := dk_44 (dk_at dksJ6_checkIndex_0 9 rfl rfl)
theorem dJ6_checkIndex_10 : decode cJ6_checkIndex 10 = .ok (.iload_n 0, 1) := dk_26 (dk_at dksJ6_checkIndex_0 10 rfl rfl)
theorem dJ6_checkIndex_11 : decode cJ6_checkIndex 11 = .ok (.iload_n 1, 1) := dk_27 (dk_at dksJ6_checkIndex_0 11 rfl rfl)
theorem dJ6_checkIndex_12 : decode cJ6_checkIndex 12 = .ok (.invokestatic 95, 3) := dk_184 0 95 (dk_at dksJ6_checkIndex_0 12 rfl rfl)
theorem dJ6_checkIndex_15 : decode cJ6_checkIndex 15 = .ok (.athrow, 1) := dk_191 (dk_at dksJ6_checkIndex_0 15 rfl rfl)
theorem dJ6_checkIndex_16 : decode cJ6_checkIndex 16 = .ok (.iload_n 0, 1) := dk_26 (dk_at dksJ6_checkIndex_0 16 rfl rfl)
theorem dJ6_checkIndex_17 : decode cJ6_checkIndex 17 = .ok (.ireturn, 1) := dk_172 (dk_at dksJ6_checkIndex_0 17 rfl rfl)
theorem q184 : (Jvm.Cond.initialized "jdk/internal/util/Preconditions") ∈ lw_all := lw_g (lw_at lw_m1 16 rfl) rfl
theorem q605 : (Jvm.Cond.laysStatic "jdk/internal/util/Preconditions" "SIOOBE_FORMATTER" "Ljava/util/function/BiFunction;") ∈ lw_tbl := lw_at lw_m2 197 rfl
theorem q607 : (Jvm.Cond.static ({ cls := "jdk/internal/util/Preconditions", name := "checkFromIndexSize", desc := "(IIILjava/util/function/BiFunction;)I" } : Jvm.MethodName)) ∈ lw_all := lw_g (lw_at lw_m2 199 rfl) rfl
theorem q608 : (Jvm.Cond.code ({ cls := "jdk/internal/util/Preconditions", name := "checkFromIndexSize", desc := "(IIILjava/util/function/BiFunction;)I" } : Jvm.MethodName) prog_60_method_13_code (4 : Nat) (Option.some Jvm.ClassFile.FieldType.int)) ∈ lw_all := lw_g (lw_at lw_m2 200 rfl) rfl
theorem q695 : (Jvm.Cond.static ({ cls := "jdk/internal/util/Preconditions", name := "checkIndex", desc := "(IILjava/util/function/BiFunction;)I" } : Jvm.MethodName)) ∈ lw_all := lw_g (lw_at lw_m3 47 rfl) rfl
theorem q696 : (Jvm.Cond.code ({ cls := "jdk/internal/util/Preconditions", name := "checkIndex", desc := "(IILjava/util/function/BiFunction;)I" } : Jvm.MethodName) prog_60_method_11_code (3 : Nat) (Option.some Jvm.ClassFile.FieldType.int)) ∈ lw_all := lw_g (lw_at lw_m3 48 rfl) rfl
/-! java/lang/StringUTF16 -/
def RJ7 : String := "java/lang/StringUTF16"
abbrev cJ7_compress : ByteArray := prog_45_method_16_code
def yJ7_compress : MethodName := ⟨RJ7, "compress", "([CII)[B"⟩
def dkwJ7_compress_2 : List UInt8 := [184, 0, 123, 28, 159, 0, 6, 25, 5, 176, 45, 176]
abbrev dktJ7_compress_2 : List UInt8 := dkwJ7_compress_2 ++ []
def dkwJ7_compress_1 : List UInt8 := [184, 0, 119, 58, 5, 25, 5, 21, 4, 184, 0, 71, 17, 0, 255, 163, 0, 16, 25, 5, 3, 45, 3, 28]
abbrev dktJ7_compress_1 : List UInt8 := dkwJ7_compress_1 ++ dktJ7_compress_2
def dkwJ7_compress_0 : List UInt8 := [28, 188, 8, 78, 42, 27, 45, 3, 28, 184, 0, 115, 54, 4, 21, 4, 28, 159, 0, 40, 42, 27, 28]
abbrev dktJ7_compress_0 : List UInt8 := dkwJ7_compress_0 ++ dktJ7_compress_1
theorem dksJ7_compress_0 : cJ7_compress.data.toList.drop 0 = dktJ7_compress_0 := by decide +kernel
theorem dksJ7_compress_1 : cJ7_compress.data.toList.drop 23 = dktJ7_compress_1 := dk_seg dksJ7_compress_0 23 rfl rfl
theorem dksJ7_compress_2 : cJ7_compress.data.toList.drop 47 = dktJ7_compress_2 := dk_seg dksJ7_compress_1 24 rfl rfl
theorem dJ7_compress_0 : decode cJ7_compress 0 = .ok (.iload_n 2, 1) := dk_28 (dk_at dksJ7_compress_0 0 rfl rfl)
theorem dJ7_compress_1 : decode cJ7_compress 1 = .ok (.newarray .byte, 2) := dk_188_8 (dk_at dksJ7_compress_0 1 rfl rfl)
theorem dJ7_compress_3 : decode cJ7_compress 3 = .ok (.astore_n 3, 1) := dk_78 (dk_at dksJ7_compress_0 3 rfl rfl)
theorem dJ7_compress_4 : decode cJ7_compress 4 = .ok (.aload_n 0, 1) := dk_42 (dk_at dksJ7_compress_0 4 rfl rfl)
theorem dJ7_compress_5 : decode cJ7_compress 5 = .ok (.iload_n 1, 1) := dk_27 (dk_at dksJ7_compress_0 5 rfl rfl)
theorem dJ7_compress_6 : decode cJ7_compress 6 = .ok (.aload_n 3, 1) := dk_45 (dk_at dksJ7_compress_0 6 rfl rfl)
theorem dJ7_compress_7 : decode cJ7_compress 7 = .ok (.iconst 0, 1) := dk_3 (dk_at dksJ7_compress_0 7 rfl rfl)
theorem dJ7_compress_8 : decode cJ7_compress 8 = .ok (.iload_n 2, 1) := dk_28 (dk_at dksJ7_compress_0 8 rfl rfl)
theorem dJ7_compress_9 : decode cJ7_compress 9 = .ok (.invokestatic 115, 3) := dk_184 0 115 (dk_at dksJ7_compress_0 9 rfl rfl)
theorem dJ7_compress_12 : decode cJ7_compress 12 = .ok (.istore 4, 2) := dk_54 4 (dk_at dksJ7_compress_0 12 rfl rfl)
theorem dJ7_compress_14 : decode cJ7_compress 14 = .ok (.iload 4, 2) := dk_21 4 (dk_at dksJ7_compress_0 14 rfl rfl)
theorem dJ7_compress_16 : decode cJ7_compress 16 = .ok (.iload_n 2, 1) := dk_28 (dk_at dksJ7_compress_0 16 rfl rfl)
theorem dJ7_compress_17 : decode cJ7_compress 17 = .ok (.if_icmp .eq 40, 3) := dk_159 0 40 (dk_at dksJ7_compress_0 17 rfl rfl)
theorem dJ7_compress_20 : decode cJ7_compress 20 = .ok (.aload_n 0, 1) := dk_42 (dk_at dksJ7_compress_0 20 rfl rfl)
theorem dJ7_compress_21 : decode cJ7_compress 21 = .ok (.iload_n 1, 1) := dk_27 (dk_at dksJ7_compress_0 21 rfl rfl)
theorem dJ7_compress_22 : decode cJ7_compress 22 = .ok (.iload_n 2, 1) := dk_28 (dk_at dksJ7_compress_0 22 rfl rfl)
theorem dJ7_compress_23 : decode cJ7_compress 23 = .ok (.invokestatic 119, 3) := dk_184 0 119 (dk_at dksJ7_compress_1 0 rfl rfl)
theorem dJ7_compress_26 : decode cJ7_compress 26 = .ok (.astore 5, 2) := dk_58 5 (dk_at dksJ7_compress_1 3 rfl rfl)
theorem dJ7_compress_28 : decode cJ7_compress 28 = .ok (.aload 5, 2) := dk_25 5 (dk_at dksJ7_compress_1 5 rfl rfl)
theorem dJ7_compress_30 : decode cJ7_compress 30 = .ok (.iload 4, 2) := dk_21 4 (dk_at dksJ7_compress_1 7 rfl rfl)
theorem dJ7_compress_32 : decode cJ7_compress 32 = .ok (.invokestatic 71, 3) := dk_184 0 71 (dk_at dksJ7_compress_1 9 rfl rfl)
theorem dJ7_compress_35 : decode cJ7_compress 35 = .ok (.sipush 255, 3) := dk_17 0 255 (dk_at dksJ7_compress_1 12 rfl rfl)
theorem dJ7_compress_38 : decode cJ7_compress 38 = .ok (.if_icmp .gt 16, 3) := dk_163 0 16 (dk_at dksJ7_compress_1 15 rfl rfl)
theorem dJ7_compress_41 : decode cJ7_compress 41 = .ok (.aload 5, 2) := dk_25 5 (dk_at dksJ7_compress_1 18 rfl rfl)
theorem dJ7_compress_43 : decode cJ7_compress 43 = .ok (.iconst 0, 1) := dk_3 (dk_at dksJ7_compress_1 20 rfl rfl)
theorem dJ7_compress_44 : decode cJ7_compress 44 = .ok (.aload_n 3, 1) := dk_45 (dk_at dksJ7_compress_1 21 rfl rfl)
theorem dJ7_compress_45 : decode cJ7_compress 45 = .ok (.iconst 0, 1) := dk_3 (dk_at dksJ7_compress_1 22 rfl rfl)
theorem dJ7_compress_46 : decode cJ7_compress 46 = .ok (.iload_n 2, 1) := dk_28 (dk_at dksJ7_compress_1 23 rfl rfl)
theorem dJ7_compress_47 : decode cJ7_compress 47 = .ok (.invokestatic 123, 3) := dk_184 0 123 (dk_at dksJ7_compress_2 0 rfl rfl)
theorem dJ7_compress_50 : decode cJ7_compress 50 = .ok (.iload_n 2, 1) := dk_28 (dk_at dksJ7_compress_2 3 rfl rfl)
theorem dJ7_compress_51 : decode cJ7_compress 51 = .ok (.if_icmp .eq 6, 3) := dk_159 0 6 (dk_at dksJ7_compress_2 4 rfl rfl)
theorem dJ7_compress_54 : decode cJ7_compress 54 = .ok (.aload 5, 2) := dk_25 5 (dk_at dksJ7_compress_2 7 rfl rfl)
theorem dJ7_compress_56 : decode cJ7_compress 56 = .ok (.areturn, 1) := dk_176 (dk_at dksJ7_compress_2 9 rfl rfl)
theorem dJ7_compress_57 : decode cJ7_compress 57 = .ok (.aload_n 3, 1) := dk_45 (dk_at dksJ7_compress_2 10 rfl rfl)
theorem dJ7_compress_58 : decode cJ7_compress 58 = .ok (.areturn, 1) := dk_176 (dk_at dksJ7_compress_2 11 rfl rfl)
abbrev cJ7_compress_2 : ByteArray := prog_45_method_21_code
def yJ7_compress_2 : MethodName := ⟨RJ7, "compress", "([CI[BII)I"⟩
def dkwJ7_compress_2_1 : List UInt8 := [21, 5, 172, 44, 29, 21, 6, 145, 84, 132, 1, 1, 132, 3, 1, 132, 5, 1, 167, 255, 218, 21, 4, 172]
abbrev dktJ7_compress_2_1 : List UInt8 := dkwJ7_compress_2_1 ++ []
def dkwJ7_compress_2_0 : List UInt8 := [3, 54, 5, 21, 5, 21, 4, 162, 0, 37, 42, 27, 52, 54, 6, 21, 6, 17, 0, 255, 164, 0, 6]
abbrev dktJ7_compress_2_0 : List UInt8 := dkwJ7_compress_2_0 ++ dktJ7_compress_2_1
theorem dksJ7_compress_2_0 : cJ7_compress_2.data.toList.drop 0 = dktJ7_compress_2_0 := by decide +kernel
theorem dksJ7_compress_2_1 : cJ7_compress_2.data.toList.drop 23 = dktJ7_compress_2_1 := dk_seg dksJ7_compress_2_0 23 rfl rfl
theorem dJ7_compress_2_0 : decode cJ7_compress_2 0 = .ok (.iconst 0, 1) := dk_3 (dk_at dksJ7_compress_2_0 0 rfl rfl)
theorem dJ7_compress_2_1 : decode cJ7_compress_2 1 = .ok (.istore 5, 2) := dk_54 5 (dk_at dksJ7_compress_2_0 1 rfl rfl)
theorem dJ7_compress_2_3 : decode cJ7_compress_2 3 = .ok (.iload 5, 2) := dk_21 5 (dk_at dksJ7_compress_2_0 3 rfl rfl)
theorem dJ7_compress_2_5 : decode cJ7_compress_2 5 = .ok (.iload 4, 2) := dk_21 4 (dk_at dksJ7_compress_2_0 5 rfl rfl)
theorem dJ7_compress_2_7 : decode cJ7_compress_2 7 = .ok (.if_icmp .ge 37, 3) := dk_162 0 37 (dk_at dksJ7_compress_2_0 7 rfl rfl)
theorem dJ7_compress_2_10 : decode cJ7_compress_2 10 = .ok (.aload_n 0, 1) := dk_42 (dk_at dksJ7_compress_2_0 10 rfl rfl)
theorem dJ7_compress_2_11 : decode cJ7_compress_2 11 = .ok (.iload_n 1, 1) := dk_27 (dk_at dksJ7_compress_2_0 11 rfl rfl)
theorem dJ7_compress_2_12 : decode cJ7_compress_2 12 = .ok (.caload, 1) := dk_52 (dk_at dksJ7_compress_2_0 12 rfl rfl)
theorem dJ7_compress_2_13 : decode cJ7_compress_2 13 = .ok (.istore 6, 2) := dk_54 6 (dk_at dksJ7_compress_2_0 13 rfl rfl)
theorem dJ7_compress_2_15 : decode cJ7_compress_2 15 = .ok (.iload 6, 2) := dk_21 6 (dk_at dksJ7_compress_2_0 15 rfl rfl)
theorem dJ7_compress_2_17 : decode cJ7_compress_2 17 = .ok (.sipush 255, 3) := dk_17 0 255 (dk_at dksJ7_compress_2_0 17 rfl rfl)
theorem dJ7_compress_2_20 : decode cJ7_compress_2 20 = .ok (.if_icmp .le 6, 3) := dk_164 0 6 (dk_at dksJ7_compress_2_0 20 rfl rfl)
theorem dJ7_compress_2_23 : decode cJ7_compress_2 23 = .ok (.iload 5, 2) := dk_21 5 (dk_at dksJ7_compress_2_1 0 rfl rfl)
theorem dJ7_compress_2_25 : decode cJ7_compress_2 25 = .ok (.ireturn, 1) := dk_172 (dk_at dksJ7_compress_2_1 2 rfl rfl)
theorem dJ7_compress_2_26 : decode cJ7_compress_2 26 = .ok (.aload_n 2, 1) := dk_44 (dk_at dksJ7_compress_2_1 3 rfl rfl)
theorem dJ7_compress_2_27 : decode cJ7_compress_2 27 = .ok (.iload_n 3, 1) := dk_29 (dk_at dksJ7_compress_2_1 4 rfl rfl)
theorem dJ7_compress_2_28 : decode cJ7_compress_2 28 = .ok (.iload 6, 2) := dk_21 6 (dk_at dksJ7_compress_2_1 5 rfl rfl)
theorem dJ7_compress_2_30 : decode cJ7_compress_2 30 = .ok (.i2b, 1) := dk_145 (dk_at dksJ7_compress_2_1 7 rfl rfl)
theorem dJ7_compress_2_31 : decode cJ7_compress_2 31 = .ok (.bastore, 1) := dk_84 (dk_at dksJ7_compress_2_1 8 rfl rfl)
theorem dJ7_compress_2_32 : decode cJ7_compress_2 32 = .ok (.iinc 1 1, 3) := dk_132 1 1 (dk_at dksJ7_compress_2_1 9 rfl rfl)
theorem dJ7_compress_2_35 : decode cJ7_compress_2 35 = .ok (.iinc 3 1, 3) := dk_132 3 1 (dk_at dksJ7_compress_2_1 12 rfl rfl)
theorem dJ7_compress_2_38 : decode cJ7_compress_2 38 = .ok (.iinc 5 1, 3) := dk_132 5 1 (dk_at dksJ7_compress_2_1 15 rfl rfl)
theorem dJ7_compress_2_41 : decode cJ7_compress_2 41 = .ok (.goto (-38), 3) := dk_167 255 218 (dk_at dksJ7_compress_2_1 18 rfl rfl)
theorem dJ7_compress_2_44 : decode cJ7_compress_2 44 = .ok (.iload 4, 2) := dk_21 4 (dk_at dksJ7_compress_2_1 21 rfl rfl)
theorem dJ7_compress_2_46 : decode cJ7_compress_2 46 = .ok (.ireturn, 1) := dk_172 (dk_at dksJ7_compress_2_1 23 rfl rfl)
abbrev cJ7_toBytes : ByteArray := prog_45_method_14_code
def yJ7_toBytes : MethodName := ⟨RJ7, "toBytes", "([CII)[B"⟩
def dkwJ7_toBytes_1 : List UInt8 := [132, 1, 1, 132, 4, 1, 167, 255, 235, 45, 176]
abbrev dktJ7_toBytes_1 : List UInt8 := dkwJ7_toBytes_1 ++ []
def dkwJ7_toBytes_0 : List UInt8 := [28, 184, 0, 107, 78, 3, 54, 4, 21, 4, 28, 162, 0, 21, 45, 21, 4, 42, 27, 52, 184, 0, 111]
abbrev dktJ7_toBytes_0 : List UInt8 := dkwJ7_toBytes_0 ++ dktJ7_toBytes_1
theorem dksJ7_toBytes_0 : cJ7_toBytes.data.toList.drop 0 = dktJ7_toBytes_0 := by decide +kernel
theorem dksJ7_toBytes_1 : cJ7_toBytes.data.toList.drop 23 = dktJ7_toBytes_1 := dk_seg dksJ7_toBytes_0 23 rfl rfl
theorem dJ7_toBytes_0 : decode cJ7_toBytes 0 = .ok (.iload_n 2, 1) := dk_28 (dk_at dksJ7_toBytes_0 0 rfl rfl)
theorem dJ7_toBytes_1 : decode cJ7_toBytes 1 = .ok (.invokestatic 107, 3) := dk_184 0 107 (dk_at dksJ7_toBytes_0 1 rfl rfl)
theorem dJ7_toBytes_4 : decode cJ7_toBytes 4 = .ok (.astore_n 3, 1) := dk_78 (dk_at dksJ7_toBytes_0 4 rfl rfl)
theorem dJ7_toBytes_5 : decode cJ7_toBytes 5 = .ok (.iconst 0, 1) := dk_3 (dk_at dksJ7_toBytes_0 5 rfl rfl)
theorem dJ7_toBytes_6 : decode cJ7_toBytes 6 = .ok (.istore 4, 2) := dk_54 4 (dk_at dksJ7_toBytes_0 6 rfl rfl)
theorem dJ7_toBytes_8 : decode cJ7_toBytes 8 = .ok (.iload 4, 2) := dk_21 4 (dk_at dksJ7_toBytes_0 8 rfl rfl)
theorem dJ7_toBytes_10 : decode cJ7_toBytes 10 = .ok (.iload_n 2, 1) := dk_28 (dk_at dksJ7_toBytes_0 10 rfl rfl)
theorem dJ7_toBytes_11 : decode cJ7_toBytes 11 = .ok (.if_icmp .ge 21, 3) := dk_162 0 21 (dk_at dksJ7_toBytes_0 11 rfl rfl)
theorem dJ7_toBytes_14 : decode cJ7_toBytes 14 = .ok (.aload_n 3, 1) := dk_45 (dk_at dksJ7_toBytes_0 14 rfl rfl)
theorem dJ7_toBytes_15 : decode cJ7_toBytes 15 = .ok (.iload 4, 2) := dk_21 4 (dk_at dksJ7_toBytes_0 15 rfl rfl)
theorem dJ7_toBytes_17 : decode cJ7_toBytes 17 = .ok (.aload_n 0, 1) := dk_42 (dk_at dksJ7_toBytes_0 17 rfl rfl)
theorem dJ7_toBytes_18 : decode cJ7_toBytes 18 = .ok (.iload_n 1, 1) := dk_27 (dk_at dksJ7_toBytes_0 18 rfl rfl)
theorem dJ7_toBytes_19 : decode cJ7_toBytes 19 = .ok (.caload, 1) := dk_52 (dk_at dksJ7_toBytes_0 19 rfl rfl)
theorem dJ7_toBytes_20 : decode cJ7_toBytes 20 = .ok (.invokestatic 111, 3) := dk_184 0 111 (dk_at dksJ7_toBytes_0 20 rfl rfl)
theorem dJ7_toBytes_23 : decode cJ7_toBytes 23 = .ok (.iinc 1 1, 3) := dk_132 1 1 (dk_at dksJ7_toBytes_1 0 rfl rfl)
theorem dJ7_toBytes_26 : decode cJ7_toBytes 26 = .ok (.iinc 4 1, 3) := dk_132 4 1 (dk_at dksJ7_toBytes_1 3 rfl rfl)
theorem dJ7_toBytes_29 : decode cJ7_toBytes 29 = .ok (.goto (-21), 3) := dk_167 255 235 (dk_at dksJ7_toBytes_1 6 rfl rfl)
theorem dJ7_toBytes_32 : decode cJ7_toBytes 32 = .ok (.aload_n 3, 1) := dk_45 (dk_at dksJ7_toBytes_1 9 rfl rfl)
theorem dJ7_toBytes_33 : decode cJ7_toBytes 33 = .ok (.areturn, 1) := dk_176 (dk_at dksJ7_toBytes_1 10 rfl rfl)
abbrev cJ7_newBytesFor : ByteArray := prog_45_method_2_code
def yJ7_newBytesFor : MethodName := ⟨RJ7, "newBytesFor", "(I)[B"⟩
def dkwJ7_newBytesFor_0 : List UInt8 := [26, 184, 0, 11, 188, 8, 176]
abbrev dktJ7_newBytesFor_0 : List UInt8 := dkwJ7_newBytesFor_0 ++ []
theorem dksJ7_newBytesFor_0 : cJ7_newBytesFor.data.toList.drop 0 = dktJ7_newBytesFor_0 := by decide +kernel
theorem dJ7_newBytesFor_0 : decode cJ7_newBytesFor 0 = .ok (.iload_n 0, 1) := dk_26 (dk_at dksJ7_newBytesFor_0 0 rfl rfl)
theorem dJ7_newBytesFor_1 : decode cJ7_newBytesFor 1 = .ok (.invokestatic 11, 3) := dk_184 0 11 (dk_at dksJ7_newBytesFor_0 1 rfl rfl)
theorem dJ7_newBytesFor_4 : decode cJ7_newBytesFor 4 = .ok (.newarray .byte, 2) := dk_188_8 (dk_at dksJ7_newBytesFor_0 4 rfl rfl)
theorem dJ7_newBytesFor_6 : decode cJ7_newBytesFor 6 = .ok (.areturn, 1) := dk_176 (dk_at dksJ7_newBytesFor_0 6 rfl rfl)
abbrev cJ7_newBytesLength : ByteArray := prog_45_method_3_code
def yJ7_newBytesLength : MethodName := ⟨RJ7, "newBytesLength", "(I)I"⟩
def dkwJ7_newBytesLength_2 : List UInt8 := [182, 0, 32, 182, 0, 37, 183, 0, 41, 191, 26, 4, 120, 172]
abbrev dktJ7_newBytesLength_2 : List UInt8 := dkwJ7_newBytesLength_2 ++ []
def dkwJ7_newBytesLength_1 : List UInt8 := [187, 0, 23, 89, 183, 0, 25, 18, 26, 182, 0, 28, 26, 182, 0, 32, 18, 35, 182, 0, 28, 18, 20]
abbrev dktJ7_newBytesLength_1 : List UInt8 := dkwJ7_newBytesLength_1 ++ dktJ7_newBytesLength_2
def dkwJ7_newBytesLength_0 : List UInt8 := [26, 156, 0, 11, 187, 0, 17, 89, 183, 0, 19, 191, 26, 18, 20, 161, 0, 40, 187, 0, 21, 89]
abbrev dktJ7_newBytesLength_0 : List UInt8 := dkwJ7_newBytesLength_0 ++ dktJ7_newBytesLength_1
theorem dksJ7_newBytesLength_0 : cJ7_newBytesLength.data.toList.drop 0 = dktJ7_newBytesLength_0 := by decide +kernel
theorem dksJ7_newBytesLength_1 : cJ7_newBytesLength.data.toList.drop 22 = dktJ7_newBytesLength_1 := dk_seg dksJ7_newBytesLength_0 22 rfl rfl
theorem dksJ7_newBytesLength_2 : cJ7_newBytesLength.data.toList.drop 45 = dktJ7_newBytesLength_2 := dk_seg dksJ7_newBytesLength_1 23 rfl rfl
theorem dJ7_newBytesLength_0 : decode cJ7_newBytesLength 0 = .ok (.iload_n 0, 1) := dk_26 (dk_at dksJ7_newBytesLength_0 0 rfl rfl)
theorem dJ7_newBytesLength_1 : decode cJ7_newBytesLength 1 = .ok (.ifCond .ge 11, 3) := dk_156 0 11 (dk_at dksJ7_newBytesLength_0 1 rfl rfl)
theorem dJ7_newBytesLength_4 : decode cJ7_newBytesLength 4 = .ok (.new 17, 3) := dk_187 0 17 (dk_at dksJ7_newBytesLength_0 4 rfl rfl)
theorem dJ7_newBytesLength_7 : decode cJ7_newBytesLength 7 = .ok (.dup, 1) := dk_89 (dk_at dksJ7_newBytesLength_0 7 rfl rfl)
theorem dJ7_newBytesLength_8 : decode cJ7_newBytesLength 8 = .ok (.invokespecial 19, 3) := dk_183 0 19 (dk_at dksJ7_newBytesLength_0 8 rfl rfl)
theorem dJ7_newBytesLength_11 : decode cJ7_newBytesLength 11 = .ok (.athrow, 1) := dk_191 (dk_at dksJ7_newBytesLength_0 11 rfl rfl)
theorem dJ7_newBytesLength_12 : decode cJ7_newBytesLength 12 = .ok (.iload_n 0, 1) := dk_26 (dk_at dksJ7_newBytesLength_0 12 rfl rfl)
theorem dJ7_newBytesLength_13 : decode cJ7_newBytesLength 13 = .ok (.ldc 20, 2) := dk_18 20 (dk_at dksJ7_newBytesLength_0 13 rfl rfl)
theorem dJ7_newBytesLength_15 : decode cJ7_newBytesLength 15 = .ok (.if_icmp .lt 40, 3) := dk_161 0 40 (dk_at dksJ7_newBytesLength_0 15 rfl rfl)
theorem dJ7_newBytesLength_18 : decode cJ7_newBytesLength 18 = .ok (.new 21, 3) := dk_187 0 21 (dk_at dksJ7_newBytesLength_0 18 rfl rfl)
theorem dJ7_newBytesLength_21 : decode cJ7_newBytesLength 21 = .ok (.dup, 1) := dk_89 (dk_at dksJ7_newBytesLength_0 21 rfl rfl)
theorem dJ7_newBytesLength_22 : decode cJ7_newBytesLength 22 = .ok (.new 23, 3) := dk_187 0 23 (dk_at dksJ7_newBytesLength_1 0 rfl rfl)
theorem dJ7_newBytesLength_25 : decode cJ7_newBytesLength 25 = .ok (.dup, 1) := dk_89 (dk_at dksJ7_newBytesLength_1 3 rfl rfl)
theorem dJ7_newBytesLength_26 : decode cJ7_newBytesLength 26 = .ok (.invokespecial 25, 3) := dk_183 0 25 (dk_at dksJ7_newBytesLength_1 4 rfl rfl)
theorem dJ7_newBytesLength_29 : decode cJ7_newBytesLength 29 = .ok (.ldc 26, 2) := dk_18 26 (dk_at dksJ7_newBytesLength_1 7 rfl rfl)
theorem dJ7_newBytesLength_31 : decode cJ7_newBytesLength 31 = .ok (.invokevirtual 28, 3) := dk_182 0 28 (dk_at dksJ7_newBytesLength_1 9 rfl rfl)
theorem dJ7_newBytesLength_34 : decode cJ7_newBytesLength 34 = .ok (.iload_n 0, 1) := dk_26 (dk_at dksJ7_newBytesLength_1 12 rfl rfl)
theorem dJ7_newBytesLength_35 : decode cJ7_newBytesLength 35 = .ok (.invokevirtual 32, 3) := dk_182 0 32 (dk_at dksJ7_newBytesLength_1 13 rfl rfl)
theorem dJ7_newBytesLength_38 : decode cJ7_newBytesLength 38 = .ok (.ldc 35, 2) := dk_18 35 (dk_at dksJ7_newBytesLength_1 16 rfl rfl)
theorem dJ7_newBytesLength_40 : decode cJ7_newBytesLength 40 = .ok (.invokevirtual 28, 3) := dk_182 0 28 (dk_at dksJ7_newBytesLength_1 18 rfl rfl)
theorem dJ7_newBytesLength_43 : decode cJ7_newBytesLength 43 = .ok (.ldc 20, 2) := dk_18 20 (dk_at dksJ7_newBytesLength_1 21 rfl rfl)
theorem dJ7_newBytesLength_45 : decode cJ7_newBytesLength 45 = .ok (.invokevirtual 32, 3) := dk_182 0 32 (dk_at dksJ7_newBytesLength_2 0 rfl rfl)
theorem dJ7_newBytesLength_48 : decode cJ7_newBytesLength 48 = .ok (.invokevirtual 37, 3) := dk_182 0 37 (dk_at dksJ7_newBytesLength_2 3 rfl rfl)
theorem dJ7_newBytesLength_51 : decode cJ7_newBytesLength 51 = .ok (.invokespecial 41, 3) := dk_183 0 41 (dk_at dksJ7_newBytesLength_2 6 rfl rfl)
theorem dJ7_newBytesLength_54 : decode cJ7_newBytesLength 54 = .ok (.athrow, 1) := dk_191 (dk_at dksJ7_newBytesLength_2 9 rfl rfl)
theorem dJ7_newBytesLength_55 : decode cJ7_newBytesLength 55 = .ok (.iload_n 0, 1) := dk_26 (dk_at dksJ7_newBytesLength_2 10 rfl rfl)
theorem dJ7_newBytesLength_56 : decode cJ7_newBytesLength 56 = .ok (.iconst 1, 1) := dk_4 (dk_at dksJ7_newBytesLength_2 11 rfl rfl)
theorem dJ7_newBytesLength_57 : decode cJ7_newBytesLength 57 = .ok (.ishl, 1) := dk_120 (dk_at dksJ7_newBytesLength_2 12 rfl rfl)
theorem dJ7_newBytesLength_58 : decode cJ7_newBytesLength 58 = .ok (.ireturn, 1) := dk_172 (dk_at dksJ7_newBytesLength_2 13 rfl rfl)
abbrev cJ7_putChar : ByteArray := prog_45_method_4_code
def yJ7_putChar : MethodName := ⟨RJ7, "putChar", "([BII)V"⟩
def dkwJ7_putChar_2 : List UInt8 := [178, 0, 63, 122, 145, 84, 177]
abbrev dktJ7_putChar_2 : List UInt8 := dkwJ7_putChar_2 ++ []
def dkwJ7_putChar_1 : List UInt8 := [183, 0, 56, 191, 27, 4, 120, 60, 42, 27, 132, 1, 1, 28, 178, 0, 59, 122, 145, 84, 42, 27, 28]
abbrev dktJ7_putChar_1 : List UInt8 := dkwJ7_putChar_1 ++ dktJ7_putChar_2
def dkwJ7_putChar_0 : List UInt8 := [178, 0, 44, 154, 0, 25, 27, 155, 0, 11, 27, 42, 184, 0, 48, 161, 0, 13, 187, 0, 52, 89, 18, 54]
abbrev dktJ7_putChar_0 : List UInt8 := dkwJ7_putChar_0 ++ dktJ7_putChar_1
theorem dksJ7_putChar_0 : cJ7_putChar.data.toList.drop 0 = dktJ7_putChar_0 := by decide +kernel
theorem dksJ7_putChar_1 : cJ7_putChar.data.toList.drop 24 = dktJ7_putChar_1 := dk_seg dksJ7_putChar_0 24 rfl rfl
theorem dksJ7_putChar_2 : cJ7_putChar.data.toList.drop 47 = dktJ7_putChar_2 := dk_seg dksJ7_putChar_1 23 rfl rfl
theorem dJ7_putChar_0 : decode cJ7_putChar 0 = .ok (.getstatic 44, 3) := dk_178 0 44 (dk_at dksJ7_putChar_0 0 rfl rfl)
theorem dJ7_putChar_3 : decode cJ7_putChar 3 = .ok (.ifCond .ne 25, 3) := dk_154 0 25 (dk_at dksJ7_putChar_0 3 rfl rfl)
theorem dJ7_putChar_6 : decode cJ7_putChar 6 = .ok (.iload_n 1, 1) := dk_27 (dk_at dksJ7_putChar_0 6 rfl rfl)
theorem dJ7_putChar_7 : decode cJ7_putChar 7 = .ok (.ifCond .lt 11, 3) := dk_155 0 11 (dk_at dksJ7_putChar_0 7 rfl rfl)
theorem dJ7_putChar_10 : decode cJ7_putChar 10 = .ok (.iload_n 1, 1) := dk_27 (dk_at dksJ7_putChar_0 10 rfl rfl)
theorem dJ7_putChar_11 : decode cJ7_putChar 11 = .ok (.aload_n 0, 1) := dk_42 (dk_at dksJ7_putChar_0 11 rfl rfl)
theorem dJ7_putChar_12 : decode cJ7_putChar 12 = .ok (.invokestatic 48, 3) := dk_184 0 48 (dk_at dksJ7_putChar_0 12 rfl rfl)
theorem dJ7_putChar_15 : decode cJ7_putChar 15 = .ok (.if_icmp .lt 13, 3) := dk_161 0 13 (dk_at dksJ7_putChar_0 15 rfl rfl)
theorem dJ7_putChar_18 : decode cJ7_putChar 18 = .ok (.new 52, 3) := dk_187 0 52 (dk_at dksJ7_putChar_0 18 rfl rfl)
theorem dJ7_putChar_21 : decode cJ7_putChar 21 = .ok (.dup, 1) := dk_89 (dk_at dksJ7_putChar_0 21 rfl rfl)
theorem dJ7_putChar_22 : decode cJ7_putChar 22 = .ok (.ldc 54, 2) := dk_18 54 (dk_at dksJ7_putChar_0 22 rfl rfl)
theorem dJ7_putChar_24 : decode cJ7_putChar 24 = .ok (.invokespecial 56, 3) := dk_183 0 56 (dk_at dksJ7_putChar_1 0 rfl rfl)
theorem dJ7_putChar_27 : decode cJ7_putChar 27 = .ok (.athrow, 1) := dk_191 (dk_at dksJ7_putChar_1 3 rfl rfl)
theorem dJ7_putChar_28 : decode cJ7_putChar 28 = .ok (.iload_n 1, 1) := dk_27 (dk_at dksJ7_putChar_1 4 rfl rfl)
theorem dJ7_putChar_29 : decode cJ7_putChar 29 = .ok (.iconst 1, 1) := dk_4 (dk_at dksJ7_putChar_1 5 rfl rfl)
theorem dJ7_putChar_30 : decode cJ7_putChar 30 = .ok (.ishl, 1) := dk_120 (dk_at dksJ7_putChar_1 6 rfl rfl)
theorem dJ7_putChar_31 : decode cJ7_putChar 31 = .ok (.istore_n 1, 1) := dk_60 (dk_at dksJ7_putChar_1 7 rfl rfl)
theorem dJ7_putChar_32 : decode cJ7_putChar 32 = .ok (.aload_n 0, 1) := dk_42 (dk_at dksJ7_putChar_1 8 rfl rfl)
theorem dJ7_putChar_33 : decode cJ7_putChar 33 = .ok (.iload_n 1, 1) := dk_27 (dk_at dksJ7_putChar_1 9 rfl rfl)
theorem dJ7_putChar_34 : decode cJ7_putChar 34 = .ok (.iinc 1 1, 3) := dk_132 1 1 (dk_at dksJ7_putChar_1 10 rfl rfl)
theorem dJ7_putChar_37 : decode cJ7_putChar 37 = .ok (.iload_n 2, 1) := dk_28 (dk_at dksJ7_putChar_1 13 rfl rfl)
theorem dJ7_putChar_38 : decode cJ7_putChar 38 = .ok (.getstatic 59, 3) := dk_178 0 59 (dk_at dksJ7_putChar_1 14 rfl rfl)
theorem dJ7_putChar_41 : decode cJ7_putChar 41 = .ok (.ishr, 1) := dk_122 (dk_at dksJ7_putChar_1 17 rfl rfl)
theorem dJ7_putChar_42 : decode cJ7_putChar 42 = .ok (.i2b, 1) := dk_145 (dk_at dksJ7_putChar_1 18 rfl rfl)
theorem dJ7_putChar_43 : decode cJ7_putChar 43 = .ok (.bastore, 1) := dk_84 (dk_at dksJ7_putChar_1 19 rfl rfl)
theorem dJ7_putChar_44 : decode cJ7_putChar 44 = .ok (.aload_n 0, 1) := dk_42 (dk_at dksJ7_putChar_1 20 rfl rfl)
theorem dJ7_putChar_45 : decode cJ7_putChar 45 = .ok (.iload_n 1, 1) := dk_27 (dk_at dksJ7_putChar_1 21 rfl rfl)
theorem dJ7_putChar_46 : decode cJ7_putChar 46 = .ok (.iload_n 2, 1) := dk_28 (dk_at dksJ7_putChar_1 22 rfl rfl)
theorem dJ7_putChar_47 : decode cJ7_putChar 47 = .ok (.getstatic 63, 3) := dk_178 0 63 (dk_at dksJ7_putChar_2 0 rfl rfl)
theorem dJ7_putChar_50 : decode cJ7_putChar 50 = .ok (.ishr, 1) := dk_122 (dk_at dksJ7_putChar_2 3 rfl rfl)
theorem dJ7_putChar_51 : decode cJ7_putChar 51 = .ok (.i2b, 1) := dk_145 (dk_at dksJ7_putChar_2 4 rfl rfl)
theorem dJ7_putChar_52 : decode cJ7_putChar 52 = .ok (.bastore, 1) := dk_84 (dk_at dksJ7_putChar_2 5 rfl rfl)
theorem dJ7_putChar_53 : decode cJ7_putChar 53 = .ok (.return_, 1) := dk_177 (dk_at dksJ7_putChar_2 6 rfl rfl)
abbrev cJ7_length : ByteArray := prog_45_method_6_code
def yJ7_length : MethodName := ⟨RJ7, "length", "([B)I"⟩
def dkwJ7_length_0 : List UInt8 := [42, 190, 4, 122, 172]
abbrev dktJ7_length_0 : List UInt8 := dkwJ7_length_0 ++ []
theorem dksJ7_length_0 : cJ7_length.data.toList.drop 0 = dktJ7_length_0 := by decide +kernel
theorem dJ7_length_0 : decode cJ7_length 0 = .ok (.aload_n 0, 1) := dk_42 (dk_at dksJ7_length_0 0 rfl rfl)
theorem dJ7_length_1 : decode cJ7_length 1 = .ok (.arraylength, 1) := dk_190 (dk_at dksJ7_length_0 1 rfl rfl)
theorem dJ7_length_2 : decode cJ7_length 2 = .ok (.iconst 1, 1) := dk_4 (dk_at dksJ7_length_0 2 rfl rfl)
theorem dJ7_length_3 : decode cJ7_length 3 = .ok (.ishr, 1) := dk_122 (dk_at dksJ7_length_0 3 rfl rfl)
theorem dJ7_length_4 : decode cJ7_length 4 = .ok (.ireturn, 1) := dk_172 (dk_at dksJ7_length_0 4 rfl rfl)
abbrev cJ7_getChar : ByteArray := prog_45_method_5_code
def yJ7_getChar : MethodName := ⟨RJ7, "getChar", "([BI)C"⟩
def dkwJ7_getChar_2 : List UInt8 := [51, 17, 0, 255, 126, 178, 0, 63, 120, 128, 146, 172]
abbrev dktJ7_getChar_2 : List UInt8 := dkwJ7_getChar_2 ++ []
def dkwJ7_getChar_1 : List UInt8 := [183, 0, 56, 191, 27, 4, 120, 60, 42, 27, 132, 1, 1, 51, 17, 0, 255, 126, 178, 0, 59, 120, 42, 27]
abbrev dktJ7_getChar_1 : List UInt8 := dkwJ7_getChar_1 ++ dktJ7_getChar_2
def dkwJ7_getChar_0 : List UInt8 := [178, 0, 44, 154, 0, 25, 27, 155, 0, 11, 27, 42, 184, 0, 48, 161, 0, 13, 187, 0, 52, 89, 18, 54]
abbrev dktJ7_getChar_0 : List UInt8 := dkwJ7_getChar_0 ++ dktJ7_getChar_1
theorem dksJ7_getChar_0 : cJ7_getChar.data.toList.drop 0 = dktJ7_getChar_0 := by decide +kernel
theorem dksJ7_getChar_1 : cJ7_getChar.data.toList.drop 24 = dktJ7_getChar_1 := dk_seg dksJ7_getChar_0 24 rfl rfl
theorem dksJ7_getChar_2 : cJ7_getChar.data.toList.drop 48 = dktJ7_getChar_2 := dk_seg dksJ7_getChar_1 24 rfl rfl
theorem dJ7_getChar_0 : decode cJ7_getChar 0 = .ok (.getstatic 44, 3) := dk_178 0 44 (dk_at dksJ7_getChar_0 0 rfl rfl)
theorem dJ7_getChar_3 : decode cJ7_getChar 3 = .ok (.ifCond .ne 25, 3) := dk_154 0 25 (dk_at dksJ7_getChar_0 3 rfl rfl)
theorem dJ7_getChar_6 : decode cJ7_getChar 6 = .ok (.iload_n 1, 1) := dk_27 (dk_at dksJ7_getChar_0 6 rfl rfl)
theorem dJ7_getChar_7 : decode cJ7_getChar 7 = .ok (.ifCond .lt 11, 3) := dk_155 0 11 (dk_at dksJ7_getChar_0 7 rfl rfl)
theorem dJ7_getChar_10 : decode cJ7_getChar 10 = .ok (.iload_n 1, 1) := dk_27 (dk_at dksJ7_getChar_0 10 rfl rfl)
theorem dJ7_getChar_11 : decode cJ7_getChar 11 = .ok (.aload_n 0, 1) := dk_42 (dk_at dksJ7_getChar_0 11 rfl rfl)
theorem dJ7_getChar_12 : decode cJ7_getChar 12 = .ok (.invokestatic 48, 3) := dk_184 0 48 (dk_at dksJ7_getChar_0 12 rfl rfl)
theorem dJ7_getChar_15 : decode cJ7_getChar 15 = .ok (.if_icmp .lt 13, 3) := dk_161 0 13 (dk_at dksJ7_getChar_0 15 rfl rfl)
theorem dJ7_getChar_18 : decode cJ7_getChar 18 = .ok (.new 52, 3) := dk_187 0 52 (dk_at dksJ7_getChar_0 18 rfl rfl)
theorem dJ7_getChar_21 : decode cJ7_getChar 21 = .ok (.dup, 1) := dk_89 (dk_at dksJ7_getChar_0 21 rfl rfl)
theorem dJ7_getChar_22 : decode cJ7_getChar 22 = .ok (.ldc 54, 2) := dk_18 54 (dk_at dksJ7_getChar_0 22 rfl rfl)
theorem dJ7_getChar_24 : decode cJ7_getChar 24 = .ok (.invokespecial 56, 3) := dk_183 0 56 (dk_at dksJ7_getChar_1 0 rfl rfl)
theorem dJ7_getChar_27 : decode cJ7_getChar 27 = .ok (.athrow, 1) := dk_191 (dk_at dksJ7_getChar_1 3 rfl rfl)
theorem dJ7_getChar_28 : decode cJ7_getChar 28 = .ok (.iload_n 1, 1) := dk_27 (dk_at dksJ7_getChar_1 4 rfl rfl)
theorem dJ7_getChar_29 : decode cJ7_getChar 29 = .ok (.iconst 1, 1) := dk_4 (dk_at dksJ7_getChar_1 5 rfl rfl)
theorem dJ7_getChar_30 : decode cJ7_getChar 30 = .ok (.ishl, 1) := dk_120 (dk_at dksJ7_getChar_1 6 rfl rfl)
theorem dJ7_getChar_31 : decode cJ7_getChar 31 = .ok (.istore_n 1, 1) := dk_60 (dk_at dksJ7_getChar_1 7 rfl rfl)
theorem dJ7_getChar_32 : decode cJ7_getChar 32 = .ok (.aload_n 0, 1) := dk_42 (dk_at dksJ7_getChar_1 8 rfl rfl)
theorem dJ7_getChar_33 : decode cJ7_getChar 33 = .ok (.iload_n 1, 1) := dk_27 (dk_at dksJ7_getChar_1 9 rfl rfl)
theorem dJ7_getChar_34 : decode cJ7_getChar 34 = .ok (.iinc 1 1, 3) := dk_132 1 1 (dk_at dksJ7_getChar_1 10 rfl rfl)
theorem dJ7_getChar_37 : decode cJ7_getChar 37 = .ok (.baload, 1) := dk_51 (dk_at dksJ7_getChar_1 13 rfl rfl)
theorem dJ7_getChar_38 : decode cJ7_getChar 38 = .ok (.sipush 255, 3) := dk_17 0 255 (dk_at dksJ7_getChar_1 14 rfl rfl)
theorem dJ7_getChar_41 : decode cJ7_getChar 41 = .ok (.iand, 1) := dk_126 (dk_at dksJ7_getChar_1 17 rfl rfl)
theorem dJ7_getChar_42 : decode cJ7_getChar 42 = .ok (.getstatic 59, 3) := dk_178 0 59 (dk_at dksJ7_getChar_1 18 rfl rfl)
theorem dJ7_getChar_45 : decode cJ7_getChar 45 = .ok (.ishl, 1) := dk_120 (dk_at dksJ7_getChar_1 21 rfl rfl)
theorem dJ7_getChar_46 : decode cJ7_getChar 46 = .ok (.aload_n 0, 1) := dk_42 (dk_at dksJ7_getChar_1 22 rfl rfl)
theorem dJ7_getChar_47 : decode cJ7_getChar 47 = .ok (.iload_n 1, 1) := dk_27 (dk_at dksJ7_getChar_1 23 rfl rfl)
theorem dJ7_getChar_48 : decode cJ7_getChar 48 = .ok (.baload, 1) := dk_51 (dk_at dksJ7_getChar_2 0 rfl rfl)
theorem dJ7_getChar_49 : decode cJ7_getChar 49 = .ok (.sipush 255, 3) := dk_17 0 255 (dk_at dksJ7_getChar_2 1 rfl rfl)
theorem dJ7_getChar_52 : decode cJ7_getChar 52 = .ok (.iand, 1) := dk_126 (dk_at dksJ7_getChar_2 4 rfl rfl)
theorem dJ7_getChar_53 : decode cJ7_getChar 53 = .ok (.getstatic 63, 3) := dk_178 0 63 (dk_at dksJ7_getChar_2 5 rfl rfl)
theorem dJ7_getChar_56 : decode cJ7_getChar 56 = .ok (.ishl, 1) := dk_120 (dk_at dksJ7_getChar_2 8 rfl rfl)
theorem dJ7_getChar_57 : decode cJ7_getChar 57 = .ok (.ior, 1) := dk_128 (dk_at dksJ7_getChar_2 9 rfl rfl)
theorem dJ7_getChar_58 : decode cJ7_getChar 58 = .ok (.i2c, 1) := dk_146 (dk_at dksJ7_getChar_2 10 rfl rfl)
theorem dJ7_getChar_59 : decode cJ7_getChar 59 = .ok (.ireturn, 1) := dk_172 (dk_at dksJ7_getChar_2 11 rfl rfl)
abbrev cJ7_compress_3 : ByteArray := prog_45_method_22_code
def yJ7_compress_3 : MethodName := ⟨RJ7, "compress", "([BI[BII)I"⟩
def dkwJ7_compress_3_2 : List UInt8 := [132, 5, 1, 167, 255, 216, 21, 4, 172]
abbrev dktJ7_compress_3_2 : List UInt8 := dkwJ7_compress_3_2 ++ []
def dkwJ7_compress_3_1 : List UInt8 := [21, 6, 17, 0, 255, 164, 0, 6, 21, 5, 172, 44, 29, 21, 6, 145, 84, 132, 1, 1, 132, 3, 1]
abbrev dktJ7_compress_3_1 : List UInt8 := dkwJ7_compress_3_1 ++ dktJ7_compress_3_2
def dkwJ7_compress_3_0 : List UInt8 := [27, 21, 4, 42, 184, 0, 173, 3, 54, 5, 21, 5, 21, 4, 162, 0, 39, 42, 27, 184, 0, 71, 54, 6]
abbrev dktJ7_compress_3_0 : List UInt8 := dkwJ7_compress_3_0 ++ dktJ7_compress_3_1
theorem dksJ7_compress_3_0 : cJ7_compress_3.data.toList.drop 0 = dktJ7_compress_3_0 := by decide +kernel
theorem dksJ7_compress_3_1 : cJ7_compress_3.data.toList.drop 24 = dktJ7_compress_3_1 := dk_seg dksJ7_compress_3_0 24 rfl rfl
theorem dksJ7_compress_3_2 : cJ7_compress_3.data.toList.drop 47 = dktJ7_compress_3_2 := dk_seg dksJ7_compress_3_1 23 rfl rfl
theorem dJ7_compress_3_0 : decode cJ7_compress_3 0 = .ok (.iload_n 1, 1) := dk_27 (dk_at dksJ7_compress_3_0 0 rfl rfl)
theorem dJ7_compress_3_1 : decode cJ7_compress_3 1 = .ok (.iload 4, 2) := dk_21 4 (dk_at dksJ7_compress_3_0 1 rfl rfl)
theorem dJ7_compress_3_3 : decode cJ7_compress_3 3 = .ok (.aload_n 0, 1) := dk_42 (dk_at dksJ7_compress_3_0 3 rfl rfl)
theorem dJ7_compress_3_4 : decode cJ7_compress_3 4 = .ok (.invokestatic 173, 3) := dk_184 0 173 (dk_at dksJ7_compress_3_0 4 rfl rfl)
theorem dJ7_compress_3_7 : decode cJ7_compress_3 7 = .ok (.iconst 0, 1) := dk_3 (dk_at dksJ7_compress_3_0 7 rfl rfl)
theorem dJ7_compress_3_8 : decode cJ7_compress_3 8 = .ok (.istore 5, 2) := dk_54 5 (dk_at dksJ7_compress_3_0 8 rfl rfl)
theorem dJ7_compress_3_10 : decode cJ7_compress_3 10 = .ok (.iload 5, 2) := dk_21 5 (dk_at dksJ7_compress_3_0 10 rfl rfl)
theorem dJ7_compress_3_12 : decode cJ7_compress_3 12 = .ok (.iload 4, 2) := dk_21 4 (dk_at dksJ7_compress_3_0 12 rfl rfl)
theorem dJ7_compress_3_14 : decode cJ7_compress_3 14 = .ok (.if_icmp .ge 39, 3) := dk_162 0 39 (dk_at dksJ7_compress_3_0 14 rfl rfl)
theorem dJ7_compress_3_17 : decode cJ7_compress_3 17 = .ok (.aload_n 0, 1) := dk_42 (dk_at dksJ7_compress_3_0 17 rfl rfl)
theorem dJ7_compress_3_18 : decode cJ7_compress_3 18 = .ok (.iload_n 1, 1) := dk_27 (dk_at dksJ7_compress_3_0 18 rfl rfl)
theorem dJ7_compress_3_19 : decode cJ7_compress_3 19 = .ok (.invokestatic 71, 3) := dk_184 0 71 (dk_at dksJ7_compress_3_0 19 rfl rfl)
theorem dJ7_compress_3_22 : decode cJ7_compress_3 22 = .ok (.istore 6, 2) := dk_54 6 (dk_at dksJ7_compress_3_0 22 rfl rfl)
theorem dJ7_compress_3_24 : decode cJ7_compress_3 24 = .ok (.iload 6, 2) := dk_21 6 (dk_at dksJ7_compress_3_1 0 rfl rfl)
theorem dJ7_compress_3_26 : decode cJ7_compress_3 26 = .ok (.sipush 255, 3) := dk_17 0 255 (dk_at dksJ7_compress_3_1 2 rfl rfl)
theorem dJ7_compress_3_29 : decode cJ7_compress_3 29 = .ok (.if_icmp .le 6, 3) := dk_164 0 6 (dk_at dksJ7_compress_3_1 5 rfl rfl)
theorem dJ7_compress_3_32 : decode cJ7_compress_3 32 = .ok (.iload 5, 2) := dk_21 5 (dk_at dksJ7_compress_3_1 8 rfl rfl)
theorem dJ7_compress_3_34 : decode cJ7_compress_3 34 = .ok (.ireturn, 1) := dk_172 (dk_at dksJ7_compress_3_1 10 rfl rfl)
theorem dJ7_compress_3_35 : decode cJ7_compress_3 35 = .ok (.aload_n 2, 1) := dk_44 (dk_at dksJ7_compress_3_1 11 rfl rfl)
theorem dJ7_compress_3_36 : decode cJ7_compress_3 36 = .ok (.iload_n 3, 1) := dk_29 (dk_at dksJ7_compress_3_1 12 rfl rfl)
theorem dJ7_compress_3_37 : decode cJ7_compress_3 37 = .ok (.iload 6, 2) := dk_21 6 (dk_at dksJ7_compress_3_1 13 rfl rfl)
theorem dJ7_compress_3_39 : decode cJ7_compress_3 39 = .ok (.i2b, 1) := dk_145 (dk_at dksJ7_compress_3_1 15 rfl rfl)
theorem dJ7_compress_3_40 : decode cJ7_compress_3 40 = .ok (.bastore, 1) := dk_84 (dk_at dksJ7_compress_3_1 16 rfl rfl)
theorem dJ7_compress_3_41 : decode cJ7_compress_3 41 = .ok (.iinc 1 1, 3) := dk_132 1 1 (dk_at dksJ7_compress_3_1 17 rfl rfl)
theorem dJ7_compress_3_44 : decode cJ7_compress_3 44 = .ok (.iinc 3 1, 3) := dk_132 3 1 (dk_at dksJ7_compress_3_1 20 rfl rfl)
theorem dJ7_compress_3_47 : decode cJ7_compress_3 47 = .ok (.iinc 5 1, 3) := dk_132 5 1 (dk_at dksJ7_compress_3_2 0 rfl rfl)
theorem dJ7_compress_3_50 : decode cJ7_compress_3 50 = .ok (.goto (-40), 3) := dk_167 255 216 (dk_at dksJ7_compress_3_2 3 rfl rfl)
theorem dJ7_compress_3_53 : decode cJ7_compress_3 53 = .ok (.iload 4, 2) := dk_21 4 (dk_at dksJ7_compress_3_2 6 rfl rfl)
theorem dJ7_compress_3_55 : decode cJ7_compress_3 55 = .ok (.ireturn, 1) := dk_172 (dk_at dksJ7_compress_3_2 8 rfl rfl)
abbrev cJ7_checkBoundsOffCount : ByteArray := prog_45_method_94_code
def yJ7_checkBoundsOffCount : MethodName := ⟨RJ7, "checkBoundsOffCount", "(II[B)V"⟩
def dkwJ7_checkBoundsOffCount_0 : List UInt8 := [26, 27, 44, 184, 0, 48, 184, 1, 163, 87, 177]
abbrev dktJ7_checkBoundsOffCount_0 : List UInt8 := dkwJ7_checkBoundsOffCount_0 ++ []
theorem dksJ7_checkBoundsOffCount_0 : cJ7_checkBoundsOffCount.data.toList.drop 0 = dktJ7_checkBoundsOffCount_0 := by decide +kernel
theorem dJ7_checkBoundsOffCount_0 : decode cJ7_checkBoundsOffCount 0 = .ok (.iload_n 0, 1) := dk_26 (dk_at dksJ7_checkBoundsOffCount_0 0 rfl rfl)
theorem dJ7_checkBoundsOffCount_1 : decode cJ7_checkBoundsOffCount 1 = .ok (.iload_n 1, 1) := dk_27 (dk_at dksJ7_checkBoundsOffCount_0 1 rfl rfl)
theorem dJ7_checkBoundsOffCount_2 : decode cJ7_checkBoundsOffCount 2 = .ok (.aload_n 2, 1) := dk_44 (dk_at dksJ7_checkBoundsOffCount_0 2 rfl rfl)
theorem dJ7_checkBoundsOffCount_3 : decode cJ7_checkBoundsOffCount 3 = .ok (.invokestatic 48, 3) := dk_184 0 48 (dk_at dksJ7_checkBoundsOffCount_0 3 rfl rfl)
theorem dJ7_checkBoundsOffCount_6 : decode cJ7_checkBoundsOffCount 6 = .ok (.invokestatic 419, 3) := dk_184 1 163 (dk_at dksJ7_checkBoundsOffCount_0 6 rfl rfl)
theorem dJ7_checkBoundsOffCount_9 : decode cJ7_checkBoundsOffCount 9 = .ok (.pop, 1) := dk_87 (dk_at dksJ7_checkBoundsOffCount_0 9 rfl rfl)
theorem dJ7_checkBoundsOffCount_10 : decode cJ7_checkBoundsOffCount 10 = .ok (.return_, 1) := dk_177 (dk_at dksJ7_checkBoundsOffCount_0 10 rfl rfl)
abbrev cJ7_coderFromArrayLen : ByteArray := prog_45_method_15_code
def yJ7_coderFromArrayLen : MethodName := ⟨RJ7, "coderFromArrayLen", "([BI)B"⟩
def dkwJ7_coderFromArrayLen_0 : List UInt8 := [27, 42, 190, 100, 16, 31, 124, 145, 172]
abbrev dktJ7_coderFromArrayLen_0 : List UInt8 := dkwJ7_coderFromArrayLen_0 ++ []
theorem dksJ7_coderFromArrayLen_0 : cJ7_coderFromArrayLen.data.toList.drop 0 = dktJ7_coderFromArrayLen_0 := by decide +kernel
theorem dJ7_coderFromArrayLen_0 : decode cJ7_coderFromArrayLen 0 = .ok (.iload_n 1, 1) := dk_27 (dk_at dksJ7_coderFromArrayLen_0 0 rfl rfl)
theorem dJ7_coderFromArrayLen_1 : decode cJ7_coderFromArrayLen 1 = .ok (.aload_n 0, 1) := dk_42 (dk_at dksJ7_coderFromArrayLen_0 1 rfl rfl)
theorem dJ7_coderFromArrayLen_2 : decode cJ7_coderFromArrayLen 2 = .ok (.arraylength, 1) := dk_190 (dk_at dksJ7_coderFromArrayLen_0 2 rfl rfl)
theorem dJ7_coderFromArrayLen_3 : decode cJ7_coderFromArrayLen 3 = .ok (.isub, 1) := dk_100 (dk_at dksJ7_coderFromArrayLen_0 3 rfl rfl)
theorem dJ7_coderFromArrayLen_4 : decode cJ7_coderFromArrayLen 4 = .ok (.bipush 31, 2) := dk_16 31 (dk_at dksJ7_coderFromArrayLen_0 4 rfl rfl)
theorem dJ7_coderFromArrayLen_6 : decode cJ7_coderFromArrayLen 6 = .ok (.iushr, 1) := dk_124 (dk_at dksJ7_coderFromArrayLen_0 6 rfl rfl)
theorem dJ7_coderFromArrayLen_7 : decode cJ7_coderFromArrayLen 7 = .ok (.i2b, 1) := dk_145 (dk_at dksJ7_coderFromArrayLen_0 7 rfl rfl)
theorem dJ7_coderFromArrayLen_8 : decode cJ7_coderFromArrayLen 8 = .ok (.ireturn, 1) := dk_172 (dk_at dksJ7_coderFromArrayLen_0 8 rfl rfl)
abbrev cJ7_charAt : ByteArray := prog_45_method_83_code
def yJ7_charAt : MethodName := ⟨RJ7, "charAt", "([BI)C"⟩
def dkwJ7_charAt_0 : List UInt8 := [27, 42, 184, 0, 67, 42, 27, 184, 0, 71, 172]
abbrev dktJ7_charAt_0 : List UInt8 := dkwJ7_charAt_0 ++ []
theorem dksJ7_charAt_0 : cJ7_charAt.data.toList.drop 0 = dktJ7_charAt_0 := by decide +kernel
theorem dJ7_charAt_0 : decode cJ7_charAt 0 = .ok (.iload_n 1, 1) := dk_27 (dk_at dksJ7_charAt_0 0 rfl rfl)
theorem dJ7_charAt_1 : decode cJ7_charAt 1 = .ok (.aload_n 0, 1) := dk_42 (dk_at dksJ7_charAt_0 1 rfl rfl)
theorem dJ7_charAt_2 : decode cJ7_charAt 2 = .ok (.invokestatic 67, 3) := dk_184 0 67 (dk_at dksJ7_charAt_0 2 rfl rfl)
theorem dJ7_charAt_5 : decode cJ7_charAt 5 = .ok (.aload_n 0, 1) := dk_42 (dk_at dksJ7_charAt_0 5 rfl rfl)
theorem dJ7_charAt_6 : decode cJ7_charAt 6 = .ok (.iload_n 1, 1) := dk_27 (dk_at dksJ7_charAt_0 6 rfl rfl)
theorem dJ7_charAt_7 : decode cJ7_charAt 7 = .ok (.invokestatic 71, 3) := dk_184 0 71 (dk_at dksJ7_charAt_0 7 rfl rfl)
theorem dJ7_charAt_10 : decode cJ7_charAt 10 = .ok (.ireturn, 1) := dk_172 (dk_at dksJ7_charAt_0 10 rfl rfl)
abbrev cJ7_checkIndex : ByteArray := prog_45_method_91_code
def yJ7_checkIndex : MethodName := ⟨RJ7, "checkIndex", "(I[B)V"⟩
def dkwJ7_checkIndex_0 : List UInt8 := [26, 43, 184, 0, 48, 184, 1, 158, 177]
abbrev dktJ7_checkIndex_0 : List UInt8 := dkwJ7_checkIndex_0 ++ []
theorem dksJ7_checkIndex_0 : cJ7_checkIndex.data.toList.drop 0 = dktJ7_checkIndex_0 := by decide +kernel
theorem dJ7_checkIndex_0 : decode cJ7_checkIndex 0 = .ok (.iload_n 0, 1) := dk_26 (dk_at dksJ7_checkIndex_0 0 rfl rfl)
theorem dJ7_checkIndex_1 : decode cJ7_checkIndex 1 = .ok (.aload_n 1, 1) := dk_43 (dk_at dksJ7_checkIndex_0 1 rfl rfl)
theorem dJ7_checkIndex_2 : decode cJ7_checkIndex 2 = .ok (.invokestatic 48, 3) := dk_184 0 48 (dk_at dksJ7_checkIndex_0 2 rfl rfl)
theorem dJ7_checkIndex_5 : decode cJ7_checkIndex 5 = .ok (.invokestatic 414, 3) := dk_184 1 158 (dk_at dksJ7_checkIndex_0 5 rfl rfl)
theorem dJ7_checkIndex_8 : decode cJ7_checkIndex 8 = .ok (.return_, 1) := dk_177 (dk_at dksJ7_checkIndex_0 8 rfl rfl)
abbrev cJ7_inflate : ByteArray := prog_45_method_86_code
def yJ7_inflate : MethodName := ⟨RJ7, "inflate", "([BI[BII)V"⟩
def dkwJ7_inflate_1 : List UInt8 := [132, 1, 1, 51, 17, 0, 255, 126, 184, 0, 111, 132, 5, 1, 167, 255, 228, 177]
abbrev dktJ7_inflate_1 : List UInt8 := dkwJ7_inflate_1 ++ []
def dkwJ7_inflate_0 : List UInt8 := [29, 21, 4, 44, 184, 0, 173, 3, 54, 5, 21, 5, 21, 4, 162, 0, 27, 44, 29, 132, 3, 1, 42, 27]
abbrev dktJ7_inflate_0 : List UInt8 := dkwJ7_inflate_0 ++ dktJ7_inflate_1
theorem dksJ7_inflate_0 : cJ7_inflate.data.toList.drop 0 = dktJ7_inflate_0 := by decide +kernel
theorem dksJ7_inflate_1 : cJ7_inflate.data.toList.drop 24 = dktJ7_inflate_1 := dk_seg dksJ7_inflate_0 24 rfl rfl
theorem dJ7_inflate_0 : decode cJ7_inflate 0 = .ok (.iload_n 3, 1) := dk_29 (dk_at dksJ7_inflate_0 0 rfl rfl)
theorem dJ7_inflate_1 : decode cJ7_inflate 1 = .ok (.iload 4, 2) := dk_21 4 (dk_at dksJ7_inflate_0 1 rfl rfl)
theorem dJ7_inflate_3 : decode cJ7_inflate 3 = .ok (.aload_n 2, 1) := dk_44 (dk_at dksJ7_inflate_0 3 rfl rfl)
theorem dJ7_inflate_4 : decode cJ7_inflate 4 = .ok (.invokestatic 173, 3) := dk_184 0 173 (dk_at dksJ7_inflate_0 4 rfl rfl)
theorem dJ7_inflate_7 : decode cJ7_inflate 7 = .ok (.iconst 0, 1) := dk_3 (dk_at dksJ7_inflate_0 7 rfl rfl)
theorem dJ7_inflate_8 : decode cJ7_inflate 8 = .ok (.istore 5, 2) := dk_54 5 (dk_at dksJ7_inflate_0 8 rfl rfl)
theorem dJ7_inflate_10 : decode cJ7_inflate 10 = .ok (.iload 5, 2) := dk_21 5 (dk_at dksJ7_inflate_0 10 rfl rfl)
theorem dJ7_inflate_12 : decode cJ7_inflate 12 = .ok (.iload 4, 2) := dk_21 4 (dk_at dksJ7_inflate_0 12 rfl rfl)
theorem dJ7_inflate_14 : decode cJ7_inflate 14 = .ok (.if_icmp .ge 27, 3) := dk_162 0 27 (dk_at dksJ7_inflate_0 14 rfl rfl)
theorem dJ7_inflate_17 : decode cJ7_inflate 17 = .ok (.aload_n 2, 1) := dk_44 (dk_at dksJ7_inflate_0 17 rfl rfl)
theorem dJ7_inflate_18 : decode cJ7_inflate 18 = .ok (.iload_n 3, 1) := dk_29 (dk_at dksJ7_inflate_0 18 rfl rfl)
theorem dJ7_inflate_19 : decode cJ7_inflate 19 = .ok (.iinc 3 1, 3) := dk_132 3 1 (dk_at dksJ7_inflate_0 19 rfl rfl)
theorem dJ7_inflate_22 : decode cJ7_inflate 22 = .ok (.aload_n 0, 1) := dk_42 (dk_at dksJ7_inflate_0 22 rfl rfl)
theorem dJ7_inflate_23 : decode cJ7_inflate 23 = .ok (.iload_n 1, 1) := dk_27 (dk_at dksJ7_inflate_0 23 rfl rfl)
theorem dJ7_inflate_24 : decode cJ7_inflate 24 = .ok (.iinc 1 1, 3) := dk_132 1 1 (dk_at dksJ7_inflate_1 0 rfl rfl)
theorem dJ7_inflate_27 : decode cJ7_inflate 27 = .ok (.baload, 1) := dk_51 (dk_at dksJ7_inflate_1 3 rfl rfl)
theorem dJ7_inflate_28 : decode cJ7_inflate 28 = .ok (.sipush 255, 3) := dk_17 0 255 (dk_at dksJ7_inflate_1 4 rfl rfl)
theorem dJ7_inflate_31 : decode cJ7_inflate 31 = .ok (.iand, 1) := dk_126 (dk_at dksJ7_inflate_1 7 rfl rfl)
theorem dJ7_inflate_32 : decode cJ7_inflate 32 = .ok (.invokestatic 111, 3) := dk_184 0 111 (dk_at dksJ7_inflate_1 8 rfl rfl)
theorem dJ7_inflate_35 : decode cJ7_inflate 35 = .ok (.iinc 5 1, 3) := dk_132 5 1 (dk_at dksJ7_inflate_1 11 rfl rfl)
theorem dJ7_inflate_38 : decode cJ7_inflate 38 = .ok (.goto (-28), 3) := dk_167 255 228 (dk_at dksJ7_inflate_1 14 rfl rfl)
theorem dJ7_inflate_41 : decode cJ7_inflate 41 = .ok (.return_, 1) := dk_177 (dk_at dksJ7_inflate_1 17 rfl rfl)
abbrev cJ7_putCharSB : ByteArray := prog_45_method_71_code
def yJ7_putCharSB : MethodName := ⟨RJ7, "putCharSB", "([BII)V"⟩
def dkwJ7_putCharSB_0 : List UInt8 := [27, 42, 184, 0, 67, 42, 27, 28, 184, 0, 111, 177]
abbrev dktJ7_putCharSB_0 : List UInt8 := dkwJ7_putCharSB_0 ++ []
theorem dksJ7_putCharSB_0 : cJ7_putCharSB.data.toList.drop 0 = dktJ7_putCharSB_0 := by decide +kernel
theorem dJ7_putCharSB_0 : decode cJ7_putCharSB 0 = .ok (.iload_n 1, 1) := dk_27 (dk_at dksJ7_putCharSB_0 0 rfl rfl)
theorem dJ7_putCharSB_1 : decode cJ7_putCharSB 1 = .ok (.aload_n 0, 1) := dk_42 (dk_at dksJ7_putCharSB_0 1 rfl rfl)
theorem dJ7_putCharSB_2 : decode cJ7_putCharSB 2 = .ok (.invokestatic 67, 3) := dk_184 0 67 (dk_at dksJ7_putCharSB_0 2 rfl rfl)
theorem dJ7_putCharSB_5 : decode cJ7_putCharSB 5 = .ok (.aload_n 0, 1) := dk_42 (dk_at dksJ7_putCharSB_0 5 rfl rfl)
theorem dJ7_putCharSB_6 : decode cJ7_putCharSB 6 = .ok (.iload_n 1, 1) := dk_27 (dk_at dksJ7_putCharSB_0 6 rfl rfl)
theorem dJ7_putCharSB_7 : decode cJ7_putCharSB 7 = .ok (.iload_n 2, 1) := dk_28 (dk_at dksJ7_putCharSB_0 7 rfl rfl)
theorem dJ7_putCharSB_8 : decode cJ7_putCharSB 8 = .ok (.invokestatic 111, 3) := dk_184 0 111 (dk_at dksJ7_putCharSB_0 8 rfl rfl)
theorem dJ7_putCharSB_11 : decode cJ7_putCharSB 11 = .ok (.return_, 1) := dk_177 (dk_at dksJ7_putCharSB_0 11 rfl rfl)
theorem q185 : (Jvm.Cond.initialized "java/lang/StringUTF16") ∈ lw_all := lw_g (lw_at lw_m1 17 rfl) rfl
theorem q617 : (Jvm.Cond.static ({ cls := "java/lang/StringUTF16", name := "compress", desc := "([CII)[B" } : Jvm.MethodName)) ∈ lw_all := lw_g (lw_at lw_m2 209 rfl) rfl
theorem q618 : (Jvm.Cond.code ({ cls := "java/lang/StringUTF16", name := "compress", desc := "([CII)[B" } : Jvm.MethodName) prog_45_method_16_code (6 : Nat) (Option.some (Jvm.ClassFile.FieldType.array Jvm.ClassFile.FieldType.byte))) ∈ lw_all := lw_g (lw_at lw_m2 210 rfl) rfl
theorem q619 : (Jvm.Cond.methodLink "java/lang/StringUTF16" (115 : Nat) ({ cls := "java/lang/StringUTF16", name := "compress", desc := "([CI[BII)I" } : Jvm.MethodName)) ∈ lw_all := lw_g (lw_at lw_m2 211 rfl) rfl
theorem q620 : (Jvm.Cond.static ({ cls := "java/lang/StringUTF16", name := "compress", desc := "([CI[BII)I" } : Jvm.MethodName)) ∈ lw_all := lw_g (lw_at lw_m2 212 rfl) rfl
theorem q621 : (Jvm.Cond.code ({ cls := "java/lang/StringUTF16", name := "compress", desc := "([CI[BII)I" } : Jvm.MethodName) prog_45_method_21_code (7 : Nat) (Option.some Jvm.ClassFile.FieldType.int)) ∈ lw_all := lw_g (lw_at lw_m2 213 rfl) rfl
theorem q622 : (Jvm.Cond.methodLink "java/lang/StringUTF16" (119 : Nat) ({ cls := "java/lang/StringUTF16", name := "toBytes", desc := "([CII)[B" } : Jvm.MethodName)) ∈ lw_all := lw_g (lw_at lw_m2 214 rfl) rfl
theorem q623 : (Jvm.Cond.static ({ cls := "java/lang/StringUTF16", name := "toBytes", desc := "([CII)[B" } : Jvm.MethodName)) ∈ lw_all := lw_g (lw_at lw_m2 215 rfl) rfl
theorem q624 : (Jvm.Cond.code ({ cls := "java/lang/StringUTF16", name := "toBytes", desc := "([CII)[B" } : Jvm.MethodName) prog_45_method_14_code (5 : Nat) (Option.some (Jvm.ClassFile.FieldType.array Jvm.ClassFile.FieldType.byte))) ∈ lw_all := lw_g (lw_at lw_m2 216 rfl) rfl
theorem q625 : (Jvm.Cond.methodLink "java/lang/StringUTF16" (107 : Nat) ({ cls := "java/lang/StringUTF16", name := "newBytesFor", desc := "(I)[B" } : Jvm.MethodName)) ∈ lw_all := lw_g (lw_at lw_m2 217 rfl) rfl
theorem q626 : (Jvm.Cond.static ({ cls := "java/lang/StringUTF16", name := "newBytesFor", desc := "(I)[B" } : Jvm.MethodName)) ∈ lw_all := lw_g (lw_at lw_m2 218 rfl) rfl
theorem q627 : (Jvm.Cond.code ({ cls := "java/lang/StringUTF16", name := "newBytesFor", desc := "(I)[B" } : Jvm.MethodName) prog_45_method_2_code (1 : Nat) (Option.some (Jvm.ClassFile.FieldType.array Jvm.ClassFile.FieldType.byte))) ∈ lw_all := lw_g (lw_at lw_m2 219 rfl) rfl
theorem q628 : (Jvm.Cond.methodLink "java/lang/StringUTF16" (11 : Nat) ({ cls := "java/lang/StringUTF16", name := "newBytesLength", desc := "(I)I" } : Jvm.MethodName)) ∈ lw_all := lw_g (lw_at lw_m2 220 rfl) rfl
theorem q629 : (Jvm.Cond.static ({ cls := "java/lang/StringUTF16", name := "newBytesLength", desc := "(I)I" } : Jvm.MethodName)) ∈ lw_all := lw_g (lw_at lw_m2 221 rfl) rfl
theorem q630 : (Jvm.Cond.code ({ cls := "java/lang/StringUTF16", name := "newBytesLength", desc := "(I)I" } : Jvm.MethodName) prog_45_method_3_code (1 : Nat) (Option.some Jvm.ClassFile.FieldType.int)) ∈ lw_all := lw_g (lw_at lw_m2 222 rfl) rfl
theorem q631 : (Jvm.Cond.constant "java/lang/StringUTF16" (20 : Nat) (1073741823 : Int32)) ∈ lw_all := lw_g (lw_at lw_m2 223 rfl) rfl
theorem q632 : (Jvm.Cond.methodLink "java/lang/StringUTF16" (111 : Nat) ({ cls := "java/lang/StringUTF16", name := "putChar", desc := "([BII)V" } : Jvm.MethodName)) ∈ lw_all := lw_g (lw_at lw_m2 224 rfl) rfl
theorem q633 : (Jvm.Cond.static ({ cls := "java/lang/StringUTF16", name := "putChar", desc := "([BII)V" } : Jvm.MethodName)) ∈ lw_all := lw_g (lw_at lw_m2 225 rfl) rfl
theorem q634 : (Jvm.Cond.code ({ cls := "java/lang/StringUTF16", name := "putChar", desc := "([BII)V" } : Jvm.MethodName) prog_45_method_4_code (3 : Nat) (Option.none : Option Jvm.ClassFile.FieldType)) ∈ lw_all := lw_g (lw_at lw_m2 226 rfl) rfl
theorem q635 : (Jvm.Cond.fieldLink "java/lang/StringUTF16" (44 : Nat) "java/lang/StringUTF16" "$assertionsDisabled" "Z") ∈ lw_all := lw_g (lw_at lw_m2 227 rfl) rfl
theorem q636 : (Jvm.Cond.laysStatic "java/lang/StringUTF16" "$assertionsDisabled" "Z") ∈ lw_tbl := lw_at lw_m2 228 rfl
theorem q637 : (Jvm.Cond.methodLink "java/lang/StringUTF16" (48 : Nat) ({ cls := "java/lang/StringUTF16", name := "length", desc := "([B)I" } : Jvm.MethodName)) ∈ lw_all := lw_g (lw_at lw_m2 229 rfl) rfl
theorem q638 : (Jvm.Cond.static ({ cls := "java/lang/StringUTF16", name := "length", desc := "([B)I" } : Jvm.MethodName)) ∈ lw_all := lw_g (lw_at lw_m2 230 rfl) rfl
theorem q639 : (Jvm.Cond.code ({ cls := "java/lang/StringUTF16", name := "length", desc := "([B)I" } : Jvm.MethodName) prog_45_method_6_code (1 : Nat) (Option.some Jvm.ClassFile.FieldType.int)) ∈ lw_all := lw_g (lw_at lw_m2 231 rfl) rfl
theorem q640 : (Jvm.Cond.fieldLink "java/lang/StringUTF16" (59 : Nat) "java/lang/StringUTF16" "HI_BYTE_SHIFT" "I") ∈ lw_all := lw_g (lw_at lw_m2 232 rfl) rfl
theorem q641 : (Jvm.Cond.laysStatic "java/lang/StringUTF16" "HI_BYTE_SHIFT" "I") ∈ lw_tbl := lw_at lw_m2 233 rfl
theorem q642 : (Jvm.Cond.fieldLink "java/lang/StringUTF16" (63 : Nat) "java/lang/StringUTF16" "LO_BYTE_SHIFT" "I") ∈ lw_all := lw_g (lw_at lw_m2 234 rfl) rfl
theorem q643 : (Jvm.Cond.laysStatic "java/lang/StringUTF16" "LO_BYTE_SHIFT" "I") ∈ lw_tbl := lw_at lw_m2 235 rfl
theorem q644 : (Jvm.Cond.methodLink "java/lang/StringUTF16" (71 : Nat) ({ cls := "java/lang/StringUTF16", name := "getChar", desc := "([BI)C" } : Jvm.MethodName)) ∈ lw_all := lw_g (lw_at lw_m2 236 rfl) rfl
theorem q645 : (Jvm.Cond.static ({ cls := "java/lang/StringUTF16", name := "getChar", desc := "([BI)C" } : Jvm.MethodName)) ∈ lw_all := lw_g (lw_at lw_m2 237 rfl) rfl
theorem q646 : (Jvm.Cond.code ({ cls := "java/lang/StringUTF16", name := "getChar", desc := "([BI)C" } : Jvm.MethodName) prog_45_method_5_code (2 : Nat) (Option.some Jvm.ClassFile.FieldType.char)) ∈ lw_all := lw_g (lw_at lw_m2 238 rfl) rfl
theorem q647 : (Jvm.Cond.methodLink "java/lang/StringUTF16" (123 : Nat) ({ cls := "java/lang/StringUTF16", name := "compress", desc := "([BI[BII)I" } : Jvm.MethodName)) ∈ lw_all := lw_g (lw_at lw_m2 239 rfl) rfl
theorem q648 : (Jvm.Cond.static ({ cls := "java/lang/StringUTF16", name := "compress", desc := "([BI[BII)I" } : Jvm.MethodName)) ∈ lw_all := lw_g (lw_at lw_m3 0 rfl) rfl
theorem q649 : (Jvm.Cond.code ({ cls := "java/lang/StringUTF16", name := "compress", desc := "([BI[BII)I" } : Jvm.MethodName) prog_45_method_22_code (7 : Nat) (Option.some Jvm.ClassFile.FieldType.int)) ∈ lw_all := lw_g (lw_at lw_m3 1 rfl) rfl
theorem q650 : (Jvm.Cond.methodLink "java/lang/StringUTF16" (173 : Nat) ({ cls := "java/lang/StringUTF16", name := "checkBoundsOffCount", desc := "(II[B)V" } : Jvm.MethodName)) ∈ lw_all := lw_g (lw_at lw_m3 2 rfl) rfl
theorem q651 : (Jvm.Cond.static ({ cls := "java/lang/StringUTF16", name := "checkBoundsOffCount", desc := "(II[B)V" } : Jvm.MethodName)) ∈ lw_all := lw_g (lw_at lw_m3 3 rfl) rfl
theorem q652 : (Jvm.Cond.code ({ cls := "java/lang/StringUTF16", name := "checkBoundsOffCount", desc := "(II[B)V" } : Jvm.MethodName) prog_45_method_94_code (3 : Nat) (Option.none : Option Jvm.ClassFile.FieldType)) ∈ lw_all := lw_g (lw_at lw_m3 4 rfl) rfl
theorem q653 : (Jvm.Cond.methodLink "java/lang/StringUTF16" (419 : Nat) ({ cls := "java/lang/String", name := "checkBoundsOffCount", desc := "(III)I" } : Jvm.MethodName)) ∈ lw_all := lw_g (lw_at lw_m3 5 rfl) rfl
theorem q655 : (Jvm.Cond.static ({ cls := "java/lang/StringUTF16", name := "coderFromArrayLen", desc := "([BI)B" } : Jvm.MethodName)) ∈ lw_all := lw_g (lw_at lw_m3 7 rfl) rfl
theorem q656 : (Jvm.Cond.code ({ cls := "java/lang/StringUTF16", name := "coderFromArrayLen", desc := "([BI)B" } : Jvm.MethodName) prog_45_method_15_code (2 : Nat) (Option.some Jvm.ClassFile.FieldType.byte)) ∈ lw_all := lw_g (lw_at lw_m3 8 rfl) rfl
theorem q698 : (Jvm.Cond.static ({ cls := "java/lang/StringUTF16", name := "charAt", desc := "([BI)C" } : Jvm.MethodName)) ∈ lw_all := lw_g (lw_at lw_m3 50 rfl) rfl
theorem q699 : (Jvm.Cond.code ({ cls := "java/lang/StringUTF16", name := "charAt", desc := "([BI)C" } : Jvm.MethodName) prog_45_method_83_code (2 : Nat) (Option.some Jvm.ClassFile.FieldType.char)) ∈ lw_all := lw_g (lw_at lw_m3 51 rfl) rfl
theorem q700 : (Jvm.Cond.methodLink "java/lang/StringUTF16" (67 : Nat) ({ cls := "java/lang/StringUTF16", name := "checkIndex", desc := "(I[B)V" } : Jvm.MethodName)) ∈ lw_all := lw_g (lw_at lw_m3 52 rfl) rfl
theorem q701 : (Jvm.Cond.static ({ cls := "java/lang/StringUTF16", name := "checkIndex", desc := "(I[B)V" } : Jvm.MethodName)) ∈ lw_all := lw_g (lw_at lw_m3 53 rfl) rfl
theorem q702 : (Jvm.Cond.code ({ cls := "java/lang/StringUTF16", name := "checkIndex", desc := "(I[B)V" } : Jvm.MethodName) prog_45_method_91_code (2 : Nat) (Option.none : Option Jvm.ClassFile.FieldType)) ∈ lw_all := lw_g (lw_at lw_m3 54 rfl) rfl
theorem q703 : (Jvm.Cond.methodLink "java/lang/StringUTF16" (414 : Nat) ({ cls := "java/lang/String", name := "checkIndex", desc := "(II)V" } : Jvm.MethodName)) ∈ lw_all := lw_g (lw_at lw_m3 55 rfl) rfl
theorem q922 : (Jvm.Cond.static ({ cls := "java/lang/StringUTF16", name := "inflate", desc := "([BI[BII)V" } : Jvm.MethodName)) ∈ lw_all := lw_g (lw_at lw_m4 34 rfl) rfl
theorem q923 : (Jvm.Cond.code ({ cls := "java/lang/StringUTF16", name := "inflate", desc := "([BI[BII)V" } : Jvm.MethodName) prog_45_method_86_code (6 : Nat) (Option.none : Option Jvm.ClassFile.FieldType)) ∈ lw_all := lw_g (lw_at lw_m4 35 rfl) rfl
theorem q925 : (Jvm.Cond.static ({ cls := "java/lang/StringUTF16", name := "putCharSB", desc := "([BII)V" } : Jvm.MethodName)) ∈ lw_all := lw_g (lw_at lw_m4 37 rfl) rfl
theorem q926 : (Jvm.Cond.code ({ cls := "java/lang/StringUTF16", name := "putCharSB", desc := "([BII)V" } : Jvm.MethodName) prog_45_method_71_code (3 : Nat) (Option.none : Option Jvm.ClassFile.FieldType)) ∈ lw_all := lw_g (lw_at lw_m4 38 rfl) rfl
/-! java/lang/StringLatin1 -/
def RJ8 : String := "java/lang/StringLatin1"
abbrev cJ8_charAt : ByteArray := prog_44_method_2_code
def yJ8_charAt : MethodName := ⟨RJ8, "charAt", "([BI)C"⟩
def dkwJ8_charAt_0 : List UInt8 := [27, 42, 190, 184, 0, 9, 42, 27, 51, 17, 0, 255, 126, 146, 172]
abbrev dktJ8_charAt_0 : List UInt8 := dkwJ8_charAt_0 ++ []
theorem dksJ8_charAt_0 : cJ8_charAt.data.toList.drop 0 = dktJ8_charAt_0 := by decide +kernel
theorem dJ8_charAt_0 : decode cJ8_charAt 0 = .ok (.iload_n 1, 1) := dk_27 (dk_at dksJ8_charAt_0 0 rfl rfl)
theorem dJ8_charAt_1 : decode cJ8_charAt 1 = .ok (.aload_n 0, 1) := dk_42 (dk_at dksJ8_charAt_0 1 rfl rfl)
theorem dJ8_charAt_2 : decode cJ8_charAt 2 = .ok (.arraylength, 1) := dk_190 (dk_at dksJ8_charAt_0 2 rfl rfl)
theorem dJ8_charAt_3 : decode cJ8_charAt 3 = .ok (.invokestatic 9, 3) := dk_184 0 9 (dk_at dksJ8_charAt_0 3 rfl rfl)
theorem dJ8_charAt_6 : decode cJ8_charAt 6 = .ok (.aload_n 0, 1) := dk_42 (dk_at dksJ8_charAt_0 6 rfl rfl)
theorem dJ8_charAt_7 : decode cJ8_charAt 7 = .ok (.iload_n 1, 1) := dk_27 (dk_at dksJ8_charAt_0 7 rfl rfl)
theorem dJ8_charAt_8 : decode cJ8_charAt 8 = .ok (.baload, 1) := dk_51 (dk_at dksJ8_charAt_0 8 rfl rfl)
theorem dJ8_charAt_9 : decode cJ8_charAt 9 = .ok (.sipush 255, 3) := dk_17 0 255 (dk_at dksJ8_charAt_0 9 rfl rfl)
theorem dJ8_charAt_12 : decode cJ8_charAt 12 = .ok (.iand, 1) := dk_126 (dk_at dksJ8_charAt_0 12 rfl rfl)
theorem dJ8_charAt_13 : decode cJ8_charAt 13 = .ok (.i2c, 1) := dk_146 (dk_at dksJ8_charAt_0 13 rfl rfl)
theorem dJ8_charAt_14 : decode cJ8_charAt 14 = .ok (.ireturn, 1) := dk_172 (dk_at dksJ8_charAt_0 14 rfl rfl)
abbrev cJ8_equals : ByteArray := prog_44_method_13_code
def yJ8_equals : MethodName := ⟨RJ8, "equals", "([B[B)Z"⟩
def dkwJ8_equals_1 : List UInt8 := [3, 172, 132, 2, 1, 167, 255, 236, 4, 172, 3, 172]
abbrev dktJ8_equals_1 : List UInt8 := dkwJ8_equals_1 ++ []
def dkwJ8_equals_0 : List UInt8 := [42, 190, 43, 190, 160, 0, 30, 3, 61, 28, 42, 190, 162, 0, 20, 42, 28, 51, 43, 28, 51, 159, 0, 5]
abbrev dktJ8_equals_0 : List UInt8 := dkwJ8_equals_0 ++ dktJ8_equals_1
theorem dksJ8_equals_0 : cJ8_equals.data.toList.drop 0 = dktJ8_equals_0 := by decide +kernel
theorem dksJ8_equals_1 : cJ8_equals.data.toList.drop 24 = dktJ8_equals_1 := dk_seg dksJ8_equals_0 24 rfl rfl
theorem dJ8_equals_0 : decode cJ8_equals 0 = .ok (.aload_n 0, 1) := dk_42 (dk_at dksJ8_equals_0 0 rfl rfl)
theorem dJ8_equals_1 : decode cJ8_equals 1 = .ok (.arraylength, 1) := dk_190 (dk_at dksJ8_equals_0 1 rfl rfl)
theorem dJ8_equals_2 : decode cJ8_equals 2 = .ok (.aload_n 1, 1) := dk_43 (dk_at dksJ8_equals_0 2 rfl rfl)
theorem dJ8_equals_3 : decode cJ8_equals 3 = .ok (.arraylength, 1) := dk_190 (dk_at dksJ8_equals_0 3 rfl rfl)
theorem dJ8_equals_4 : decode cJ8_equals 4 = .ok (.if_icmp .ne 30, 3) := dk_160 0 30 (dk_at dksJ8_equals_0 4 rfl rfl)
theorem dJ8_equals_7 : decode cJ8_equals 7 = .ok (.iconst 0, 1) := dk_3 (dk_at dksJ8_equals_0 7 rfl rfl)
theorem dJ8_equals_8 : decode cJ8_equals 8 = .ok (.istore_n 2, 1) := dk_61 (dk_at dksJ8_equals_0 8 rfl rfl)
theorem dJ8_equals_9 : decode cJ8_equals 9 = .ok (.iload_n 2, 1) := dk_28 (dk_at dksJ8_equals_0 9 rfl rfl)
theorem dJ8_equals_10 : decode cJ8_equals 10 = .ok (.aload_n 0, 1) := dk_42 (dk_at dksJ8_equals_0 10 rfl rfl)
theorem dJ8_equals_11 : decode cJ8_equals 11 = .ok (.arraylength, 1) := dk_190 (dk_at dksJ8_equals_0 11 rfl rfl)
theorem dJ8_equals_12 : decode cJ8_equals 12 = .ok (.if_icmp .ge 20, 3) := dk_162 0 20 (dk_at dksJ8_equals_0 12 rfl rfl)
theorem dJ8_equals_15 : decode cJ8_equals 15 = .ok (.aload_n 0, 1) := dk_42 (dk_at dksJ8_equals_0 15 rfl rfl)
theorem dJ8_equals_16 : decode cJ8_equals 16 = .ok (.iload_n 2, 1) := dk_28 (dk_at dksJ8_equals_0 16 rfl rfl)
theorem dJ8_equals_17 : decode cJ8_equals 17 = .ok (.baload, 1) := dk_51 (dk_at dksJ8_equals_0 17 rfl rfl)
theorem dJ8_equals_18 : decode cJ8_equals 18 = .ok (.aload_n 1, 1) := dk_43 (dk_at dksJ8_equals_0 18 rfl rfl)
theorem dJ8_equals_19 : decode cJ8_equals 19 = .ok (.iload_n 2, 1) := dk_28 (dk_at dksJ8_equals_0 19 rfl rfl)
theorem dJ8_equals_20 : decode cJ8_equals 20 = .ok (.baload, 1) := dk_51 (dk_at dksJ8_equals_0 20 rfl rfl)
theorem dJ8_equals_21 : decode cJ8_equals 21 = .ok (.if_icmp .eq 5, 3) := dk_159 0 5 (dk_at dksJ8_equals_0 21 rfl rfl)
theorem dJ8_equals_24 : decode cJ8_equals 24 = .ok (.iconst 0, 1) := dk_3 (dk_at dksJ8_equals_1 0 rfl rfl)
theorem dJ8_equals_25 : decode cJ8_equals 25 = .ok (.ireturn, 1) := dk_172 (dk_at dksJ8_equals_1 1 rfl rfl)
theorem dJ8_equals_26 : decode cJ8_equals 26 = .ok (.iinc 2 1, 3) := dk_132 2 1 (dk_at dksJ8_equals_1 2 rfl rfl)
theorem dJ8_equals_29 : decode cJ8_equals 29 = .ok (.goto (-20), 3) := dk_167 255 236 (dk_at dksJ8_equals_1 5 rfl rfl)
theorem dJ8_equals_32 : decode cJ8_equals 32 = .ok (.iconst 1, 1) := dk_4 (dk_at dksJ8_equals_1 8 rfl rfl)
theorem dJ8_equals_33 : decode cJ8_equals 33 = .ok (.ireturn, 1) := dk_172 (dk_at dksJ8_equals_1 9 rfl rfl)
theorem dJ8_equals_34 : decode cJ8_equals 34 = .ok (.iconst 0, 1) := dk_3 (dk_at dksJ8_equals_1 10 rfl rfl)
theorem dJ8_equals_35 : decode cJ8_equals 35 = .ok (.ireturn, 1) := dk_172 (dk_at dksJ8_equals_1 11 rfl rfl)
abbrev cJ8_canEncode : ByteArray := prog_44_method_3_code
def yJ8_canEncode : MethodName := ⟨RJ8, "canEncode", "(C)Z"⟩
def dkwJ8_canEncode_0 : List UInt8 := [26, 17, 0, 255, 163, 0, 7, 4, 167, 0, 4, 3, 172]
abbrev dktJ8_canEncode_0 : List UInt8 := dkwJ8_canEncode_0 ++ []
theorem dksJ8_canEncode_0 : cJ8_canEncode.data.toList.drop 0 = dktJ8_canEncode_0 := by decide +kernel
theorem dJ8_canEncode_0 : decode cJ8_canEncode 0 = .ok (.iload_n 0, 1) := dk_26 (dk_at dksJ8_canEncode_0 0 rfl rfl)
theorem dJ8_canEncode_1 : decode cJ8_canEncode 1 = .ok (.sipush 255, 3) := dk_17 0 255 (dk_at dksJ8_canEncode_0 1 rfl rfl)
theorem dJ8_canEncode_4 : decode cJ8_canEncode 4 = .ok (.if_icmp .gt 7, 3) := dk_163 0 7 (dk_at dksJ8_canEncode_0 4 rfl rfl)
theorem dJ8_canEncode_7 : decode cJ8_canEncode 7 = .ok (.iconst 1, 1) := dk_4 (dk_at dksJ8_canEncode_0 7 rfl rfl)
theorem dJ8_canEncode_8 : decode cJ8_canEncode 8 = .ok (.goto 4, 3) := dk_167 0 4 (dk_at dksJ8_canEncode_0 8 rfl rfl)
theorem dJ8_canEncode_11 : decode cJ8_canEncode 11 = .ok (.iconst 0, 1) := dk_3 (dk_at dksJ8_canEncode_0 11 rfl rfl)
theorem dJ8_canEncode_12 : decode cJ8_canEncode 12 = .ok (.ireturn, 1) := dk_172 (dk_at dksJ8_canEncode_0 12 rfl rfl)
abbrev cJ8_inflate : ByteArray := prog_44_method_50_code
def yJ8_inflate : MethodName := ⟨RJ8, "inflate", "([BI[BII)V"⟩
def dkwJ8_inflate_0 : List UInt8 := [42, 27, 44, 29, 21, 4, 184, 0, 240, 177]
abbrev dktJ8_inflate_0 : List UInt8 := dkwJ8_inflate_0 ++ []
theorem dksJ8_inflate_0 : cJ8_inflate.data.toList.drop 0 = dktJ8_inflate_0 := by decide +kernel
theorem dJ8_inflate_0 : decode cJ8_inflate 0 = .ok (.aload_n 0, 1) := dk_42 (dk_at dksJ8_inflate_0 0 rfl rfl)
theorem dJ8_inflate_1 : decode cJ8_inflate 1 = .ok (.iload_n 1, 1) := dk_27 (dk_at dksJ8_inflate_0 1 rfl rfl)
theorem dJ8_inflate_2 : decode cJ8_inflate 2 = .ok (.aload_n 2, 1) := dk_44 (dk_at dksJ8_inflate_0 2 rfl rfl)
theorem dJ8_inflate_3 : decode cJ8_inflate 3 = .ok (.iload_n 3, 1) := dk_29 (dk_at dksJ8_inflate_0 3 rfl rfl)
theorem dJ8_inflate_4 : decode cJ8_inflate 4 = .ok (.iload 4, 2) := dk_21 4 (dk_at dksJ8_inflate_0 4 rfl rfl)
theorem dJ8_inflate_6 : decode cJ8_inflate 6 = .ok (.invokestatic 240, 3) := dk_184 0 240 (dk_at dksJ8_inflate_0 6 rfl rfl)
theorem dJ8_inflate_9 : decode cJ8_inflate 9 = .ok (.return_, 1) := dk_177 (dk_at dksJ8_inflate_0 9 rfl rfl)
theorem q186 : (Jvm.Cond.initialized "java/lang/StringLatin1") ∈ lw_all := lw_g (lw_at lw_m1 18 rfl) rfl
theorem q689 : (Jvm.Cond.static ({ cls := "java/lang/StringLatin1", name := "charAt", desc := "([BI)C" } : Jvm.MethodName)) ∈ lw_all := lw_g (lw_at lw_m3 41 rfl) rfl
theorem q690 : (Jvm.Cond.code ({ cls := "java/lang/StringLatin1", name := "charAt", desc := "([BI)C" } : Jvm.MethodName) prog_44_method_2_code (2 : Nat) (Option.some Jvm.ClassFile.FieldType.char)) ∈ lw_all := lw_g (lw_at lw_m3 42 rfl) rfl
theorem q691 : (Jvm.Cond.methodLink "java/lang/StringLatin1" (9 : Nat) ({ cls := "java/lang/String", name := "checkIndex", desc := "(II)V" } : Jvm.MethodName)) ∈ lw_all := lw_g (lw_at lw_m3 43 rfl) rfl
theorem q710 : (Jvm.Cond.static ({ cls := "java/lang/StringLatin1", name := "equals", desc := "([B[B)Z" } : Jvm.MethodName)) ∈ lw_all := lw_g (lw_at lw_m3 62 rfl) rfl
theorem q711 : (Jvm.Cond.code ({ cls := "java/lang/StringLatin1", name := "equals", desc := "([B[B)Z" } : Jvm.MethodName) prog_44_method_13_code (3 : Nat) (Option.some Jvm.ClassFile.FieldType.boolean)) ∈ lw_all := lw_g (lw_at lw_m3 63 rfl) rfl
theorem q912 : (Jvm.Cond.static ({ cls := "java/lang/StringLatin1", name := "canEncode", desc := "(C)Z" } : Jvm.MethodName)) ∈ lw_all := lw_g (lw_at lw_m4 24 rfl) rfl
theorem q913 : (Jvm.Cond.code ({ cls := "java/lang/StringLatin1", name := "canEncode", desc := "(C)Z" } : Jvm.MethodName) prog_44_method_3_code (1 : Nat) (Option.some Jvm.ClassFile.FieldType.boolean)) ∈ lw_all := lw_g (lw_at lw_m4 25 rfl) rfl
theorem q919 : (Jvm.Cond.static ({ cls := "java/lang/StringLatin1", name := "inflate", desc := "([BI[BII)V" } : Jvm.MethodName)) ∈ lw_all := lw_g (lw_at lw_m4 31 rfl) rfl
theorem q920 : (Jvm.Cond.code ({ cls := "java/lang/StringLatin1", name := "inflate", desc := "([BI[BII)V" } : Jvm.MethodName) prog_44_method_50_code (5 : Nat) (Option.none : Option Jvm.ClassFile.FieldType)) ∈ lw_all := lw_g (lw_at lw_m4 32 rfl) rfl
theorem q921 : (Jvm.Cond.methodLink "java/lang/StringLatin1" (240 : Nat) ({ cls := "java/lang/StringUTF16", name := "inflate", desc := "([BI[BII)V" } : Jvm.MethodName)) ∈ lw_all := lw_g (lw_at lw_m4 33 rfl) rfl
/-! java/lang/AbstractStringBuilder -/
def RJ9 : String := "java/lang/AbstractStringBuilder"
abbrev cJ9_init : ByteArray := prog_31_method_2_code
def yJ9_init : MethodName := ⟨RJ9, "<init>", "(I)V"⟩
def dkwJ9_init_1 : List UInt8 := [167, 0, 16, 42, 27, 184, 0, 26, 181, 0, 15, 42, 4, 181, 0, 22, 177]
abbrev dktJ9_init_1 : List UInt8 := dkwJ9_init_1 ++ []
def dkwJ9_init_0 : List UInt8 := [42, 183, 0, 3, 178, 0, 18, 153, 0, 18, 42, 27, 188, 8, 181, 0, 15, 42, 3, 181, 0, 22]
abbrev dktJ9_init_0 : List UInt8 := dkwJ9_init_0 ++ dktJ9_init_1
theorem dksJ9_init_0 : cJ9_init.data.toList.drop 0 = dktJ9_init_0 := by decide +kernel
theorem dksJ9_init_1 : cJ9_init.data.toList.drop 22 = dktJ9_init_1 := dk_seg dksJ9_init_0 22 rfl rfl
theorem dJ9_init_0 : decode cJ9_init 0 = .ok (.aload_n 0, 1) := dk_42 (dk_at dksJ9_init_0 0 rfl rfl)
theorem dJ9_init_1 : decode cJ9_init 1 = .ok (.invokespecial 3, 3) := dk_183 0 3 (dk_at dksJ9_init_0 1 rfl rfl)
theorem dJ9_init_4 : decode cJ9_init 4 = .ok (.getstatic 18, 3) := dk_178 0 18 (dk_at dksJ9_init_0 4 rfl rfl)
theorem dJ9_init_7 : decode cJ9_init 7 = .ok (.ifCond .eq 18, 3) := dk_153 0 18 (dk_at dksJ9_init_0 7 rfl rfl)
theorem dJ9_init_10 : decode cJ9_init 10 = .ok (.aload_n 0, 1) := dk_42 (dk_at dksJ9_init_0 10 rfl rfl)
theorem dJ9_init_11 : decode cJ9_init 11 = .ok (.iload_n 1, 1) := dk_27 (dk_at dksJ9_init_0 11 rfl rfl)
theorem dJ9_init_12 : decode cJ9_init 12 = .ok (.newarray .byte, 2) := dk_188_8 (dk_at dksJ9_init_0 12 rfl rfl)
theorem dJ9_init_14 : decode cJ9_init 14 = .ok (.putfield 15, 3) := dk_181 0 15 (dk_at dksJ9_init_0 14 rfl rfl)
theorem dJ9_init_17 : decode cJ9_init 17 = .ok (.aload_n 0, 1) := dk_42 (dk_at dksJ9_init_0 17 rfl rfl)
theorem dJ9_init_18 : decode cJ9_init 18 = .ok (.iconst 0, 1) := dk_3 (dk_at dksJ9_init_0 18 rfl rfl)
theorem dJ9_init_19 : decode cJ9_init 19 = .ok (.putfield 22, 3) := dk_181 0 22 (dk_at dksJ9_init_0 19 rfl rfl)
theorem dJ9_init_22 : decode cJ9_init 22 = .ok (.goto 16, 3) := dk_167 0 16 (dk_at dksJ9_init_1 0 rfl rfl)
theorem dJ9_init_25 : decode cJ9_init 25 = .ok (.aload_n 0, 1) := dk_42 (dk_at dksJ9_init_1 3 rfl rfl)
theorem dJ9_init_26 : decode cJ9_init 26 = .ok (.iload_n 1, 1) := dk_27 (dk_at dksJ9_init_1 4 rfl rfl)
theorem dJ9_init_27 : decode cJ9_init 27 = .ok (.invokestatic 26, 3) := dk_184 0 26 (dk_at dksJ9_init_1 5 rfl rfl)
theorem dJ9_init_30 : decode cJ9_init 30 = .ok (.putfield 15, 3) := dk_181 0 15 (dk_at dksJ9_init_1 8 rfl rfl)
theorem dJ9_init_33 : decode cJ9_init 33 = .ok (.aload_n 0, 1) := dk_42 (dk_at dksJ9_init_1 11 rfl rfl)
theorem dJ9_init_34 : decode cJ9_init 34 = .ok (.iconst 1, 1) := dk_4 (dk_at dksJ9_init_1 12 rfl rfl)
theorem dJ9_init_35 : decode cJ9_init 35 = .ok (.putfield 22, 3) := dk_181 0 22 (dk_at dksJ9_init_1 13 rfl rfl)
theorem dJ9_init_38 : decode cJ9_init 38 = .ok (.return_, 1) := dk_177 (dk_at dksJ9_init_1 16 rfl rfl)
abbrev cJ9_append : ByteArray := prog_31_method_31_code
def yJ9_append : MethodName := ⟨RJ9, "append", "(C)Ljava/lang/AbstractStringBuilder;"⟩
def dkwJ9_append_3 : List UInt8 := [181, 0, 79, 27, 184, 0, 197, 42, 176]
abbrev dktJ9_append_3 : List UInt8 := dkwJ9_append_3 ++ []
def dkwJ9_append_2 : List UInt8 := [182, 0, 83, 153, 0, 7, 42, 182, 0, 195, 42, 180, 0, 15, 42, 89, 180, 0, 79, 90, 4, 96]
abbrev dktJ9_append_2 : List UInt8 := dkwJ9_append_2 ++ dktJ9_append_3
def dkwJ9_append_1 : List UInt8 := [42, 180, 0, 15, 42, 89, 180, 0, 79, 90, 4, 96, 181, 0, 79, 27, 145, 84, 167, 0, 33, 42]
abbrev dktJ9_append_1 : List UInt8 := dkwJ9_append_1 ++ dktJ9_append_2
def dkwJ9_append_0 : List UInt8 := [42, 42, 180, 0, 79, 4, 96, 182, 0, 100, 42, 182, 0, 83, 153, 0, 31, 27, 184, 0, 191, 153, 0, 24]
abbrev dktJ9_append_0 : List UInt8 := dkwJ9_append_0 ++ dktJ9_append_1
theorem dksJ9_append_0 : cJ9_append.data.toList.drop 0 = dktJ9_append_0 := by decide +kernel
theorem dksJ9_append_1 : cJ9_append.data.toList.drop 24 = dktJ9_append_1 := dk_seg dksJ9_append_0 24 rfl rfl
theorem dksJ9_append_2 : cJ9_append.data.toList.drop 46 = dktJ9_append_2 := dk_seg dksJ9_append_1 22 rfl rfl
theorem dksJ9_append_3 : cJ9_append.data.toList.drop 68 = dktJ9_append_3 := dk_seg dksJ9_append_2 22 rfl rfl
theorem dJ9_append_0 : decode cJ9_append 0 = .ok (.aload_n 0, 1) := dk_42 (dk_at dksJ9_append_0 0 rfl rfl)
theorem dJ9_append_1 : decode cJ9_append 1 = .ok (.aload_n 0, 1) := dk_42 (dk_at dksJ9_append_0 1 rfl rfl)
theorem dJ9_append_2 : decode cJ9_append 2 = .ok (.getfield 79, 3) := dk_180 0 79 (dk_at dksJ9_append_0 2 rfl rfl)
theorem dJ9_append_5 : decode cJ9_append 5 = .ok (.iconst 1, 1) := dk_4 (dk_at dksJ9_append_0 5 rfl rfl)
theorem dJ9_append_6 : decode cJ9_append 6 = .ok (.iadd, 1) := dk_96 (dk_at dksJ9_append_0 6 rfl rfl)
theorem dJ9_append_7 : decode cJ9_append 7 = .ok (.invokevirtual 100, 3) := dk_182 0 100 (dk_at dksJ9_append_0 7 rfl rfl)
theorem dJ9_append_10 : decode cJ9_append 10 = .ok (.aload_n 0, 1) := dk_42 (dk_at dksJ9_append_0 10 rfl rfl)
theorem dJ9_append_11 : decode cJ9_append 11 = .ok (.invokevirtual 83, 3) := dk_182 0 83 (dk_at dksJ9_append_0 11 rfl rfl)
theorem dJ9_append_14 : decode cJ9_append 14 = .ok (.ifCond .eq 31, 3) := dk_153 0 31 (dk_at dksJ9_append_0 14 rfl rfl)
theorem dJ9_append_17 : decode cJ9_append 17 = .ok (.iload_n 1, 1) := dk_27 (dk_at dksJ9_append_0 17 rfl rfl)
theorem dJ9_append_18 : decode cJ9_append 18 = .ok (.invokestatic 191, 3) := dk_184 0 191 (dk_at dksJ9_append_0 18 rfl rfl)
theorem dJ9_append_21 : decode cJ9_append 21 = .ok (.ifCond .eq 24, 3) := dk_153 0 24 (dk_at dksJ9_append_0 21 rfl rfl)
theorem dJ9_append_24 : decode cJ9_append 24 = .ok (.aload_n 0, 1) := dk_42 (dk_at dksJ9_append_1 0 rfl rfl)
theorem dJ9_append_25 : decode cJ9_append 25 = .ok (.getfield 15, 3) := dk_180 0 15 (dk_at dksJ9_append_1 1 rfl rfl)
theorem dJ9_append_28 : decode cJ9_append 28 = .ok (.aload_n 0, 1) := dk_42 (dk_at dksJ9_append_1 4 rfl rfl)
theorem dJ9_append_29 : decode cJ9_append 29 = .ok (.dup, 1) := dk_89 (dk_at dksJ9_append_1 5 rfl rfl)
theorem dJ9_append_30 : decode cJ9_append 30 = .ok (.getfield 79, 3) := dk_180 0 79 (dk_at dksJ9_append_1 6 rfl rfl)
theorem dJ9_append_33 : decode cJ9_append 33 = .ok (.dup_x1, 1) := dk_90 (dk_at dksJ9_append_1 9 rfl rfl)
theorem dJ9_append_34 : decode cJ9_append 34 = .ok (.iconst 1, 1) := dk_4 (dk_at dksJ9_append_1 10 rfl rfl)
theorem dJ9_append_35 : decode cJ9_append 35 = .ok (.iadd, 1) := dk_96 (dk_at dksJ9_append_1 11 rfl rfl)
theorem dJ9_append_36 : decode cJ9_append 36 = .ok (.putfield 79, 3) := dk_181 0 79 (dk_at dksJ9_append_1 12 rfl rfl)
theorem dJ9_append_39 : decode cJ9_append 39 = .ok (.iload_n 1, 1) := dk_27 (dk_at dksJ9_append_1 15 rfl rfl)
theorem dJ9_append_40 : decode cJ9_append 40 = .ok (.i2b, 1) := dk_145 (dk_at dksJ9_append_1 16 rfl rfl)
theorem dJ9_append_41 : decode cJ9_append 41 = .ok (.bastore, 1) := dk_84 (dk_at dksJ9_append_1 17 rfl rfl)
theorem dJ9_append_42 : decode cJ9_append 42 = .ok (.goto 33, 3) := dk_167 0 33 (dk_at dksJ9_append_1 18 rfl rfl)
theorem dJ9_append_45 : decode cJ9_append 45 = .ok (.aload_n 0, 1) := dk_42 (dk_at dksJ9_append_1 21 rfl rfl)
theorem dJ9_append_46 : decode cJ9_append 46 = .ok (.invokevirtual 83, 3) := dk_182 0 83 (dk_at dksJ9_append_2 0 rfl rfl)
theorem dJ9_append_49 : decode cJ9_append 49 = .ok (.ifCond .eq 7, 3) := dk_153 0 7 (dk_at dksJ9_append_2 3 rfl rfl)
theorem dJ9_append_52 : decode cJ9_append 52 = .ok (.aload_n 0, 1) := dk_42 (dk_at dksJ9_append_2 6 rfl rfl)
theorem dJ9_append_53 : decode cJ9_append 53 = .ok (.invokevirtual 195, 3) := dk_182 0 195 (dk_at dksJ9_append_2 7 rfl rfl)
theorem dJ9_append_56 : decode cJ9_append 56 = .ok (.aload_n 0, 1) := dk_42 (dk_at dksJ9_append_2 10 rfl rfl)
theorem dJ9_append_57 : decode cJ9_append 57 = .ok (.getfield 15, 3) := dk_180 0 15 (dk_at dksJ9_append_2 11 rfl rfl)
theorem dJ9_append_60 : decode cJ9_append 60 = .ok (.aload_n 0, 1) := dk_42 (dk_at dksJ9_append_2 14 rfl rfl)
theorem dJ9_append_61 : decode cJ9_append 61 = .ok (.dup, 1) := dk_89 (dk_at dksJ9_append_2 15 rfl rfl)
theorem dJ9_append_62 : decode cJ9_append 62 = .ok (.getfield 79, 3) := dk_180 0 79 (dk_at dksJ9_append_2 16 rfl rfl)
theorem dJ9_append_65 : decode cJ9_append 65 = .ok (.dup_x1, 1) := dk_90 (dk_at dksJ9_append_2 19 rfl rfl)
theorem dJ9_append_66 : decode cJ9_append 66 = .ok (.iconst 1, 1) := dk_4 (dk_at dksJ9_append_2 20 rfl rfl)
theorem dJ9_append_67 : decode cJ9_append 67 = .ok (.iadd, 1) := dk_96 (dk_at dksJ9_append_2 21 rfl rfl)
theorem dJ9_append_68 : decode cJ9_append 68 = .ok (.putfield 79, 3) := dk_181 0 79 (dk_at dksJ9_append_3 0 rfl rfl)
theorem dJ9_append_71 : decode cJ9_append 71 = .ok (.iload_n 1, 1) := dk_27 (dk_at dksJ9_append_3 3 rfl rfl)
theorem dJ9_append_72 : decode cJ9_append 72 = .ok (.invokestatic 197, 3) := dk_184 0 197 (dk_at dksJ9_append_3 4 rfl rfl)
theorem dJ9_append_75 : decode cJ9_append 75 = .ok (.aload_n 0, 1) := dk_42 (dk_at dksJ9_append_3 7 rfl rfl)
theorem dJ9_append_76 : decode cJ9_append 76 = .ok (.areturn, 1) := dk_176 (dk_at dksJ9_append_3 8 rfl rfl)
